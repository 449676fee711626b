/-! CodeRecoveryModel -/
set_option maxRecDepth 100000
def RX3 : String := "CodeRecoveryModel"
def TX3 : u_T := fun k => match k with
  | 0 => ("CodeRecoveryModel", "thrown", "I", false)
  | 1 => ("CodeRecoveryModel", "memory", "[I", true)
  | 2 => ("CodeRecoveryModel", "savedMemory", "[I", true)
  | 3 => ("CodeRecoveryModel", "entries", "[I", true)
  | 4 => ("CodeRecoveryModel", "savedEntries", "[I", true)
  | 5 => ("CodeRecoveryModel", "size", "I", false)
  | 6 => ("CodeRecoveryModel", "entryMany", "I", false)
  | 7 => ("CodeRecoveryModel", "threshold", "I", false)
  | 8 => ("CodeRecoveryModel", "savedSize", "I", false)
  | 9 => ("CodeRecoveryModel", "savedEntryMany", "I", false)
  | 10 => ("CodeRecoveryModel", "savedThreshold", "I", false)
  | 11 => ("CodeRecoveryModel", "hasSaved", "Z", false)
  | 12 => ("CodeRecoveryModel", "text", "[I", true)
  | 13 => ("CodeRecoveryModel", "length", "I", false)
  | 14 => ("CodeRecoveryModel", "faultAt", "I", false)
  | 15 => ("CodeRecoveryModel", "isRecovered", "Z", false)
  | 16 => ("CodeRecoveryModel", "begins", "[I", true)
  | 17 => ("CodeRecoveryModel", "owner", "[I", true)
  | 18 => ("CodeRecoveryModel", "speculates", "[I", true)
  | 19 => ("CodeRecoveryModel", "speculateOwner", "[I", true)
  | 20 => ("CodeRecoveryModel", "isTable", "[Z", true)
  | 21 => ("CodeRecoveryModel", "isBad", "[Z", true)
  | 22 => ("CodeRecoveryModel", "list", "[I", true)
  | 23 => ("CodeRecoveryModel", "listed", "I", false)
  | 24 => ("CodeRecoveryModel", "acceptedMany", "I", false)
  | 25 => ("CodeRecoveryModel", "conflictMany", "I", false)
  | 26 => ("CodeRecoveryModel", "badMany", "I", false)
  | 27 => ("CodeRecoveryModel", "tableMany", "I", false)
  | 28 => ("CodeRecoveryModel", "gapMany", "I", false)
  | 29 => ("CodeRecoveryModel", "speculativeMany", "I", false)
  | 30 => ("CodeRecoveryModel", "conflicts", "[I", true)
  | 31 => ("CodeRecoveryModel", "tableJump", "[I", true)
  | 32 => ("CodeRecoveryModel", "tableBase", "[I", true)
  | 33 => ("CodeRecoveryModel", "tableBound", "[I", true)
  | 34 => ("CodeRecoveryModel", "tableSize", "[I", true)
  | 35 => ("CodeRecoveryModel", "tablePlaces", "[I", true)
  | 36 => ("CodeRecoveryModel", "gapFirst", "[I", true)
  | 37 => ("CodeRecoveryModel", "gapLength", "[I", true)
  | 38 => ("CodeRecoveryModel", "gapScore", "[I", true)
  | 39 => ("CodeRecoveryModel", "isRun", "Z", false)
  | 40 => ("CodeRecoveryModel", "executed", "[I", true)
  | 41 => ("CodeRecoveryModel", "registers", "[I", true)
  | 42 => ("CodeRecoveryModel", "stack", "[I", true)
  | 43 => ("CodeRecoveryModel", "only", "I", false)
  | 44 => ("CodeRecoveryModel", "blockLast", "I", false)
  | 45 => ("CodeRecoveryModel", "isReached", "[Z", true)
  | 46 => ("CodeRecoveryModel", "open", "[I", true)
  | 47 => ("CodeRecoveryModel", "opened", "I", false)
  | 48 => ("CodeRecoveryModel", "stacked", "I", false)
  | _ => ("CodeRecoveryModel", "flag", "Z", false)
def tyX3 : Nat → FieldType := fun k => match k with
  | 0 => .int
  | 1 => .array .int
  | 2 => .array .int
  | 3 => .array .int
  | 4 => .array .int
  | 5 => .int
  | 6 => .int
  | 7 => .int
  | 8 => .int
  | 9 => .int
  | 10 => .int
  | 11 => .boolean
  | 12 => .array .int
  | 13 => .int
  | 14 => .int
  | 15 => .boolean
  | 16 => .array .int
  | 17 => .array .int
  | 18 => .array .int
  | 19 => .array .int
  | 20 => .array .boolean
  | 21 => .array .boolean
  | 22 => .array .int
  | 23 => .int
  | 24 => .int
  | 25 => .int
  | 26 => .int
  | 27 => .int
  | 28 => .int
  | 29 => .int
  | 30 => .array .int
  | 31 => .array .int
  | 32 => .array .int
  | 33 => .array .int
  | 34 => .array .int
  | 35 => .array .int
  | 36 => .array .int
  | 37 => .array .int
  | 38 => .array .int
  | 39 => .boolean
  | 40 => .array .int
  | 41 => .array .int
  | 42 => .array .int
  | 43 => .int
  | 44 => .int
  | 45 => .array .boolean
  | 46 => .array .int
  | 47 => .int
  | 48 => .int
  | _ => .boolean
abbrev wsX30 : List Cond := u_ws RX3 TX3 50
set_option maxRecDepth 100000 in
theorem nmX3 : ∀ a, a < 50 → ∀ b, b < 50 → a ≠ b → (TX3 a).2.1 ≠ (TX3 b).2.1 := by decide +kernel
set_option maxRecDepth 100000 in
theorem tyX3_ok : ∀ k, k < 50 → parseFieldDescriptor (TX3 k).2.2.1 = some (tyX3 k) := by decide +kernel
abbrev cX3_init : ByteArray := prog_12_method_1_code
def yX3_init : MethodName := ⟨RX3, "<init>", "()V"⟩
def dkwX3_init_9 : List UInt8 := [188, 4, 181, 0, 90, 42, 16, 96, 188, 10, 181, 0, 93, 177]
abbrev dktX3_init_9 : List UInt8 := dkwX3_init_9 ++ []
def dkwX3_init_8 : List UInt8 := [188, 10, 181, 0, 81, 42, 7, 188, 10, 181, 0, 84, 42, 16, 8, 188, 10, 181, 0, 87, 42, 16, 96]
abbrev dktX3_init_8 : List UInt8 := dkwX3_init_8 ++ dktX3_init_9
def dkwX3_init_7 : List UInt8 := [188, 10, 181, 0, 72, 42, 16, 96, 188, 10, 181, 0, 75, 42, 16, 96, 188, 10, 181, 0, 78, 42, 16, 96]
abbrev dktX3_init_7 : List UInt8 := dkwX3_init_7 ++ dktX3_init_8
def dkwX3_init_6 : List UInt8 := [181, 0, 63, 42, 16, 48, 188, 10, 181, 0, 66, 42, 17, 3, 0, 188, 10, 181, 0, 69, 42, 16, 96]
abbrev dktX3_init_6 : List UInt8 := dkwX3_init_6 ++ dktX3_init_7
def dkwX3_init_5 : List UInt8 := [181, 0, 54, 42, 16, 48, 188, 10, 181, 0, 57, 42, 16, 48, 188, 10, 181, 0, 60, 42, 16, 48, 188, 10]
abbrev dktX3_init_5 : List UInt8 := dkwX3_init_5 ++ dktX3_init_6
def dkwX3_init_4 : List UInt8 := [17, 1, 0, 188, 4, 181, 0, 48, 42, 17, 4, 0, 188, 10, 181, 0, 51, 42, 16, 96, 188, 10]
abbrev dktX3_init_4 : List UInt8 := dkwX3_init_4 ++ dktX3_init_5
def dkwX3_init_3 : List UInt8 := [188, 10, 181, 0, 38, 42, 16, 96, 188, 10, 181, 0, 41, 42, 16, 96, 188, 4, 181, 0, 44, 42]
abbrev dktX3_init_3 : List UInt8 := dkwX3_init_3 ++ dktX3_init_4
def dkwX3_init_2 : List UInt8 := [2, 181, 0, 29, 42, 16, 96, 188, 10, 181, 0, 32, 42, 16, 96, 188, 10, 181, 0, 35, 42, 16, 96]
abbrev dktX3_init_2 : List UInt8 := dkwX3_init_2 ++ dktX3_init_3
def dkwX3_init_1 : List UInt8 := [181, 0, 16, 42, 7, 188, 10, 181, 0, 19, 42, 7, 181, 0, 22, 42, 16, 60, 188, 10, 181, 0, 26, 42]
abbrev dktX3_init_1 : List UInt8 := dkwX3_init_1 ++ dktX3_init_2
def dkwX3_init_0 : List UInt8 := [42, 183, 0, 1, 42, 16, 96, 188, 10, 181, 0, 9, 42, 16, 96, 188, 10, 181, 0, 13, 42, 7, 188, 10]
abbrev dktX3_init_0 : List UInt8 := dkwX3_init_0 ++ dktX3_init_1
theorem dksX3_init_0 : cX3_init.data.toList.drop 0 = dktX3_init_0 := by decide +kernel
theorem dksX3_init_1 : cX3_init.data.toList.drop 24 = dktX3_init_1 := dk_seg dksX3_init_0 24 rfl rfl
theorem dksX3_init_2 : cX3_init.data.toList.drop 48 = dktX3_init_2 := dk_seg dksX3_init_1 24 rfl rfl
theorem dksX3_init_3 : cX3_init.data.toList.drop 71 = dktX3_init_3 := dk_seg dksX3_init_2 23 rfl rfl
theorem dksX3_init_4 : cX3_init.data.toList.drop 93 = dktX3_init_4 := dk_seg dksX3_init_3 22 rfl rfl
theorem dksX3_init_5 : cX3_init.data.toList.drop 115 = dktX3_init_5 := dk_seg dksX3_init_4 22 rfl rfl
theorem dksX3_init_6 : cX3_init.data.toList.drop 139 = dktX3_init_6 := dk_seg dksX3_init_5 24 rfl rfl
theorem dksX3_init_7 : cX3_init.data.toList.drop 162 = dktX3_init_7 := dk_seg dksX3_init_6 23 rfl rfl
theorem dksX3_init_8 : cX3_init.data.toList.drop 186 = dktX3_init_8 := dk_seg dksX3_init_7 24 rfl rfl
theorem dksX3_init_9 : cX3_init.data.toList.drop 209 = dktX3_init_9 := dk_seg dksX3_init_8 23 rfl rfl
theorem dX3_init_0 : decode cX3_init 0 = .ok (.aload_n 0, 1) := dk_42 (dk_at dksX3_init_0 0 rfl rfl)
theorem dX3_init_1 : decode cX3_init 1 = .ok (.invokespecial 1, 3) := dk_183 0 1 (dk_at dksX3_init_0 1 rfl rfl)
theorem dX3_init_4 : decode cX3_init 4 = .ok (.aload_n 0, 1) := dk_42 (dk_at dksX3_init_0 4 rfl rfl)
theorem dX3_init_5 : decode cX3_init 5 = .ok (.bipush 96, 2) := dk_16 96 (dk_at dksX3_init_0 5 rfl rfl)
theorem dX3_init_7 : decode cX3_init 7 = .ok (.newarray .int, 2) := dk_188_10 (dk_at dksX3_init_0 7 rfl rfl)
theorem dX3_init_9 : decode cX3_init 9 = .ok (.putfield 9, 3) := dk_181 0 9 (dk_at dksX3_init_0 9 rfl rfl)
theorem dX3_init_12 : decode cX3_init 12 = .ok (.aload_n 0, 1) := dk_42 (dk_at dksX3_init_0 12 rfl rfl)
theorem dX3_init_13 : decode cX3_init 13 = .ok (.bipush 96, 2) := dk_16 96 (dk_at dksX3_init_0 13 rfl rfl)
theorem dX3_init_15 : decode cX3_init 15 = .ok (.newarray .int, 2) := dk_188_10 (dk_at dksX3_init_0 15 rfl rfl)
theorem dX3_init_17 : decode cX3_init 17 = .ok (.putfield 13, 3) := dk_181 0 13 (dk_at dksX3_init_0 17 rfl rfl)
theorem dX3_init_20 : decode cX3_init 20 = .ok (.aload_n 0, 1) := dk_42 (dk_at dksX3_init_0 20 rfl rfl)
theorem dX3_init_21 : decode cX3_init 21 = .ok (.iconst 4, 1) := dk_7 (dk_at dksX3_init_0 21 rfl rfl)
theorem dX3_init_22 : decode cX3_init 22 = .ok (.newarray .int, 2) := dk_188_10 (dk_at dksX3_init_0 22 rfl rfl)
theorem dX3_init_24 : decode cX3_init 24 = .ok (.putfield 16, 3) := dk_181 0 16 (dk_at dksX3_init_1 0 rfl rfl)
theorem dX3_init_27 : decode cX3_init 27 = .ok (.aload_n 0, 1) := dk_42 (dk_at dksX3_init_1 3 rfl rfl)
theorem dX3_init_28 : decode cX3_init 28 = .ok (.iconst 4, 1) := dk_7 (dk_at dksX3_init_1 4 rfl rfl)
theorem dX3_init_29 : decode cX3_init 29 = .ok (.newarray .int, 2) := dk_188_10 (dk_at dksX3_init_1 5 rfl rfl)
theorem dX3_init_31 : decode cX3_init 31 = .ok (.putfield 19, 3) := dk_181 0 19 (dk_at dksX3_init_1 7 rfl rfl)
theorem dX3_init_34 : decode cX3_init 34 = .ok (.aload_n 0, 1) := dk_42 (dk_at dksX3_init_1 10 rfl rfl)
theorem dX3_init_35 : decode cX3_init 35 = .ok (.iconst 4, 1) := dk_7 (dk_at dksX3_init_1 11 rfl rfl)
theorem dX3_init_36 : decode cX3_init 36 = .ok (.putfield 22, 3) := dk_181 0 22 (dk_at dksX3_init_1 12 rfl rfl)
theorem dX3_init_39 : decode cX3_init 39 = .ok (.aload_n 0, 1) := dk_42 (dk_at dksX3_init_1 15 rfl rfl)
theorem dX3_init_40 : decode cX3_init 40 = .ok (.bipush 60, 2) := dk_16 60 (dk_at dksX3_init_1 16 rfl rfl)
theorem dX3_init_42 : decode cX3_init 42 = .ok (.newarray .int, 2) := dk_188_10 (dk_at dksX3_init_1 18 rfl rfl)
theorem dX3_init_44 : decode cX3_init 44 = .ok (.putfield 26, 3) := dk_181 0 26 (dk_at dksX3_init_1 20 rfl rfl)
theorem dX3_init_47 : decode cX3_init 47 = .ok (.aload_n 0, 1) := dk_42 (dk_at dksX3_init_1 23 rfl rfl)
theorem dX3_init_48 : decode cX3_init 48 = .ok (.iconst (-1), 1) := dk_2 (dk_at dksX3_init_2 0 rfl rfl)
theorem dX3_init_49 : decode cX3_init 49 = .ok (.putfield 29, 3) := dk_181 0 29 (dk_at dksX3_init_2 1 rfl rfl)
theorem dX3_init_52 : decode cX3_init 52 = .ok (.aload_n 0, 1) := dk_42 (dk_at dksX3_init_2 4 rfl rfl)
theorem dX3_init_53 : decode cX3_init 53 = .ok (.bipush 96, 2) := dk_16 96 (dk_at dksX3_init_2 5 rfl rfl)
theorem dX3_init_55 : decode cX3_init 55 = .ok (.newarray .int, 2) := dk_188_10 (dk_at dksX3_init_2 7 rfl rfl)
theorem dX3_init_57 : decode cX3_init 57 = .ok (.putfield 32, 3) := dk_181 0 32 (dk_at dksX3_init_2 9 rfl rfl)
theorem dX3_init_60 : decode cX3_init 60 = .ok (.aload_n 0, 1) := dk_42 (dk_at dksX3_init_2 12 rfl rfl)
theorem dX3_init_61 : decode cX3_init 61 = .ok (.bipush 96, 2) := dk_16 96 (dk_at dksX3_init_2 13 rfl rfl)
theorem dX3_init_63 : decode cX3_init 63 = .ok (.newarray .int, 2) := dk_188_10 (dk_at dksX3_init_2 15 rfl rfl)
theorem dX3_init_65 : decode cX3_init 65 = .ok (.putfield 35, 3) := dk_181 0 35 (dk_at dksX3_init_2 17 rfl rfl)
theorem dX3_init_68 : decode cX3_init 68 = .ok (.aload_n 0, 1) := dk_42 (dk_at dksX3_init_2 20 rfl rfl)
theorem dX3_init_69 : decode cX3_init 69 = .ok (.bipush 96, 2) := dk_16 96 (dk_at dksX3_init_2 21 rfl rfl)
theorem dX3_init_71 : decode cX3_init 71 = .ok (.newarray .int, 2) := dk_188_10 (dk_at dksX3_init_3 0 rfl rfl)
theorem dX3_init_73 : decode cX3_init 73 = .ok (.putfield 38, 3) := dk_181 0 38 (dk_at dksX3_init_3 2 rfl rfl)
theorem dX3_init_76 : decode cX3_init 76 = .ok (.aload_n 0, 1) := dk_42 (dk_at dksX3_init_3 5 rfl rfl)
theorem dX3_init_77 : decode cX3_init 77 = .ok (.bipush 96, 2) := dk_16 96 (dk_at dksX3_init_3 6 rfl rfl)
theorem dX3_init_79 : decode cX3_init 79 = .ok (.newarray .int, 2) := dk_188_10 (dk_at dksX3_init_3 8 rfl rfl)
theorem dX3_init_81 : decode cX3_init 81 = .ok (.putfield 41, 3) := dk_181 0 41 (dk_at dksX3_init_3 10 rfl rfl)
theorem dX3_init_84 : decode cX3_init 84 = .ok (.aload_n 0, 1) := dk_42 (dk_at dksX3_init_3 13 rfl rfl)
theorem dX3_init_85 : decode cX3_init 85 = .ok (.bipush 96, 2) := dk_16 96 (dk_at dksX3_init_3 14 rfl rfl)
theorem dX3_init_87 : decode cX3_init 87 = .ok (.newarray .boolean, 2) := dk_188_4 (dk_at dksX3_init_3 16 rfl rfl)
theorem dX3_init_89 : decode cX3_init 89 = .ok (.putfield 44, 3) := dk_181 0 44 (dk_at dksX3_init_3 18 rfl rfl)
theorem dX3_init_92 : decode cX3_init 92 = .ok (.aload_n 0, 1) := dk_42 (dk_at dksX3_init_3 21 rfl rfl)
theorem dX3_init_93 : decode cX3_init 93 = .ok (.sipush 256, 3) := dk_17 1 0 (dk_at dksX3_init_4 0 rfl rfl)
theorem dX3_init_96 : decode cX3_init 96 = .ok (.newarray .boolean, 2) := dk_188_4 (dk_at dksX3_init_4 3 rfl rfl)
theorem dX3_init_98 : decode cX3_init 98 = .ok (.putfield 48, 3) := dk_181 0 48 (dk_at dksX3_init_4 5 rfl rfl)
theorem dX3_init_101 : decode cX3_init 101 = .ok (.aload_n 0, 1) := dk_42 (dk_at dksX3_init_4 8 rfl rfl)
theorem dX3_init_102 : decode cX3_init 102 = .ok (.sipush 1024, 3) := dk_17 4 0 (dk_at dksX3_init_4 9 rfl rfl)
theorem dX3_init_105 : decode cX3_init 105 = .ok (.newarray .int, 2) := dk_188_10 (dk_at dksX3_init_4 12 rfl rfl)
theorem dX3_init_107 : decode cX3_init 107 = .ok (.putfield 51, 3) := dk_181 0 51 (dk_at dksX3_init_4 14 rfl rfl)
theorem dX3_init_110 : decode cX3_init 110 = .ok (.aload_n 0, 1) := dk_42 (dk_at dksX3_init_4 17 rfl rfl)
theorem dX3_init_111 : decode cX3_init 111 = .ok (.bipush 96, 2) := dk_16 96 (dk_at dksX3_init_4 18 rfl rfl)
theorem dX3_init_113 : decode cX3_init 113 = .ok (.newarray .int, 2) := dk_188_10 (dk_at dksX3_init_4 20 rfl rfl)
theorem dX3_init_115 : decode cX3_init 115 = .ok (.putfield 54, 3) := dk_181 0 54 (dk_at dksX3_init_5 0 rfl rfl)
theorem dX3_init_118 : decode cX3_init 118 = .ok (.aload_n 0, 1) := dk_42 (dk_at dksX3_init_5 3 rfl rfl)
theorem dX3_init_119 : decode cX3_init 119 = .ok (.bipush 48, 2) := dk_16 48 (dk_at dksX3_init_5 4 rfl rfl)
theorem dX3_init_121 : decode cX3_init 121 = .ok (.newarray .int, 2) := dk_188_10 (dk_at dksX3_init_5 6 rfl rfl)
theorem dX3_init_123 : decode cX3_init 123 = .ok (.putfield 57, 3) := dk_181 0 57 (dk_at dksX3_init_5 8 rfl rfl)
theorem dX3_init_126 : decode cX3_init 126 = .ok (.aload_n 0, 1) := dk_42 (dk_at dksX3_init_5 11 rfl rfl)
theorem dX3_init_127 : decode cX3_init 127 = .ok (.bipush 48, 2) := dk_16 48 (dk_at dksX3_init_5 12 rfl rfl)
theorem dX3_init_129 : decode cX3_init 129 = .ok (.newarray .int, 2) := dk_188_10 (dk_at dksX3_init_5 14 rfl rfl)
theorem dX3_init_131 : decode cX3_init 131 = .ok (.putfield 60, 3) := dk_181 0 60 (dk_at dksX3_init_5 16 rfl rfl)
theorem dX3_init_134 : decode cX3_init 134 = .ok (.aload_n 0, 1) := dk_42 (dk_at dksX3_init_5 19 rfl rfl)
theorem dX3_init_135 : decode cX3_init 135 = .ok (.bipush 48, 2) := dk_16 48 (dk_at dksX3_init_5 20 rfl rfl)
theorem dX3_init_137 : decode cX3_init 137 = .ok (.newarray .int, 2) := dk_188_10 (dk_at dksX3_init_5 22 rfl rfl)
theorem dX3_init_139 : decode cX3_init 139 = .ok (.putfield 63, 3) := dk_181 0 63 (dk_at dksX3_init_6 0 rfl rfl)
theorem dX3_init_142 : decode cX3_init 142 = .ok (.aload_n 0, 1) := dk_42 (dk_at dksX3_init_6 3 rfl rfl)
theorem dX3_init_143 : decode cX3_init 143 = .ok (.bipush 48, 2) := dk_16 48 (dk_at dksX3_init_6 4 rfl rfl)
theorem dX3_init_145 : decode cX3_init 145 = .ok (.newarray .int, 2) := dk_188_10 (dk_at dksX3_init_6 6 rfl rfl)
theorem dX3_init_147 : decode cX3_init 147 = .ok (.putfield 66, 3) := dk_181 0 66 (dk_at dksX3_init_6 8 rfl rfl)
theorem dX3_init_150 : decode cX3_init 150 = .ok (.aload_n 0, 1) := dk_42 (dk_at dksX3_init_6 11 rfl rfl)
theorem dX3_init_151 : decode cX3_init 151 = .ok (.sipush 768, 3) := dk_17 3 0 (dk_at dksX3_init_6 12 rfl rfl)
theorem dX3_init_154 : decode cX3_init 154 = .ok (.newarray .int, 2) := dk_188_10 (dk_at dksX3_init_6 15 rfl rfl)
theorem dX3_init_156 : decode cX3_init 156 = .ok (.putfield 69, 3) := dk_181 0 69 (dk_at dksX3_init_6 17 rfl rfl)
theorem dX3_init_159 : decode cX3_init 159 = .ok (.aload_n 0, 1) := dk_42 (dk_at dksX3_init_6 20 rfl rfl)
theorem dX3_init_160 : decode cX3_init 160 = .ok (.bipush 96, 2) := dk_16 96 (dk_at dksX3_init_6 21 rfl rfl)
theorem dX3_init_162 : decode cX3_init 162 = .ok (.newarray .int, 2) := dk_188_10 (dk_at dksX3_init_7 0 rfl rfl)
theorem dX3_init_164 : decode cX3_init 164 = .ok (.putfield 72, 3) := dk_181 0 72 (dk_at dksX3_init_7 2 rfl rfl)
theorem dX3_init_167 : decode cX3_init 167 = .ok (.aload_n 0, 1) := dk_42 (dk_at dksX3_init_7 5 rfl rfl)
theorem dX3_init_168 : decode cX3_init 168 = .ok (.bipush 96, 2) := dk_16 96 (dk_at dksX3_init_7 6 rfl rfl)
theorem dX3_init_170 : decode cX3_init 170 = .ok (.newarray .int, 2) := dk_188_10 (dk_at dksX3_init_7 8 rfl rfl)
theorem dX3_init_172 : decode cX3_init 172 = .ok (.putfield 75, 3) := dk_181 0 75 (dk_at dksX3_init_7 10 rfl rfl)
theorem dX3_init_175 : decode cX3_init 175 = .ok (.aload_n 0, 1) := dk_42 (dk_at dksX3_init_7 13 rfl rfl)
theorem dX3_init_176 : decode cX3_init 176 = .ok (.bipush 96, 2) := dk_16 96 (dk_at dksX3_init_7 14 rfl rfl)
theorem dX3_init_178 : decode cX3_init 178 = .ok (.newarray .int, 2) := dk_188_10 (dk_at dksX3_init_7 16 rfl rfl)
theorem dX3_init_180 : decode cX3_init 180 = .ok (.putfield 78, 3) := dk_181 0 78 (dk_at dksX3_init_7 18 rfl rfl)
theorem dX3_init_183 : decode cX3_init 183 = .ok (.aload_n 0, 1) := dk_42 (dk_at dksX3_init_7 21 rfl rfl)
theorem dX3_init_184 : decode cX3_init 184 = .ok (.bipush 96, 2) := dk_16 96 (dk_at dksX3_init_7 22 rfl rfl)
theorem dX3_init_186 : decode cX3_init 186 = .ok (.newarray .int, 2) := dk_188_10 (dk_at dksX3_init_8 0 rfl rfl)
theorem dX3_init_188 : decode cX3_init 188 = .ok (.putfield 81, 3) := dk_181 0 81 (dk_at dksX3_init_8 2 rfl rfl)
theorem dX3_init_191 : decode cX3_init 191 = .ok (.aload_n 0, 1) := dk_42 (dk_at dksX3_init_8 5 rfl rfl)
theorem dX3_init_192 : decode cX3_init 192 = .ok (.iconst 4, 1) := dk_7 (dk_at dksX3_init_8 6 rfl rfl)
theorem dX3_init_193 : decode cX3_init 193 = .ok (.newarray .int, 2) := dk_188_10 (dk_at dksX3_init_8 7 rfl rfl)
theorem dX3_init_195 : decode cX3_init 195 = .ok (.putfield 84, 3) := dk_181 0 84 (dk_at dksX3_init_8 9 rfl rfl)
theorem dX3_init_198 : decode cX3_init 198 = .ok (.aload_n 0, 1) := dk_42 (dk_at dksX3_init_8 12 rfl rfl)
theorem dX3_init_199 : decode cX3_init 199 = .ok (.bipush 8, 2) := dk_16 8 (dk_at dksX3_init_8 13 rfl rfl)
theorem dX3_init_201 : decode cX3_init 201 = .ok (.newarray .int, 2) := dk_188_10 (dk_at dksX3_init_8 15 rfl rfl)
theorem dX3_init_203 : decode cX3_init 203 = .ok (.putfield 87, 3) := dk_181 0 87 (dk_at dksX3_init_8 17 rfl rfl)
theorem dX3_init_206 : decode cX3_init 206 = .ok (.aload_n 0, 1) := dk_42 (dk_at dksX3_init_8 20 rfl rfl)
theorem dX3_init_207 : decode cX3_init 207 = .ok (.bipush 96, 2) := dk_16 96 (dk_at dksX3_init_8 21 rfl rfl)
theorem dX3_init_209 : decode cX3_init 209 = .ok (.newarray .boolean, 2) := dk_188_4 (dk_at dksX3_init_9 0 rfl rfl)
theorem dX3_init_211 : decode cX3_init 211 = .ok (.putfield 90, 3) := dk_181 0 90 (dk_at dksX3_init_9 2 rfl rfl)
theorem dX3_init_214 : decode cX3_init 214 = .ok (.aload_n 0, 1) := dk_42 (dk_at dksX3_init_9 5 rfl rfl)
theorem dX3_init_215 : decode cX3_init 215 = .ok (.bipush 96, 2) := dk_16 96 (dk_at dksX3_init_9 6 rfl rfl)
theorem dX3_init_217 : decode cX3_init 217 = .ok (.newarray .int, 2) := dk_188_10 (dk_at dksX3_init_9 8 rfl rfl)
theorem dX3_init_219 : decode cX3_init 219 = .ok (.putfield 93, 3) := dk_181 0 93 (dk_at dksX3_init_9 10 rfl rfl)
theorem dX3_init_222 : decode cX3_init 222 = .ok (.return_, 1) := dk_177 (dk_at dksX3_init_9 13 rfl rfl)
abbrev cX3_thrown : ByteArray := prog_12_method_2_code
def yX3_thrown : MethodName := ⟨RX3, "thrown", "()I"⟩
theorem dX3_thrown_0 : decode cX3_thrown 0 = .ok (.aload_n 0, 1) := by decide +kernel
theorem dX3_thrown_1 : decode cX3_thrown 1 = .ok (.getfield 96, 3) := by decide +kernel
theorem dX3_thrown_4 : decode cX3_thrown 4 = .ok (.ireturn, 1) := by decide +kernel
abbrev cX3_appendCharacter : ByteArray := prog_12_method_7_code
def yX3_appendCharacter : MethodName := ⟨RX3, "appendCharacter", "(I)I"⟩
def dkwX3_appendCharacter_2 : List UInt8 := [42, 89, 180, 0, 117, 4, 96, 181, 0, 117, 42, 180, 0, 117, 172]
abbrev dktX3_appendCharacter_2 : List UInt8 := dkwX3_appendCharacter_2 ++ []
def dkwX3_appendCharacter_1 : List UInt8 := [180, 0, 117, 16, 60, 160, 0, 9, 42, 5, 182, 0, 113, 172, 42, 180, 0, 26, 42, 180, 0, 117, 27, 79]
abbrev dktX3_appendCharacter_1 : List UInt8 := dkwX3_appendCharacter_1 ++ dktX3_appendCharacter_2
def dkwX3_appendCharacter_0 : List UInt8 := [42, 3, 181, 0, 96, 27, 16, 33, 16, 126, 184, 0, 102, 154, 0, 9, 42, 4, 182, 0, 113, 172, 42]
abbrev dktX3_appendCharacter_0 : List UInt8 := dkwX3_appendCharacter_0 ++ dktX3_appendCharacter_1
theorem dksX3_appendCharacter_0 : cX3_appendCharacter.data.toList.drop 0 = dktX3_appendCharacter_0 := by decide +kernel
theorem dksX3_appendCharacter_1 : cX3_appendCharacter.data.toList.drop 23 = dktX3_appendCharacter_1 := dk_seg dksX3_appendCharacter_0 23 rfl rfl
theorem dksX3_appendCharacter_2 : cX3_appendCharacter.data.toList.drop 47 = dktX3_appendCharacter_2 := dk_seg dksX3_appendCharacter_1 24 rfl rfl
theorem dX3_appendCharacter_0 : decode cX3_appendCharacter 0 = .ok (.aload_n 0, 1) := dk_42 (dk_at dksX3_appendCharacter_0 0 rfl rfl)
theorem dX3_appendCharacter_1 : decode cX3_appendCharacter 1 = .ok (.iconst 0, 1) := dk_3 (dk_at dksX3_appendCharacter_0 1 rfl rfl)
theorem dX3_appendCharacter_2 : decode cX3_appendCharacter 2 = .ok (.putfield 96, 3) := dk_181 0 96 (dk_at dksX3_appendCharacter_0 2 rfl rfl)
theorem dX3_appendCharacter_5 : decode cX3_appendCharacter 5 = .ok (.iload_n 1, 1) := dk_27 (dk_at dksX3_appendCharacter_0 5 rfl rfl)
theorem dX3_appendCharacter_6 : decode cX3_appendCharacter 6 = .ok (.bipush 33, 2) := dk_16 33 (dk_at dksX3_appendCharacter_0 6 rfl rfl)
theorem dX3_appendCharacter_8 : decode cX3_appendCharacter 8 = .ok (.bipush 126, 2) := dk_16 126 (dk_at dksX3_appendCharacter_0 8 rfl rfl)
theorem dX3_appendCharacter_10 : decode cX3_appendCharacter 10 = .ok (.invokestatic 102, 3) := dk_184 0 102 (dk_at dksX3_appendCharacter_0 10 rfl rfl)
theorem dX3_appendCharacter_13 : decode cX3_appendCharacter 13 = .ok (.ifCond .ne 9, 3) := dk_154 0 9 (dk_at dksX3_appendCharacter_0 13 rfl rfl)
theorem dX3_appendCharacter_16 : decode cX3_appendCharacter 16 = .ok (.aload_n 0, 1) := dk_42 (dk_at dksX3_appendCharacter_0 16 rfl rfl)
theorem dX3_appendCharacter_17 : decode cX3_appendCharacter 17 = .ok (.iconst 1, 1) := dk_4 (dk_at dksX3_appendCharacter_0 17 rfl rfl)
theorem dX3_appendCharacter_18 : decode cX3_appendCharacter 18 = .ok (.invokevirtual 113, 3) := dk_182 0 113 (dk_at dksX3_appendCharacter_0 18 rfl rfl)
theorem dX3_appendCharacter_21 : decode cX3_appendCharacter 21 = .ok (.ireturn, 1) := dk_172 (dk_at dksX3_appendCharacter_0 21 rfl rfl)
theorem dX3_appendCharacter_22 : decode cX3_appendCharacter 22 = .ok (.aload_n 0, 1) := dk_42 (dk_at dksX3_appendCharacter_0 22 rfl rfl)
theorem dX3_appendCharacter_23 : decode cX3_appendCharacter 23 = .ok (.getfield 117, 3) := dk_180 0 117 (dk_at dksX3_appendCharacter_1 0 rfl rfl)
theorem dX3_appendCharacter_26 : decode cX3_appendCharacter 26 = .ok (.bipush 60, 2) := dk_16 60 (dk_at dksX3_appendCharacter_1 3 rfl rfl)
theorem dX3_appendCharacter_28 : decode cX3_appendCharacter 28 = .ok (.if_icmp .ne 9, 3) := dk_160 0 9 (dk_at dksX3_appendCharacter_1 5 rfl rfl)
theorem dX3_appendCharacter_31 : decode cX3_appendCharacter 31 = .ok (.aload_n 0, 1) := dk_42 (dk_at dksX3_appendCharacter_1 8 rfl rfl)
theorem dX3_appendCharacter_32 : decode cX3_appendCharacter 32 = .ok (.iconst 2, 1) := dk_5 (dk_at dksX3_appendCharacter_1 9 rfl rfl)
theorem dX3_appendCharacter_33 : decode cX3_appendCharacter 33 = .ok (.invokevirtual 113, 3) := dk_182 0 113 (dk_at dksX3_appendCharacter_1 10 rfl rfl)
theorem dX3_appendCharacter_36 : decode cX3_appendCharacter 36 = .ok (.ireturn, 1) := dk_172 (dk_at dksX3_appendCharacter_1 13 rfl rfl)
theorem dX3_appendCharacter_37 : decode cX3_appendCharacter 37 = .ok (.aload_n 0, 1) := dk_42 (dk_at dksX3_appendCharacter_1 14 rfl rfl)
theorem dX3_appendCharacter_38 : decode cX3_appendCharacter 38 = .ok (.getfield 26, 3) := dk_180 0 26 (dk_at dksX3_appendCharacter_1 15 rfl rfl)
theorem dX3_appendCharacter_41 : decode cX3_appendCharacter 41 = .ok (.aload_n 0, 1) := dk_42 (dk_at dksX3_appendCharacter_1 18 rfl rfl)
theorem dX3_appendCharacter_42 : decode cX3_appendCharacter 42 = .ok (.getfield 117, 3) := dk_180 0 117 (dk_at dksX3_appendCharacter_1 19 rfl rfl)
theorem dX3_appendCharacter_45 : decode cX3_appendCharacter 45 = .ok (.iload_n 1, 1) := dk_27 (dk_at dksX3_appendCharacter_1 22 rfl rfl)
theorem dX3_appendCharacter_46 : decode cX3_appendCharacter 46 = .ok (.iastore, 1) := dk_79 (dk_at dksX3_appendCharacter_1 23 rfl rfl)
theorem dX3_appendCharacter_47 : decode cX3_appendCharacter 47 = .ok (.aload_n 0, 1) := dk_42 (dk_at dksX3_appendCharacter_2 0 rfl rfl)
theorem dX3_appendCharacter_48 : decode cX3_appendCharacter 48 = .ok (.dup, 1) := dk_89 (dk_at dksX3_appendCharacter_2 1 rfl rfl)
theorem dX3_appendCharacter_49 : decode cX3_appendCharacter 49 = .ok (.getfield 117, 3) := dk_180 0 117 (dk_at dksX3_appendCharacter_2 2 rfl rfl)
theorem dX3_appendCharacter_52 : decode cX3_appendCharacter 52 = .ok (.iconst 1, 1) := dk_4 (dk_at dksX3_appendCharacter_2 5 rfl rfl)
theorem dX3_appendCharacter_53 : decode cX3_appendCharacter 53 = .ok (.iadd, 1) := dk_96 (dk_at dksX3_appendCharacter_2 6 rfl rfl)
theorem dX3_appendCharacter_54 : decode cX3_appendCharacter 54 = .ok (.putfield 117, 3) := dk_181 0 117 (dk_at dksX3_appendCharacter_2 7 rfl rfl)
theorem dX3_appendCharacter_57 : decode cX3_appendCharacter 57 = .ok (.aload_n 0, 1) := dk_42 (dk_at dksX3_appendCharacter_2 10 rfl rfl)
theorem dX3_appendCharacter_58 : decode cX3_appendCharacter 58 = .ok (.getfield 117, 3) := dk_180 0 117 (dk_at dksX3_appendCharacter_2 11 rfl rfl)
theorem dX3_appendCharacter_61 : decode cX3_appendCharacter 61 = .ok (.ireturn, 1) := dk_172 (dk_at dksX3_appendCharacter_2 14 rfl rfl)
abbrev cX3_in : ByteArray := prog_12_method_4_code
def yX3_in : MethodName := ⟨RX3, "in", "(III)Z"⟩
def dkwX3_in_0 : List UInt8 := [26, 27, 161, 0, 12, 26, 28, 163, 0, 7, 4, 167, 0, 4, 3, 172]
abbrev dktX3_in_0 : List UInt8 := dkwX3_in_0 ++ []
theorem dksX3_in_0 : cX3_in.data.toList.drop 0 = dktX3_in_0 := by decide +kernel
theorem dX3_in_0 : decode cX3_in 0 = .ok (.iload_n 0, 1) := dk_26 (dk_at dksX3_in_0 0 rfl rfl)
theorem dX3_in_1 : decode cX3_in 1 = .ok (.iload_n 1, 1) := dk_27 (dk_at dksX3_in_0 1 rfl rfl)
theorem dX3_in_2 : decode cX3_in 2 = .ok (.if_icmp .lt 12, 3) := dk_161 0 12 (dk_at dksX3_in_0 2 rfl rfl)
theorem dX3_in_5 : decode cX3_in 5 = .ok (.iload_n 0, 1) := dk_26 (dk_at dksX3_in_0 5 rfl rfl)
theorem dX3_in_6 : decode cX3_in 6 = .ok (.iload_n 2, 1) := dk_28 (dk_at dksX3_in_0 6 rfl rfl)
theorem dX3_in_7 : decode cX3_in 7 = .ok (.if_icmp .gt 7, 3) := dk_163 0 7 (dk_at dksX3_in_0 7 rfl rfl)
theorem dX3_in_10 : decode cX3_in 10 = .ok (.iconst 1, 1) := dk_4 (dk_at dksX3_in_0 10 rfl rfl)
theorem dX3_in_11 : decode cX3_in 11 = .ok (.goto 4, 3) := dk_167 0 4 (dk_at dksX3_in_0 11 rfl rfl)
theorem dX3_in_14 : decode cX3_in 14 = .ok (.iconst 0, 1) := dk_3 (dk_at dksX3_in_0 14 rfl rfl)
theorem dX3_in_15 : decode cX3_in 15 = .ok (.ireturn, 1) := dk_172 (dk_at dksX3_in_0 15 rfl rfl)
abbrev cX3_fails : ByteArray := prog_12_method_3_code
def yX3_fails : MethodName := ⟨RX3, "fails", "(I)I"⟩
def dkwX3_fails_0 : List UInt8 := [42, 27, 181, 0, 96, 3, 172]
abbrev dktX3_fails_0 : List UInt8 := dkwX3_fails_0 ++ []
theorem dksX3_fails_0 : cX3_fails.data.toList.drop 0 = dktX3_fails_0 := by decide +kernel
theorem dX3_fails_0 : decode cX3_fails 0 = .ok (.aload_n 0, 1) := dk_42 (dk_at dksX3_fails_0 0 rfl rfl)
theorem dX3_fails_1 : decode cX3_fails 1 = .ok (.iload_n 1, 1) := dk_27 (dk_at dksX3_fails_0 1 rfl rfl)
theorem dX3_fails_2 : decode cX3_fails 2 = .ok (.putfield 96, 3) := dk_181 0 96 (dk_at dksX3_fails_0 2 rfl rfl)
theorem dX3_fails_5 : decode cX3_fails 5 = .ok (.iconst 0, 1) := dk_3 (dk_at dksX3_fails_0 5 rfl rfl)
theorem dX3_fails_6 : decode cX3_fails 6 = .ok (.ireturn, 1) := dk_172 (dk_at dksX3_fails_0 6 rfl rfl)
abbrev cX3_addBytes : ByteArray := prog_12_method_9_code
def yX3_addBytes : MethodName := ⟨RX3, "addBytes", "()I"⟩
def dkwX3_addBytes_7 : List UInt8 := [181, 0, 99, 42, 4, 182, 0, 123, 42, 180, 0, 99, 172]
abbrev dktX3_addBytes_7 : List UInt8 := dkwX3_addBytes_7 ++ []
def dkwX3_addBytes_6 : List UInt8 := [5, 29, 104, 4, 96, 46, 184, 0, 120, 96, 79, 132, 3, 1, 167, 255, 209, 42, 89, 180, 0, 99, 28, 96]
abbrev dktX3_addBytes_6 : List UInt8 := dkwX3_addBytes_6 ++ dktX3_addBytes_7
def dkwX3_addBytes_5 : List UInt8 := [42, 180, 0, 99, 29, 96, 16, 16, 42, 180, 0, 26, 5, 29, 104, 46, 184, 0, 120, 104, 42, 180, 0, 26]
abbrev dktX3_addBytes_5 : List UInt8 := dkwX3_addBytes_5 ++ dktX3_addBytes_6
def dkwX3_addBytes_4 : List UInt8 := [28, 96, 16, 96, 164, 0, 9, 42, 5, 182, 0, 113, 172, 3, 62, 29, 28, 162, 0, 48, 42, 180, 0, 9]
abbrev dktX3_addBytes_4 : List UInt8 := dkwX3_addBytes_4 ++ dktX3_addBytes_5
def dkwX3_addBytes_3 : List UInt8 := [108, 61, 42, 3, 181, 0, 117, 42, 180, 0, 29, 155, 0, 9, 42, 4, 182, 0, 113, 172, 42, 180, 0, 99]
abbrev dktX3_addBytes_3 : List UInt8 := dkwX3_addBytes_3 ++ dktX3_addBytes_4
def dkwX3_addBytes_2 : List UInt8 := [4, 159, 0, 10, 42, 180, 0, 117, 154, 0, 7, 27, 167, 0, 4, 2, 181, 0, 29, 42, 180, 0, 117, 5]
abbrev dktX3_addBytes_2 : List UInt8 := dkwX3_addBytes_2 ++ dktX3_addBytes_3
def dkwX3_addBytes_1 : List UInt8 := [155, 0, 9, 132, 1, 1, 167, 255, 233, 42, 27, 42, 180, 0, 117, 161, 0, 20, 42, 180, 0, 117, 5, 112]
abbrev dktX3_addBytes_1 : List UInt8 := dkwX3_addBytes_1 ++ dktX3_addBytes_2
def dkwX3_addBytes_0 : List UInt8 := [42, 3, 181, 0, 96, 3, 60, 27, 42, 180, 0, 117, 162, 0, 21, 42, 180, 0, 26, 27, 46, 184, 0, 120]
abbrev dktX3_addBytes_0 : List UInt8 := dkwX3_addBytes_0 ++ dktX3_addBytes_1
theorem dksX3_addBytes_0 : cX3_addBytes.data.toList.drop 0 = dktX3_addBytes_0 := by decide +kernel
theorem dksX3_addBytes_1 : cX3_addBytes.data.toList.drop 24 = dktX3_addBytes_1 := dk_seg dksX3_addBytes_0 24 rfl rfl
theorem dksX3_addBytes_2 : cX3_addBytes.data.toList.drop 48 = dktX3_addBytes_2 := dk_seg dksX3_addBytes_1 24 rfl rfl
theorem dksX3_addBytes_3 : cX3_addBytes.data.toList.drop 72 = dktX3_addBytes_3 := dk_seg dksX3_addBytes_2 24 rfl rfl
theorem dksX3_addBytes_4 : cX3_addBytes.data.toList.drop 96 = dktX3_addBytes_4 := dk_seg dksX3_addBytes_3 24 rfl rfl
theorem dksX3_addBytes_5 : cX3_addBytes.data.toList.drop 120 = dktX3_addBytes_5 := dk_seg dksX3_addBytes_4 24 rfl rfl
theorem dksX3_addBytes_6 : cX3_addBytes.data.toList.drop 144 = dktX3_addBytes_6 := dk_seg dksX3_addBytes_5 24 rfl rfl
theorem dksX3_addBytes_7 : cX3_addBytes.data.toList.drop 168 = dktX3_addBytes_7 := dk_seg dksX3_addBytes_6 24 rfl rfl
theorem dX3_addBytes_0 : decode cX3_addBytes 0 = .ok (.aload_n 0, 1) := dk_42 (dk_at dksX3_addBytes_0 0 rfl rfl)
theorem dX3_addBytes_1 : decode cX3_addBytes 1 = .ok (.iconst 0, 1) := dk_3 (dk_at dksX3_addBytes_0 1 rfl rfl)
theorem dX3_addBytes_2 : decode cX3_addBytes 2 = .ok (.putfield 96, 3) := dk_181 0 96 (dk_at dksX3_addBytes_0 2 rfl rfl)
theorem dX3_addBytes_5 : decode cX3_addBytes 5 = .ok (.iconst 0, 1) := dk_3 (dk_at dksX3_addBytes_0 5 rfl rfl)
theorem dX3_addBytes_6 : decode cX3_addBytes 6 = .ok (.istore_n 1, 1) := dk_60 (dk_at dksX3_addBytes_0 6 rfl rfl)
theorem dX3_addBytes_7 : decode cX3_addBytes 7 = .ok (.iload_n 1, 1) := dk_27 (dk_at dksX3_addBytes_0 7 rfl rfl)
theorem dX3_addBytes_8 : decode cX3_addBytes 8 = .ok (.aload_n 0, 1) := dk_42 (dk_at dksX3_addBytes_0 8 rfl rfl)
theorem dX3_addBytes_9 : decode cX3_addBytes 9 = .ok (.getfield 117, 3) := dk_180 0 117 (dk_at dksX3_addBytes_0 9 rfl rfl)
theorem dX3_addBytes_12 : decode cX3_addBytes 12 = .ok (.if_icmp .ge 21, 3) := dk_162 0 21 (dk_at dksX3_addBytes_0 12 rfl rfl)
theorem dX3_addBytes_15 : decode cX3_addBytes 15 = .ok (.aload_n 0, 1) := dk_42 (dk_at dksX3_addBytes_0 15 rfl rfl)
theorem dX3_addBytes_16 : decode cX3_addBytes 16 = .ok (.getfield 26, 3) := dk_180 0 26 (dk_at dksX3_addBytes_0 16 rfl rfl)
theorem dX3_addBytes_19 : decode cX3_addBytes 19 = .ok (.iload_n 1, 1) := dk_27 (dk_at dksX3_addBytes_0 19 rfl rfl)
theorem dX3_addBytes_20 : decode cX3_addBytes 20 = .ok (.iaload, 1) := dk_46 (dk_at dksX3_addBytes_0 20 rfl rfl)
theorem dX3_addBytes_21 : decode cX3_addBytes 21 = .ok (.invokestatic 120, 3) := dk_184 0 120 (dk_at dksX3_addBytes_0 21 rfl rfl)
theorem dX3_addBytes_24 : decode cX3_addBytes 24 = .ok (.ifCond .lt 9, 3) := dk_155 0 9 (dk_at dksX3_addBytes_1 0 rfl rfl)
theorem dX3_addBytes_27 : decode cX3_addBytes 27 = .ok (.iinc 1 1, 3) := dk_132 1 1 (dk_at dksX3_addBytes_1 3 rfl rfl)
theorem dX3_addBytes_30 : decode cX3_addBytes 30 = .ok (.goto (-23), 3) := dk_167 255 233 (dk_at dksX3_addBytes_1 6 rfl rfl)
theorem dX3_addBytes_33 : decode cX3_addBytes 33 = .ok (.aload_n 0, 1) := dk_42 (dk_at dksX3_addBytes_1 9 rfl rfl)
theorem dX3_addBytes_34 : decode cX3_addBytes 34 = .ok (.iload_n 1, 1) := dk_27 (dk_at dksX3_addBytes_1 10 rfl rfl)
theorem dX3_addBytes_35 : decode cX3_addBytes 35 = .ok (.aload_n 0, 1) := dk_42 (dk_at dksX3_addBytes_1 11 rfl rfl)
theorem dX3_addBytes_36 : decode cX3_addBytes 36 = .ok (.getfield 117, 3) := dk_180 0 117 (dk_at dksX3_addBytes_1 12 rfl rfl)
theorem dX3_addBytes_39 : decode cX3_addBytes 39 = .ok (.if_icmp .lt 20, 3) := dk_161 0 20 (dk_at dksX3_addBytes_1 15 rfl rfl)
theorem dX3_addBytes_42 : decode cX3_addBytes 42 = .ok (.aload_n 0, 1) := dk_42 (dk_at dksX3_addBytes_1 18 rfl rfl)
theorem dX3_addBytes_43 : decode cX3_addBytes 43 = .ok (.getfield 117, 3) := dk_180 0 117 (dk_at dksX3_addBytes_1 19 rfl rfl)
theorem dX3_addBytes_46 : decode cX3_addBytes 46 = .ok (.iconst 2, 1) := dk_5 (dk_at dksX3_addBytes_1 22 rfl rfl)
theorem dX3_addBytes_47 : decode cX3_addBytes 47 = .ok (.irem, 1) := dk_112 (dk_at dksX3_addBytes_1 23 rfl rfl)
theorem dX3_addBytes_48 : decode cX3_addBytes 48 = .ok (.iconst 1, 1) := dk_4 (dk_at dksX3_addBytes_2 0 rfl rfl)
theorem dX3_addBytes_49 : decode cX3_addBytes 49 = .ok (.if_icmp .eq 10, 3) := dk_159 0 10 (dk_at dksX3_addBytes_2 1 rfl rfl)
theorem dX3_addBytes_52 : decode cX3_addBytes 52 = .ok (.aload_n 0, 1) := dk_42 (dk_at dksX3_addBytes_2 4 rfl rfl)
theorem dX3_addBytes_53 : decode cX3_addBytes 53 = .ok (.getfield 117, 3) := dk_180 0 117 (dk_at dksX3_addBytes_2 5 rfl rfl)
theorem dX3_addBytes_56 : decode cX3_addBytes 56 = .ok (.ifCond .ne 7, 3) := dk_154 0 7 (dk_at dksX3_addBytes_2 8 rfl rfl)
theorem dX3_addBytes_59 : decode cX3_addBytes 59 = .ok (.iload_n 1, 1) := dk_27 (dk_at dksX3_addBytes_2 11 rfl rfl)
theorem dX3_addBytes_60 : decode cX3_addBytes 60 = .ok (.goto 4, 3) := dk_167 0 4 (dk_at dksX3_addBytes_2 12 rfl rfl)
theorem dX3_addBytes_63 : decode cX3_addBytes 63 = .ok (.iconst (-1), 1) := dk_2 (dk_at dksX3_addBytes_2 15 rfl rfl)
theorem dX3_addBytes_64 : decode cX3_addBytes 64 = .ok (.putfield 29, 3) := dk_181 0 29 (dk_at dksX3_addBytes_2 16 rfl rfl)
theorem dX3_addBytes_67 : decode cX3_addBytes 67 = .ok (.aload_n 0, 1) := dk_42 (dk_at dksX3_addBytes_2 19 rfl rfl)
theorem dX3_addBytes_68 : decode cX3_addBytes 68 = .ok (.getfield 117, 3) := dk_180 0 117 (dk_at dksX3_addBytes_2 20 rfl rfl)
theorem dX3_addBytes_71 : decode cX3_addBytes 71 = .ok (.iconst 2, 1) := dk_5 (dk_at dksX3_addBytes_2 23 rfl rfl)
theorem dX3_addBytes_72 : decode cX3_addBytes 72 = .ok (.idiv, 1) := dk_108 (dk_at dksX3_addBytes_3 0 rfl rfl)
theorem dX3_addBytes_73 : decode cX3_addBytes 73 = .ok (.istore_n 2, 1) := dk_61 (dk_at dksX3_addBytes_3 1 rfl rfl)
theorem dX3_addBytes_74 : decode cX3_addBytes 74 = .ok (.aload_n 0, 1) := dk_42 (dk_at dksX3_addBytes_3 2 rfl rfl)
theorem dX3_addBytes_75 : decode cX3_addBytes 75 = .ok (.iconst 0, 1) := dk_3 (dk_at dksX3_addBytes_3 3 rfl rfl)
theorem dX3_addBytes_76 : decode cX3_addBytes 76 = .ok (.putfield 117, 3) := dk_181 0 117 (dk_at dksX3_addBytes_3 4 rfl rfl)
theorem dX3_addBytes_79 : decode cX3_addBytes 79 = .ok (.aload_n 0, 1) := dk_42 (dk_at dksX3_addBytes_3 7 rfl rfl)
theorem dX3_addBytes_80 : decode cX3_addBytes 80 = .ok (.getfield 29, 3) := dk_180 0 29 (dk_at dksX3_addBytes_3 8 rfl rfl)
theorem dX3_addBytes_83 : decode cX3_addBytes 83 = .ok (.ifCond .lt 9, 3) := dk_155 0 9 (dk_at dksX3_addBytes_3 11 rfl rfl)
theorem dX3_addBytes_86 : decode cX3_addBytes 86 = .ok (.aload_n 0, 1) := dk_42 (dk_at dksX3_addBytes_3 14 rfl rfl)
theorem dX3_addBytes_87 : decode cX3_addBytes 87 = .ok (.iconst 1, 1) := dk_4 (dk_at dksX3_addBytes_3 15 rfl rfl)
theorem dX3_addBytes_88 : decode cX3_addBytes 88 = .ok (.invokevirtual 113, 3) := dk_182 0 113 (dk_at dksX3_addBytes_3 16 rfl rfl)
theorem dX3_addBytes_91 : decode cX3_addBytes 91 = .ok (.ireturn, 1) := dk_172 (dk_at dksX3_addBytes_3 19 rfl rfl)
theorem dX3_addBytes_92 : decode cX3_addBytes 92 = .ok (.aload_n 0, 1) := dk_42 (dk_at dksX3_addBytes_3 20 rfl rfl)
theorem dX3_addBytes_93 : decode cX3_addBytes 93 = .ok (.getfield 99, 3) := dk_180 0 99 (dk_at dksX3_addBytes_3 21 rfl rfl)
theorem dX3_addBytes_96 : decode cX3_addBytes 96 = .ok (.iload_n 2, 1) := dk_28 (dk_at dksX3_addBytes_4 0 rfl rfl)
theorem dX3_addBytes_97 : decode cX3_addBytes 97 = .ok (.iadd, 1) := dk_96 (dk_at dksX3_addBytes_4 1 rfl rfl)
theorem dX3_addBytes_98 : decode cX3_addBytes 98 = .ok (.bipush 96, 2) := dk_16 96 (dk_at dksX3_addBytes_4 2 rfl rfl)
theorem dX3_addBytes_100 : decode cX3_addBytes 100 = .ok (.if_icmp .le 9, 3) := dk_164 0 9 (dk_at dksX3_addBytes_4 4 rfl rfl)
theorem dX3_addBytes_103 : decode cX3_addBytes 103 = .ok (.aload_n 0, 1) := dk_42 (dk_at dksX3_addBytes_4 7 rfl rfl)
theorem dX3_addBytes_104 : decode cX3_addBytes 104 = .ok (.iconst 2, 1) := dk_5 (dk_at dksX3_addBytes_4 8 rfl rfl)
theorem dX3_addBytes_105 : decode cX3_addBytes 105 = .ok (.invokevirtual 113, 3) := dk_182 0 113 (dk_at dksX3_addBytes_4 9 rfl rfl)
theorem dX3_addBytes_108 : decode cX3_addBytes 108 = .ok (.ireturn, 1) := dk_172 (dk_at dksX3_addBytes_4 12 rfl rfl)
theorem dX3_addBytes_109 : decode cX3_addBytes 109 = .ok (.iconst 0, 1) := dk_3 (dk_at dksX3_addBytes_4 13 rfl rfl)
theorem dX3_addBytes_110 : decode cX3_addBytes 110 = .ok (.istore_n 3, 1) := dk_62 (dk_at dksX3_addBytes_4 14 rfl rfl)
theorem dX3_addBytes_111 : decode cX3_addBytes 111 = .ok (.iload_n 3, 1) := dk_29 (dk_at dksX3_addBytes_4 15 rfl rfl)
theorem dX3_addBytes_112 : decode cX3_addBytes 112 = .ok (.iload_n 2, 1) := dk_28 (dk_at dksX3_addBytes_4 16 rfl rfl)
theorem dX3_addBytes_113 : decode cX3_addBytes 113 = .ok (.if_icmp .ge 48, 3) := dk_162 0 48 (dk_at dksX3_addBytes_4 17 rfl rfl)
theorem dX3_addBytes_116 : decode cX3_addBytes 116 = .ok (.aload_n 0, 1) := dk_42 (dk_at dksX3_addBytes_4 20 rfl rfl)
theorem dX3_addBytes_117 : decode cX3_addBytes 117 = .ok (.getfield 9, 3) := dk_180 0 9 (dk_at dksX3_addBytes_4 21 rfl rfl)
theorem dX3_addBytes_120 : decode cX3_addBytes 120 = .ok (.aload_n 0, 1) := dk_42 (dk_at dksX3_addBytes_5 0 rfl rfl)
theorem dX3_addBytes_121 : decode cX3_addBytes 121 = .ok (.getfield 99, 3) := dk_180 0 99 (dk_at dksX3_addBytes_5 1 rfl rfl)
theorem dX3_addBytes_124 : decode cX3_addBytes 124 = .ok (.iload_n 3, 1) := dk_29 (dk_at dksX3_addBytes_5 4 rfl rfl)
theorem dX3_addBytes_125 : decode cX3_addBytes 125 = .ok (.iadd, 1) := dk_96 (dk_at dksX3_addBytes_5 5 rfl rfl)
theorem dX3_addBytes_126 : decode cX3_addBytes 126 = .ok (.bipush 16, 2) := dk_16 16 (dk_at dksX3_addBytes_5 6 rfl rfl)
theorem dX3_addBytes_128 : decode cX3_addBytes 128 = .ok (.aload_n 0, 1) := dk_42 (dk_at dksX3_addBytes_5 8 rfl rfl)
theorem dX3_addBytes_129 : decode cX3_addBytes 129 = .ok (.getfield 26, 3) := dk_180 0 26 (dk_at dksX3_addBytes_5 9 rfl rfl)
theorem dX3_addBytes_132 : decode cX3_addBytes 132 = .ok (.iconst 2, 1) := dk_5 (dk_at dksX3_addBytes_5 12 rfl rfl)
theorem dX3_addBytes_133 : decode cX3_addBytes 133 = .ok (.iload_n 3, 1) := dk_29 (dk_at dksX3_addBytes_5 13 rfl rfl)
theorem dX3_addBytes_134 : decode cX3_addBytes 134 = .ok (.imul, 1) := dk_104 (dk_at dksX3_addBytes_5 14 rfl rfl)
theorem dX3_addBytes_135 : decode cX3_addBytes 135 = .ok (.iaload, 1) := dk_46 (dk_at dksX3_addBytes_5 15 rfl rfl)
theorem dX3_addBytes_136 : decode cX3_addBytes 136 = .ok (.invokestatic 120, 3) := dk_184 0 120 (dk_at dksX3_addBytes_5 16 rfl rfl)
theorem dX3_addBytes_139 : decode cX3_addBytes 139 = .ok (.imul, 1) := dk_104 (dk_at dksX3_addBytes_5 19 rfl rfl)
theorem dX3_addBytes_140 : decode cX3_addBytes 140 = .ok (.aload_n 0, 1) := dk_42 (dk_at dksX3_addBytes_5 20 rfl rfl)
theorem dX3_addBytes_141 : decode cX3_addBytes 141 = .ok (.getfield 26, 3) := dk_180 0 26 (dk_at dksX3_addBytes_5 21 rfl rfl)
theorem dX3_addBytes_144 : decode cX3_addBytes 144 = .ok (.iconst 2, 1) := dk_5 (dk_at dksX3_addBytes_6 0 rfl rfl)
theorem dX3_addBytes_145 : decode cX3_addBytes 145 = .ok (.iload_n 3, 1) := dk_29 (dk_at dksX3_addBytes_6 1 rfl rfl)
theorem dX3_addBytes_146 : decode cX3_addBytes 146 = .ok (.imul, 1) := dk_104 (dk_at dksX3_addBytes_6 2 rfl rfl)
theorem dX3_addBytes_147 : decode cX3_addBytes 147 = .ok (.iconst 1, 1) := dk_4 (dk_at dksX3_addBytes_6 3 rfl rfl)
theorem dX3_addBytes_148 : decode cX3_addBytes 148 = .ok (.iadd, 1) := dk_96 (dk_at dksX3_addBytes_6 4 rfl rfl)
theorem dX3_addBytes_149 : decode cX3_addBytes 149 = .ok (.iaload, 1) := dk_46 (dk_at dksX3_addBytes_6 5 rfl rfl)
theorem dX3_addBytes_150 : decode cX3_addBytes 150 = .ok (.invokestatic 120, 3) := dk_184 0 120 (dk_at dksX3_addBytes_6 6 rfl rfl)
theorem dX3_addBytes_153 : decode cX3_addBytes 153 = .ok (.iadd, 1) := dk_96 (dk_at dksX3_addBytes_6 9 rfl rfl)
theorem dX3_addBytes_154 : decode cX3_addBytes 154 = .ok (.iastore, 1) := dk_79 (dk_at dksX3_addBytes_6 10 rfl rfl)
theorem dX3_addBytes_155 : decode cX3_addBytes 155 = .ok (.iinc 3 1, 3) := dk_132 3 1 (dk_at dksX3_addBytes_6 11 rfl rfl)
theorem dX3_addBytes_158 : decode cX3_addBytes 158 = .ok (.goto (-47), 3) := dk_167 255 209 (dk_at dksX3_addBytes_6 14 rfl rfl)
theorem dX3_addBytes_161 : decode cX3_addBytes 161 = .ok (.aload_n 0, 1) := dk_42 (dk_at dksX3_addBytes_6 17 rfl rfl)
theorem dX3_addBytes_162 : decode cX3_addBytes 162 = .ok (.dup, 1) := dk_89 (dk_at dksX3_addBytes_6 18 rfl rfl)
theorem dX3_addBytes_163 : decode cX3_addBytes 163 = .ok (.getfield 99, 3) := dk_180 0 99 (dk_at dksX3_addBytes_6 19 rfl rfl)
theorem dX3_addBytes_166 : decode cX3_addBytes 166 = .ok (.iload_n 2, 1) := dk_28 (dk_at dksX3_addBytes_6 22 rfl rfl)
theorem dX3_addBytes_167 : decode cX3_addBytes 167 = .ok (.iadd, 1) := dk_96 (dk_at dksX3_addBytes_6 23 rfl rfl)
theorem dX3_addBytes_168 : decode cX3_addBytes 168 = .ok (.putfield 99, 3) := dk_181 0 99 (dk_at dksX3_addBytes_7 0 rfl rfl)
theorem dX3_addBytes_171 : decode cX3_addBytes 171 = .ok (.aload_n 0, 1) := dk_42 (dk_at dksX3_addBytes_7 3 rfl rfl)
theorem dX3_addBytes_172 : decode cX3_addBytes 172 = .ok (.iconst 1, 1) := dk_4 (dk_at dksX3_addBytes_7 4 rfl rfl)
theorem dX3_addBytes_173 : decode cX3_addBytes 173 = .ok (.invokevirtual 123, 3) := dk_182 0 123 (dk_at dksX3_addBytes_7 5 rfl rfl)
theorem dX3_addBytes_176 : decode cX3_addBytes 176 = .ok (.aload_n 0, 1) := dk_42 (dk_at dksX3_addBytes_7 8 rfl rfl)
theorem dX3_addBytes_177 : decode cX3_addBytes 177 = .ok (.getfield 99, 3) := dk_180 0 99 (dk_at dksX3_addBytes_7 9 rfl rfl)
theorem dX3_addBytes_180 : decode cX3_addBytes 180 = .ok (.ireturn, 1) := dk_172 (dk_at dksX3_addBytes_7 12 rfl rfl)
abbrev cX3_digitOf : ByteArray := prog_12_method_8_code
def yX3_digitOf : MethodName := ⟨RX3, "digitOf", "(I)I"⟩
def dkwX3_digitOf_1 : List UInt8 := [184, 0, 102, 153, 0, 13, 26, 16, 97, 100, 16, 10, 96, 167, 0, 4, 2, 172]
abbrev dktX3_digitOf_1 : List UInt8 := dkwX3_digitOf_1 ++ []
def dkwX3_digitOf_0 : List UInt8 := [26, 16, 48, 16, 57, 184, 0, 102, 153, 0, 10, 26, 16, 48, 100, 167, 0, 25, 26, 16, 97, 16, 102]
abbrev dktX3_digitOf_0 : List UInt8 := dkwX3_digitOf_0 ++ dktX3_digitOf_1
theorem dksX3_digitOf_0 : cX3_digitOf.data.toList.drop 0 = dktX3_digitOf_0 := by decide +kernel
theorem dksX3_digitOf_1 : cX3_digitOf.data.toList.drop 23 = dktX3_digitOf_1 := dk_seg dksX3_digitOf_0 23 rfl rfl
theorem dX3_digitOf_0 : decode cX3_digitOf 0 = .ok (.iload_n 0, 1) := dk_26 (dk_at dksX3_digitOf_0 0 rfl rfl)
theorem dX3_digitOf_1 : decode cX3_digitOf 1 = .ok (.bipush 48, 2) := dk_16 48 (dk_at dksX3_digitOf_0 1 rfl rfl)
theorem dX3_digitOf_3 : decode cX3_digitOf 3 = .ok (.bipush 57, 2) := dk_16 57 (dk_at dksX3_digitOf_0 3 rfl rfl)
theorem dX3_digitOf_5 : decode cX3_digitOf 5 = .ok (.invokestatic 102, 3) := dk_184 0 102 (dk_at dksX3_digitOf_0 5 rfl rfl)
theorem dX3_digitOf_8 : decode cX3_digitOf 8 = .ok (.ifCond .eq 10, 3) := dk_153 0 10 (dk_at dksX3_digitOf_0 8 rfl rfl)
theorem dX3_digitOf_11 : decode cX3_digitOf 11 = .ok (.iload_n 0, 1) := dk_26 (dk_at dksX3_digitOf_0 11 rfl rfl)
theorem dX3_digitOf_12 : decode cX3_digitOf 12 = .ok (.bipush 48, 2) := dk_16 48 (dk_at dksX3_digitOf_0 12 rfl rfl)
theorem dX3_digitOf_14 : decode cX3_digitOf 14 = .ok (.isub, 1) := dk_100 (dk_at dksX3_digitOf_0 14 rfl rfl)
theorem dX3_digitOf_15 : decode cX3_digitOf 15 = .ok (.goto 25, 3) := dk_167 0 25 (dk_at dksX3_digitOf_0 15 rfl rfl)
theorem dX3_digitOf_18 : decode cX3_digitOf 18 = .ok (.iload_n 0, 1) := dk_26 (dk_at dksX3_digitOf_0 18 rfl rfl)
theorem dX3_digitOf_19 : decode cX3_digitOf 19 = .ok (.bipush 97, 2) := dk_16 97 (dk_at dksX3_digitOf_0 19 rfl rfl)
theorem dX3_digitOf_21 : decode cX3_digitOf 21 = .ok (.bipush 102, 2) := dk_16 102 (dk_at dksX3_digitOf_0 21 rfl rfl)
theorem dX3_digitOf_23 : decode cX3_digitOf 23 = .ok (.invokestatic 102, 3) := dk_184 0 102 (dk_at dksX3_digitOf_1 0 rfl rfl)
theorem dX3_digitOf_26 : decode cX3_digitOf 26 = .ok (.ifCond .eq 13, 3) := dk_153 0 13 (dk_at dksX3_digitOf_1 3 rfl rfl)
theorem dX3_digitOf_29 : decode cX3_digitOf 29 = .ok (.iload_n 0, 1) := dk_26 (dk_at dksX3_digitOf_1 6 rfl rfl)
theorem dX3_digitOf_30 : decode cX3_digitOf 30 = .ok (.bipush 97, 2) := dk_16 97 (dk_at dksX3_digitOf_1 7 rfl rfl)
theorem dX3_digitOf_32 : decode cX3_digitOf 32 = .ok (.isub, 1) := dk_100 (dk_at dksX3_digitOf_1 9 rfl rfl)
theorem dX3_digitOf_33 : decode cX3_digitOf 33 = .ok (.bipush 10, 2) := dk_16 10 (dk_at dksX3_digitOf_1 10 rfl rfl)
theorem dX3_digitOf_35 : decode cX3_digitOf 35 = .ok (.iadd, 1) := dk_96 (dk_at dksX3_digitOf_1 12 rfl rfl)
theorem dX3_digitOf_36 : decode cX3_digitOf 36 = .ok (.goto 4, 3) := dk_167 0 4 (dk_at dksX3_digitOf_1 13 rfl rfl)
theorem dX3_digitOf_39 : decode cX3_digitOf 39 = .ok (.iconst (-1), 1) := dk_2 (dk_at dksX3_digitOf_1 16 rfl rfl)
theorem dX3_digitOf_40 : decode cX3_digitOf 40 = .ok (.ireturn, 1) := dk_172 (dk_at dksX3_digitOf_1 17 rfl rfl)
abbrev cX3_changes : ByteArray := prog_12_method_6_code
def yX3_changes : MethodName := ⟨RX3, "changes", "(Z)V"⟩
def dkwX3_changes_1 : List UInt8 := [181, 0, 110, 177]
abbrev dktX3_changes_1 : List UInt8 := dkwX3_changes_1 ++ []
def dkwX3_changes_0 : List UInt8 := [42, 3, 181, 0, 106, 42, 42, 180, 0, 110, 153, 0, 11, 27, 154, 0, 7, 4, 167, 0, 4, 3]
abbrev dktX3_changes_0 : List UInt8 := dkwX3_changes_0 ++ dktX3_changes_1
theorem dksX3_changes_0 : cX3_changes.data.toList.drop 0 = dktX3_changes_0 := by decide +kernel
theorem dksX3_changes_1 : cX3_changes.data.toList.drop 22 = dktX3_changes_1 := dk_seg dksX3_changes_0 22 rfl rfl
theorem dX3_changes_0 : decode cX3_changes 0 = .ok (.aload_n 0, 1) := dk_42 (dk_at dksX3_changes_0 0 rfl rfl)
theorem dX3_changes_1 : decode cX3_changes 1 = .ok (.iconst 0, 1) := dk_3 (dk_at dksX3_changes_0 1 rfl rfl)
theorem dX3_changes_2 : decode cX3_changes 2 = .ok (.putfield 106, 3) := dk_181 0 106 (dk_at dksX3_changes_0 2 rfl rfl)
theorem dX3_changes_5 : decode cX3_changes 5 = .ok (.aload_n 0, 1) := dk_42 (dk_at dksX3_changes_0 5 rfl rfl)
theorem dX3_changes_6 : decode cX3_changes 6 = .ok (.aload_n 0, 1) := dk_42 (dk_at dksX3_changes_0 6 rfl rfl)
theorem dX3_changes_7 : decode cX3_changes 7 = .ok (.getfield 110, 3) := dk_180 0 110 (dk_at dksX3_changes_0 7 rfl rfl)
theorem dX3_changes_10 : decode cX3_changes 10 = .ok (.ifCond .eq 11, 3) := dk_153 0 11 (dk_at dksX3_changes_0 10 rfl rfl)
theorem dX3_changes_13 : decode cX3_changes 13 = .ok (.iload_n 1, 1) := dk_27 (dk_at dksX3_changes_0 13 rfl rfl)
theorem dX3_changes_14 : decode cX3_changes 14 = .ok (.ifCond .ne 7, 3) := dk_154 0 7 (dk_at dksX3_changes_0 14 rfl rfl)
theorem dX3_changes_17 : decode cX3_changes 17 = .ok (.iconst 1, 1) := dk_4 (dk_at dksX3_changes_0 17 rfl rfl)
theorem dX3_changes_18 : decode cX3_changes 18 = .ok (.goto 4, 3) := dk_167 0 4 (dk_at dksX3_changes_0 18 rfl rfl)
theorem dX3_changes_21 : decode cX3_changes 21 = .ok (.iconst 0, 1) := dk_3 (dk_at dksX3_changes_0 21 rfl rfl)
theorem dX3_changes_22 : decode cX3_changes 22 = .ok (.putfield 110, 3) := dk_181 0 110 (dk_at dksX3_changes_1 0 rfl rfl)
theorem dX3_changes_25 : decode cX3_changes 25 = .ok (.return_, 1) := dk_177 (dk_at dksX3_changes_1 3 rfl rfl)
abbrev cX3_faultPosition : ByteArray := prog_12_method_10_code
def yX3_faultPosition : MethodName := ⟨RX3, "faultPosition", "()I"⟩
def dkwX3_faultPosition_0 : List UInt8 := [42, 3, 181, 0, 96, 42, 180, 0, 29, 172]
abbrev dktX3_faultPosition_0 : List UInt8 := dkwX3_faultPosition_0 ++ []
theorem dksX3_faultPosition_0 : cX3_faultPosition.data.toList.drop 0 = dktX3_faultPosition_0 := by decide +kernel
theorem dX3_faultPosition_0 : decode cX3_faultPosition 0 = .ok (.aload_n 0, 1) := dk_42 (dk_at dksX3_faultPosition_0 0 rfl rfl)
theorem dX3_faultPosition_1 : decode cX3_faultPosition 1 = .ok (.iconst 0, 1) := dk_3 (dk_at dksX3_faultPosition_0 1 rfl rfl)
theorem dX3_faultPosition_2 : decode cX3_faultPosition 2 = .ok (.putfield 96, 3) := dk_181 0 96 (dk_at dksX3_faultPosition_0 2 rfl rfl)
theorem dX3_faultPosition_5 : decode cX3_faultPosition 5 = .ok (.aload_n 0, 1) := dk_42 (dk_at dksX3_faultPosition_0 5 rfl rfl)
theorem dX3_faultPosition_6 : decode cX3_faultPosition 6 = .ok (.getfield 29, 3) := dk_180 0 29 (dk_at dksX3_faultPosition_0 6 rfl rfl)
theorem dX3_faultPosition_9 : decode cX3_faultPosition 9 = .ok (.ireturn, 1) := dk_172 (dk_at dksX3_faultPosition_0 9 rfl rfl)
abbrev cX3_setByte : ByteArray := prog_12_method_11_code
def yX3_setByte : MethodName := ⟨RX3, "setByte", "(II)I"⟩
def dkwX3_setByte_2 : List UInt8 := [28, 79, 42, 4, 182, 0, 123, 29, 172]
abbrev dktX3_setByte_2 : List UInt8 := dkwX3_setByte_2 ++ []
def dkwX3_setByte_1 : List UInt8 := [184, 0, 102, 154, 0, 9, 42, 5, 182, 0, 113, 172, 42, 180, 0, 9, 27, 46, 62, 42, 180, 0, 9, 27]
abbrev dktX3_setByte_1 : List UInt8 := dkwX3_setByte_1 ++ dktX3_setByte_2
def dkwX3_setByte_0 : List UInt8 := [42, 3, 181, 0, 96, 42, 27, 182, 0, 127, 154, 0, 9, 42, 4, 182, 0, 113, 172, 28, 3, 17, 0, 255]
abbrev dktX3_setByte_0 : List UInt8 := dkwX3_setByte_0 ++ dktX3_setByte_1
theorem dksX3_setByte_0 : cX3_setByte.data.toList.drop 0 = dktX3_setByte_0 := by decide +kernel
theorem dksX3_setByte_1 : cX3_setByte.data.toList.drop 24 = dktX3_setByte_1 := dk_seg dksX3_setByte_0 24 rfl rfl
theorem dksX3_setByte_2 : cX3_setByte.data.toList.drop 48 = dktX3_setByte_2 := dk_seg dksX3_setByte_1 24 rfl rfl
theorem dX3_setByte_0 : decode cX3_setByte 0 = .ok (.aload_n 0, 1) := dk_42 (dk_at dksX3_setByte_0 0 rfl rfl)
theorem dX3_setByte_1 : decode cX3_setByte 1 = .ok (.iconst 0, 1) := dk_3 (dk_at dksX3_setByte_0 1 rfl rfl)
theorem dX3_setByte_2 : decode cX3_setByte 2 = .ok (.putfield 96, 3) := dk_181 0 96 (dk_at dksX3_setByte_0 2 rfl rfl)
theorem dX3_setByte_5 : decode cX3_setByte 5 = .ok (.aload_n 0, 1) := dk_42 (dk_at dksX3_setByte_0 5 rfl rfl)
theorem dX3_setByte_6 : decode cX3_setByte 6 = .ok (.iload_n 1, 1) := dk_27 (dk_at dksX3_setByte_0 6 rfl rfl)
theorem dX3_setByte_7 : decode cX3_setByte 7 = .ok (.invokevirtual 127, 3) := dk_182 0 127 (dk_at dksX3_setByte_0 7 rfl rfl)
theorem dX3_setByte_10 : decode cX3_setByte 10 = .ok (.ifCond .ne 9, 3) := dk_154 0 9 (dk_at dksX3_setByte_0 10 rfl rfl)
theorem dX3_setByte_13 : decode cX3_setByte 13 = .ok (.aload_n 0, 1) := dk_42 (dk_at dksX3_setByte_0 13 rfl rfl)
theorem dX3_setByte_14 : decode cX3_setByte 14 = .ok (.iconst 1, 1) := dk_4 (dk_at dksX3_setByte_0 14 rfl rfl)
theorem dX3_setByte_15 : decode cX3_setByte 15 = .ok (.invokevirtual 113, 3) := dk_182 0 113 (dk_at dksX3_setByte_0 15 rfl rfl)
theorem dX3_setByte_18 : decode cX3_setByte 18 = .ok (.ireturn, 1) := dk_172 (dk_at dksX3_setByte_0 18 rfl rfl)
theorem dX3_setByte_19 : decode cX3_setByte 19 = .ok (.iload_n 2, 1) := dk_28 (dk_at dksX3_setByte_0 19 rfl rfl)
theorem dX3_setByte_20 : decode cX3_setByte 20 = .ok (.iconst 0, 1) := dk_3 (dk_at dksX3_setByte_0 20 rfl rfl)
theorem dX3_setByte_21 : decode cX3_setByte 21 = .ok (.sipush 255, 3) := dk_17 0 255 (dk_at dksX3_setByte_0 21 rfl rfl)
theorem dX3_setByte_24 : decode cX3_setByte 24 = .ok (.invokestatic 102, 3) := dk_184 0 102 (dk_at dksX3_setByte_1 0 rfl rfl)
theorem dX3_setByte_27 : decode cX3_setByte 27 = .ok (.ifCond .ne 9, 3) := dk_154 0 9 (dk_at dksX3_setByte_1 3 rfl rfl)
theorem dX3_setByte_30 : decode cX3_setByte 30 = .ok (.aload_n 0, 1) := dk_42 (dk_at dksX3_setByte_1 6 rfl rfl)
theorem dX3_setByte_31 : decode cX3_setByte 31 = .ok (.iconst 2, 1) := dk_5 (dk_at dksX3_setByte_1 7 rfl rfl)
theorem dX3_setByte_32 : decode cX3_setByte 32 = .ok (.invokevirtual 113, 3) := dk_182 0 113 (dk_at dksX3_setByte_1 8 rfl rfl)
theorem dX3_setByte_35 : decode cX3_setByte 35 = .ok (.ireturn, 1) := dk_172 (dk_at dksX3_setByte_1 11 rfl rfl)
theorem dX3_setByte_36 : decode cX3_setByte 36 = .ok (.aload_n 0, 1) := dk_42 (dk_at dksX3_setByte_1 12 rfl rfl)
theorem dX3_setByte_37 : decode cX3_setByte 37 = .ok (.getfield 9, 3) := dk_180 0 9 (dk_at dksX3_setByte_1 13 rfl rfl)
theorem dX3_setByte_40 : decode cX3_setByte 40 = .ok (.iload_n 1, 1) := dk_27 (dk_at dksX3_setByte_1 16 rfl rfl)
theorem dX3_setByte_41 : decode cX3_setByte 41 = .ok (.iaload, 1) := dk_46 (dk_at dksX3_setByte_1 17 rfl rfl)
theorem dX3_setByte_42 : decode cX3_setByte 42 = .ok (.istore_n 3, 1) := dk_62 (dk_at dksX3_setByte_1 18 rfl rfl)
theorem dX3_setByte_43 : decode cX3_setByte 43 = .ok (.aload_n 0, 1) := dk_42 (dk_at dksX3_setByte_1 19 rfl rfl)
theorem dX3_setByte_44 : decode cX3_setByte 44 = .ok (.getfield 9, 3) := dk_180 0 9 (dk_at dksX3_setByte_1 20 rfl rfl)
theorem dX3_setByte_47 : decode cX3_setByte 47 = .ok (.iload_n 1, 1) := dk_27 (dk_at dksX3_setByte_1 23 rfl rfl)
theorem dX3_setByte_48 : decode cX3_setByte 48 = .ok (.iload_n 2, 1) := dk_28 (dk_at dksX3_setByte_2 0 rfl rfl)
theorem dX3_setByte_49 : decode cX3_setByte 49 = .ok (.iastore, 1) := dk_79 (dk_at dksX3_setByte_2 1 rfl rfl)
theorem dX3_setByte_50 : decode cX3_setByte 50 = .ok (.aload_n 0, 1) := dk_42 (dk_at dksX3_setByte_2 2 rfl rfl)
theorem dX3_setByte_51 : decode cX3_setByte 51 = .ok (.iconst 1, 1) := dk_4 (dk_at dksX3_setByte_2 3 rfl rfl)
theorem dX3_setByte_52 : decode cX3_setByte 52 = .ok (.invokevirtual 123, 3) := dk_182 0 123 (dk_at dksX3_setByte_2 4 rfl rfl)
theorem dX3_setByte_55 : decode cX3_setByte 55 = .ok (.iload_n 3, 1) := dk_29 (dk_at dksX3_setByte_2 7 rfl rfl)
theorem dX3_setByte_56 : decode cX3_setByte 56 = .ok (.ireturn, 1) := dk_172 (dk_at dksX3_setByte_2 8 rfl rfl)
abbrev cX3_isAddress : ByteArray := prog_12_method_5_code
def yX3_isAddress : MethodName := ⟨RX3, "isAddress", "(I)Z"⟩
def dkwX3_isAddress_0 : List UInt8 := [27, 3, 42, 180, 0, 99, 4, 100, 184, 0, 102, 172]
abbrev dktX3_isAddress_0 : List UInt8 := dkwX3_isAddress_0 ++ []
theorem dksX3_isAddress_0 : cX3_isAddress.data.toList.drop 0 = dktX3_isAddress_0 := by decide +kernel
theorem dX3_isAddress_0 : decode cX3_isAddress 0 = .ok (.iload_n 1, 1) := dk_27 (dk_at dksX3_isAddress_0 0 rfl rfl)
theorem dX3_isAddress_1 : decode cX3_isAddress 1 = .ok (.iconst 0, 1) := dk_3 (dk_at dksX3_isAddress_0 1 rfl rfl)
theorem dX3_isAddress_2 : decode cX3_isAddress 2 = .ok (.aload_n 0, 1) := dk_42 (dk_at dksX3_isAddress_0 2 rfl rfl)
theorem dX3_isAddress_3 : decode cX3_isAddress 3 = .ok (.getfield 99, 3) := dk_180 0 99 (dk_at dksX3_isAddress_0 3 rfl rfl)
theorem dX3_isAddress_6 : decode cX3_isAddress 6 = .ok (.iconst 1, 1) := dk_4 (dk_at dksX3_isAddress_0 6 rfl rfl)
theorem dX3_isAddress_7 : decode cX3_isAddress 7 = .ok (.isub, 1) := dk_100 (dk_at dksX3_isAddress_0 7 rfl rfl)
theorem dX3_isAddress_8 : decode cX3_isAddress 8 = .ok (.invokestatic 102, 3) := dk_184 0 102 (dk_at dksX3_isAddress_0 8 rfl rfl)
theorem dX3_isAddress_11 : decode cX3_isAddress 11 = .ok (.ireturn, 1) := dk_172 (dk_at dksX3_isAddress_0 11 rfl rfl)
abbrev cX3_byteAt : ByteArray := prog_12_method_12_code
def yX3_byteAt : MethodName := ⟨RX3, "byteAt", "(I)I"⟩
def dkwX3_byteAt_1 : List UInt8 := [182, 0, 113, 172]
abbrev dktX3_byteAt_1 : List UInt8 := dkwX3_byteAt_1 ++ []
def dkwX3_byteAt_0 : List UInt8 := [42, 3, 181, 0, 96, 42, 27, 182, 0, 127, 153, 0, 12, 42, 180, 0, 9, 27, 46, 167, 0, 8, 42, 4]
abbrev dktX3_byteAt_0 : List UInt8 := dkwX3_byteAt_0 ++ dktX3_byteAt_1
theorem dksX3_byteAt_0 : cX3_byteAt.data.toList.drop 0 = dktX3_byteAt_0 := by decide +kernel
theorem dksX3_byteAt_1 : cX3_byteAt.data.toList.drop 24 = dktX3_byteAt_1 := dk_seg dksX3_byteAt_0 24 rfl rfl
theorem dX3_byteAt_0 : decode cX3_byteAt 0 = .ok (.aload_n 0, 1) := dk_42 (dk_at dksX3_byteAt_0 0 rfl rfl)
theorem dX3_byteAt_1 : decode cX3_byteAt 1 = .ok (.iconst 0, 1) := dk_3 (dk_at dksX3_byteAt_0 1 rfl rfl)
theorem dX3_byteAt_2 : decode cX3_byteAt 2 = .ok (.putfield 96, 3) := dk_181 0 96 (dk_at dksX3_byteAt_0 2 rfl rfl)
theorem dX3_byteAt_5 : decode cX3_byteAt 5 = .ok (.aload_n 0, 1) := dk_42 (dk_at dksX3_byteAt_0 5 rfl rfl)
theorem dX3_byteAt_6 : decode cX3_byteAt 6 = .ok (.iload_n 1, 1) := dk_27 (dk_at dksX3_byteAt_0 6 rfl rfl)
theorem dX3_byteAt_7 : decode cX3_byteAt 7 = .ok (.invokevirtual 127, 3) := dk_182 0 127 (dk_at dksX3_byteAt_0 7 rfl rfl)
theorem dX3_byteAt_10 : decode cX3_byteAt 10 = .ok (.ifCond .eq 12, 3) := dk_153 0 12 (dk_at dksX3_byteAt_0 10 rfl rfl)
theorem dX3_byteAt_13 : decode cX3_byteAt 13 = .ok (.aload_n 0, 1) := dk_42 (dk_at dksX3_byteAt_0 13 rfl rfl)
theorem dX3_byteAt_14 : decode cX3_byteAt 14 = .ok (.getfield 9, 3) := dk_180 0 9 (dk_at dksX3_byteAt_0 14 rfl rfl)
theorem dX3_byteAt_17 : decode cX3_byteAt 17 = .ok (.iload_n 1, 1) := dk_27 (dk_at dksX3_byteAt_0 17 rfl rfl)
theorem dX3_byteAt_18 : decode cX3_byteAt 18 = .ok (.iaload, 1) := dk_46 (dk_at dksX3_byteAt_0 18 rfl rfl)
theorem dX3_byteAt_19 : decode cX3_byteAt 19 = .ok (.goto 8, 3) := dk_167 0 8 (dk_at dksX3_byteAt_0 19 rfl rfl)
theorem dX3_byteAt_22 : decode cX3_byteAt 22 = .ok (.aload_n 0, 1) := dk_42 (dk_at dksX3_byteAt_0 22 rfl rfl)
theorem dX3_byteAt_23 : decode cX3_byteAt 23 = .ok (.iconst 1, 1) := dk_4 (dk_at dksX3_byteAt_0 23 rfl rfl)
theorem dX3_byteAt_24 : decode cX3_byteAt 24 = .ok (.invokevirtual 113, 3) := dk_182 0 113 (dk_at dksX3_byteAt_1 0 rfl rfl)
theorem dX3_byteAt_27 : decode cX3_byteAt 27 = .ok (.ireturn, 1) := dk_172 (dk_at dksX3_byteAt_1 3 rfl rfl)
abbrev cX3_clear : ByteArray := prog_12_method_13_code
def yX3_clear : MethodName := ⟨RX3, "clear", "()I"⟩
def dkwX3_clear_1 : List UInt8 := [182, 0, 123, 27, 172]
abbrev dktX3_clear_1 : List UInt8 := dkwX3_clear_1 ++ []
def dkwX3_clear_0 : List UInt8 := [42, 3, 181, 0, 96, 42, 180, 0, 99, 60, 42, 3, 181, 0, 99, 42, 3, 181, 0, 131, 42, 4]
abbrev dktX3_clear_0 : List UInt8 := dkwX3_clear_0 ++ dktX3_clear_1
theorem dksX3_clear_0 : cX3_clear.data.toList.drop 0 = dktX3_clear_0 := by decide +kernel
theorem dksX3_clear_1 : cX3_clear.data.toList.drop 22 = dktX3_clear_1 := dk_seg dksX3_clear_0 22 rfl rfl
theorem dX3_clear_0 : decode cX3_clear 0 = .ok (.aload_n 0, 1) := dk_42 (dk_at dksX3_clear_0 0 rfl rfl)
theorem dX3_clear_1 : decode cX3_clear 1 = .ok (.iconst 0, 1) := dk_3 (dk_at dksX3_clear_0 1 rfl rfl)
theorem dX3_clear_2 : decode cX3_clear 2 = .ok (.putfield 96, 3) := dk_181 0 96 (dk_at dksX3_clear_0 2 rfl rfl)
theorem dX3_clear_5 : decode cX3_clear 5 = .ok (.aload_n 0, 1) := dk_42 (dk_at dksX3_clear_0 5 rfl rfl)
theorem dX3_clear_6 : decode cX3_clear 6 = .ok (.getfield 99, 3) := dk_180 0 99 (dk_at dksX3_clear_0 6 rfl rfl)
theorem dX3_clear_9 : decode cX3_clear 9 = .ok (.istore_n 1, 1) := dk_60 (dk_at dksX3_clear_0 9 rfl rfl)
theorem dX3_clear_10 : decode cX3_clear 10 = .ok (.aload_n 0, 1) := dk_42 (dk_at dksX3_clear_0 10 rfl rfl)
theorem dX3_clear_11 : decode cX3_clear 11 = .ok (.iconst 0, 1) := dk_3 (dk_at dksX3_clear_0 11 rfl rfl)
theorem dX3_clear_12 : decode cX3_clear 12 = .ok (.putfield 99, 3) := dk_181 0 99 (dk_at dksX3_clear_0 12 rfl rfl)
theorem dX3_clear_15 : decode cX3_clear 15 = .ok (.aload_n 0, 1) := dk_42 (dk_at dksX3_clear_0 15 rfl rfl)
theorem dX3_clear_16 : decode cX3_clear 16 = .ok (.iconst 0, 1) := dk_3 (dk_at dksX3_clear_0 16 rfl rfl)
theorem dX3_clear_17 : decode cX3_clear 17 = .ok (.putfield 131, 3) := dk_181 0 131 (dk_at dksX3_clear_0 17 rfl rfl)
theorem dX3_clear_20 : decode cX3_clear 20 = .ok (.aload_n 0, 1) := dk_42 (dk_at dksX3_clear_0 20 rfl rfl)
theorem dX3_clear_21 : decode cX3_clear 21 = .ok (.iconst 1, 1) := dk_4 (dk_at dksX3_clear_0 21 rfl rfl)
theorem dX3_clear_22 : decode cX3_clear 22 = .ok (.invokevirtual 123, 3) := dk_182 0 123 (dk_at dksX3_clear_1 0 rfl rfl)
theorem dX3_clear_25 : decode cX3_clear 25 = .ok (.iload_n 1, 1) := dk_27 (dk_at dksX3_clear_1 3 rfl rfl)
theorem dX3_clear_26 : decode cX3_clear 26 = .ok (.ireturn, 1) := dk_172 (dk_at dksX3_clear_1 4 rfl rfl)
abbrev cX3_size : ByteArray := prog_12_method_14_code
def yX3_size : MethodName := ⟨RX3, "size", "()I"⟩
def dkwX3_size_0 : List UInt8 := [42, 3, 181, 0, 96, 42, 180, 0, 99, 172]
abbrev dktX3_size_0 : List UInt8 := dkwX3_size_0 ++ []
theorem dksX3_size_0 : cX3_size.data.toList.drop 0 = dktX3_size_0 := by decide +kernel
theorem dX3_size_0 : decode cX3_size 0 = .ok (.aload_n 0, 1) := dk_42 (dk_at dksX3_size_0 0 rfl rfl)
theorem dX3_size_1 : decode cX3_size 1 = .ok (.iconst 0, 1) := dk_3 (dk_at dksX3_size_0 1 rfl rfl)
theorem dX3_size_2 : decode cX3_size 2 = .ok (.putfield 96, 3) := dk_181 0 96 (dk_at dksX3_size_0 2 rfl rfl)
theorem dX3_size_5 : decode cX3_size 5 = .ok (.aload_n 0, 1) := dk_42 (dk_at dksX3_size_0 5 rfl rfl)
theorem dX3_size_6 : decode cX3_size 6 = .ok (.getfield 99, 3) := dk_180 0 99 (dk_at dksX3_size_0 6 rfl rfl)
theorem dX3_size_9 : decode cX3_size 9 = .ok (.ireturn, 1) := dk_172 (dk_at dksX3_size_0 9 rfl rfl)
abbrev cX3_addEntry : ByteArray := prog_12_method_16_code
def yX3_addEntry : MethodName := ⟨RX3, "addEntry", "(I)I"⟩
def dkwX3_addEntry_3 : List UInt8 := [4, 100, 172]
abbrev dktX3_addEntry_3 : List UInt8 := dkwX3_addEntry_3 ++ []
def dkwX3_addEntry_2 : List UInt8 := [180, 0, 131, 27, 79, 42, 89, 180, 0, 131, 4, 96, 181, 0, 131, 42, 3, 182, 0, 123, 42, 180, 0, 131]
abbrev dktX3_addEntry_2 : List UInt8 := dkwX3_addEntry_2 ++ dktX3_addEntry_3
def dkwX3_addEntry_1 : List UInt8 := [159, 0, 11, 42, 27, 182, 0, 134, 153, 0, 9, 42, 5, 182, 0, 113, 172, 42, 180, 0, 16, 42]
abbrev dktX3_addEntry_1 : List UInt8 := dkwX3_addEntry_1 ++ dktX3_addEntry_2
def dkwX3_addEntry_0 : List UInt8 := [42, 3, 181, 0, 96, 42, 27, 182, 0, 127, 154, 0, 9, 42, 4, 182, 0, 113, 172, 42, 180, 0, 131, 7]
abbrev dktX3_addEntry_0 : List UInt8 := dkwX3_addEntry_0 ++ dktX3_addEntry_1
theorem dksX3_addEntry_0 : cX3_addEntry.data.toList.drop 0 = dktX3_addEntry_0 := by decide +kernel
theorem dksX3_addEntry_1 : cX3_addEntry.data.toList.drop 24 = dktX3_addEntry_1 := dk_seg dksX3_addEntry_0 24 rfl rfl
theorem dksX3_addEntry_2 : cX3_addEntry.data.toList.drop 46 = dktX3_addEntry_2 := dk_seg dksX3_addEntry_1 22 rfl rfl
theorem dksX3_addEntry_3 : cX3_addEntry.data.toList.drop 70 = dktX3_addEntry_3 := dk_seg dksX3_addEntry_2 24 rfl rfl
theorem dX3_addEntry_0 : decode cX3_addEntry 0 = .ok (.aload_n 0, 1) := dk_42 (dk_at dksX3_addEntry_0 0 rfl rfl)
theorem dX3_addEntry_1 : decode cX3_addEntry 1 = .ok (.iconst 0, 1) := dk_3 (dk_at dksX3_addEntry_0 1 rfl rfl)
theorem dX3_addEntry_2 : decode cX3_addEntry 2 = .ok (.putfield 96, 3) := dk_181 0 96 (dk_at dksX3_addEntry_0 2 rfl rfl)
theorem dX3_addEntry_5 : decode cX3_addEntry 5 = .ok (.aload_n 0, 1) := dk_42 (dk_at dksX3_addEntry_0 5 rfl rfl)
theorem dX3_addEntry_6 : decode cX3_addEntry 6 = .ok (.iload_n 1, 1) := dk_27 (dk_at dksX3_addEntry_0 6 rfl rfl)
theorem dX3_addEntry_7 : decode cX3_addEntry 7 = .ok (.invokevirtual 127, 3) := dk_182 0 127 (dk_at dksX3_addEntry_0 7 rfl rfl)
theorem dX3_addEntry_10 : decode cX3_addEntry 10 = .ok (.ifCond .ne 9, 3) := dk_154 0 9 (dk_at dksX3_addEntry_0 10 rfl rfl)
theorem dX3_addEntry_13 : decode cX3_addEntry 13 = .ok (.aload_n 0, 1) := dk_42 (dk_at dksX3_addEntry_0 13 rfl rfl)
theorem dX3_addEntry_14 : decode cX3_addEntry 14 = .ok (.iconst 1, 1) := dk_4 (dk_at dksX3_addEntry_0 14 rfl rfl)
theorem dX3_addEntry_15 : decode cX3_addEntry 15 = .ok (.invokevirtual 113, 3) := dk_182 0 113 (dk_at dksX3_addEntry_0 15 rfl rfl)
theorem dX3_addEntry_18 : decode cX3_addEntry 18 = .ok (.ireturn, 1) := dk_172 (dk_at dksX3_addEntry_0 18 rfl rfl)
theorem dX3_addEntry_19 : decode cX3_addEntry 19 = .ok (.aload_n 0, 1) := dk_42 (dk_at dksX3_addEntry_0 19 rfl rfl)
theorem dX3_addEntry_20 : decode cX3_addEntry 20 = .ok (.getfield 131, 3) := dk_180 0 131 (dk_at dksX3_addEntry_0 20 rfl rfl)
theorem dX3_addEntry_23 : decode cX3_addEntry 23 = .ok (.iconst 4, 1) := dk_7 (dk_at dksX3_addEntry_0 23 rfl rfl)
theorem dX3_addEntry_24 : decode cX3_addEntry 24 = .ok (.if_icmp .eq 11, 3) := dk_159 0 11 (dk_at dksX3_addEntry_1 0 rfl rfl)
theorem dX3_addEntry_27 : decode cX3_addEntry 27 = .ok (.aload_n 0, 1) := dk_42 (dk_at dksX3_addEntry_1 3 rfl rfl)
theorem dX3_addEntry_28 : decode cX3_addEntry 28 = .ok (.iload_n 1, 1) := dk_27 (dk_at dksX3_addEntry_1 4 rfl rfl)
theorem dX3_addEntry_29 : decode cX3_addEntry 29 = .ok (.invokevirtual 134, 3) := dk_182 0 134 (dk_at dksX3_addEntry_1 5 rfl rfl)
theorem dX3_addEntry_32 : decode cX3_addEntry 32 = .ok (.ifCond .eq 9, 3) := dk_153 0 9 (dk_at dksX3_addEntry_1 8 rfl rfl)
theorem dX3_addEntry_35 : decode cX3_addEntry 35 = .ok (.aload_n 0, 1) := dk_42 (dk_at dksX3_addEntry_1 11 rfl rfl)
theorem dX3_addEntry_36 : decode cX3_addEntry 36 = .ok (.iconst 2, 1) := dk_5 (dk_at dksX3_addEntry_1 12 rfl rfl)
theorem dX3_addEntry_37 : decode cX3_addEntry 37 = .ok (.invokevirtual 113, 3) := dk_182 0 113 (dk_at dksX3_addEntry_1 13 rfl rfl)
theorem dX3_addEntry_40 : decode cX3_addEntry 40 = .ok (.ireturn, 1) := dk_172 (dk_at dksX3_addEntry_1 16 rfl rfl)
theorem dX3_addEntry_41 : decode cX3_addEntry 41 = .ok (.aload_n 0, 1) := dk_42 (dk_at dksX3_addEntry_1 17 rfl rfl)
theorem dX3_addEntry_42 : decode cX3_addEntry 42 = .ok (.getfield 16, 3) := dk_180 0 16 (dk_at dksX3_addEntry_1 18 rfl rfl)
theorem dX3_addEntry_45 : decode cX3_addEntry 45 = .ok (.aload_n 0, 1) := dk_42 (dk_at dksX3_addEntry_1 21 rfl rfl)
theorem dX3_addEntry_46 : decode cX3_addEntry 46 = .ok (.getfield 131, 3) := dk_180 0 131 (dk_at dksX3_addEntry_2 0 rfl rfl)
theorem dX3_addEntry_49 : decode cX3_addEntry 49 = .ok (.iload_n 1, 1) := dk_27 (dk_at dksX3_addEntry_2 3 rfl rfl)
theorem dX3_addEntry_50 : decode cX3_addEntry 50 = .ok (.iastore, 1) := dk_79 (dk_at dksX3_addEntry_2 4 rfl rfl)
theorem dX3_addEntry_51 : decode cX3_addEntry 51 = .ok (.aload_n 0, 1) := dk_42 (dk_at dksX3_addEntry_2 5 rfl rfl)
theorem dX3_addEntry_52 : decode cX3_addEntry 52 = .ok (.dup, 1) := dk_89 (dk_at dksX3_addEntry_2 6 rfl rfl)
theorem dX3_addEntry_53 : decode cX3_addEntry 53 = .ok (.getfield 131, 3) := dk_180 0 131 (dk_at dksX3_addEntry_2 7 rfl rfl)
theorem dX3_addEntry_56 : decode cX3_addEntry 56 = .ok (.iconst 1, 1) := dk_4 (dk_at dksX3_addEntry_2 10 rfl rfl)
theorem dX3_addEntry_57 : decode cX3_addEntry 57 = .ok (.iadd, 1) := dk_96 (dk_at dksX3_addEntry_2 11 rfl rfl)
theorem dX3_addEntry_58 : decode cX3_addEntry 58 = .ok (.putfield 131, 3) := dk_181 0 131 (dk_at dksX3_addEntry_2 12 rfl rfl)
theorem dX3_addEntry_61 : decode cX3_addEntry 61 = .ok (.aload_n 0, 1) := dk_42 (dk_at dksX3_addEntry_2 15 rfl rfl)
theorem dX3_addEntry_62 : decode cX3_addEntry 62 = .ok (.iconst 0, 1) := dk_3 (dk_at dksX3_addEntry_2 16 rfl rfl)
theorem dX3_addEntry_63 : decode cX3_addEntry 63 = .ok (.invokevirtual 123, 3) := dk_182 0 123 (dk_at dksX3_addEntry_2 17 rfl rfl)
theorem dX3_addEntry_66 : decode cX3_addEntry 66 = .ok (.aload_n 0, 1) := dk_42 (dk_at dksX3_addEntry_2 20 rfl rfl)
theorem dX3_addEntry_67 : decode cX3_addEntry 67 = .ok (.getfield 131, 3) := dk_180 0 131 (dk_at dksX3_addEntry_2 21 rfl rfl)
theorem dX3_addEntry_70 : decode cX3_addEntry 70 = .ok (.iconst 1, 1) := dk_4 (dk_at dksX3_addEntry_3 0 rfl rfl)
theorem dX3_addEntry_71 : decode cX3_addEntry 71 = .ok (.isub, 1) := dk_100 (dk_at dksX3_addEntry_3 1 rfl rfl)
theorem dX3_addEntry_72 : decode cX3_addEntry 72 = .ok (.ireturn, 1) := dk_172 (dk_at dksX3_addEntry_3 2 rfl rfl)
abbrev cX3_isEntry : ByteArray := prog_12_method_15_code
def yX3_isEntry : MethodName := ⟨RX3, "isEntry", "(I)Z"⟩
def dkwX3_isEntry_1 : List UInt8 := [160, 0, 7, 4, 167, 0, 4, 3, 61, 132, 3, 1, 167, 255, 225, 28, 172]
abbrev dktX3_isEntry_1 : List UInt8 := dkwX3_isEntry_1 ++ []
def dkwX3_isEntry_0 : List UInt8 := [3, 61, 3, 62, 29, 42, 180, 0, 131, 162, 0, 29, 28, 154, 0, 13, 42, 180, 0, 16, 29, 46, 27]
abbrev dktX3_isEntry_0 : List UInt8 := dkwX3_isEntry_0 ++ dktX3_isEntry_1
theorem dksX3_isEntry_0 : cX3_isEntry.data.toList.drop 0 = dktX3_isEntry_0 := by decide +kernel
theorem dksX3_isEntry_1 : cX3_isEntry.data.toList.drop 23 = dktX3_isEntry_1 := dk_seg dksX3_isEntry_0 23 rfl rfl
theorem dX3_isEntry_0 : decode cX3_isEntry 0 = .ok (.iconst 0, 1) := dk_3 (dk_at dksX3_isEntry_0 0 rfl rfl)
theorem dX3_isEntry_1 : decode cX3_isEntry 1 = .ok (.istore_n 2, 1) := dk_61 (dk_at dksX3_isEntry_0 1 rfl rfl)
theorem dX3_isEntry_2 : decode cX3_isEntry 2 = .ok (.iconst 0, 1) := dk_3 (dk_at dksX3_isEntry_0 2 rfl rfl)
theorem dX3_isEntry_3 : decode cX3_isEntry 3 = .ok (.istore_n 3, 1) := dk_62 (dk_at dksX3_isEntry_0 3 rfl rfl)
theorem dX3_isEntry_4 : decode cX3_isEntry 4 = .ok (.iload_n 3, 1) := dk_29 (dk_at dksX3_isEntry_0 4 rfl rfl)
theorem dX3_isEntry_5 : decode cX3_isEntry 5 = .ok (.aload_n 0, 1) := dk_42 (dk_at dksX3_isEntry_0 5 rfl rfl)
theorem dX3_isEntry_6 : decode cX3_isEntry 6 = .ok (.getfield 131, 3) := dk_180 0 131 (dk_at dksX3_isEntry_0 6 rfl rfl)
theorem dX3_isEntry_9 : decode cX3_isEntry 9 = .ok (.if_icmp .ge 29, 3) := dk_162 0 29 (dk_at dksX3_isEntry_0 9 rfl rfl)
theorem dX3_isEntry_12 : decode cX3_isEntry 12 = .ok (.iload_n 2, 1) := dk_28 (dk_at dksX3_isEntry_0 12 rfl rfl)
theorem dX3_isEntry_13 : decode cX3_isEntry 13 = .ok (.ifCond .ne 13, 3) := dk_154 0 13 (dk_at dksX3_isEntry_0 13 rfl rfl)
theorem dX3_isEntry_16 : decode cX3_isEntry 16 = .ok (.aload_n 0, 1) := dk_42 (dk_at dksX3_isEntry_0 16 rfl rfl)
theorem dX3_isEntry_17 : decode cX3_isEntry 17 = .ok (.getfield 16, 3) := dk_180 0 16 (dk_at dksX3_isEntry_0 17 rfl rfl)
theorem dX3_isEntry_20 : decode cX3_isEntry 20 = .ok (.iload_n 3, 1) := dk_29 (dk_at dksX3_isEntry_0 20 rfl rfl)
theorem dX3_isEntry_21 : decode cX3_isEntry 21 = .ok (.iaload, 1) := dk_46 (dk_at dksX3_isEntry_0 21 rfl rfl)
theorem dX3_isEntry_22 : decode cX3_isEntry 22 = .ok (.iload_n 1, 1) := dk_27 (dk_at dksX3_isEntry_0 22 rfl rfl)
theorem dX3_isEntry_23 : decode cX3_isEntry 23 = .ok (.if_icmp .ne 7, 3) := dk_160 0 7 (dk_at dksX3_isEntry_1 0 rfl rfl)
theorem dX3_isEntry_26 : decode cX3_isEntry 26 = .ok (.iconst 1, 1) := dk_4 (dk_at dksX3_isEntry_1 3 rfl rfl)
theorem dX3_isEntry_27 : decode cX3_isEntry 27 = .ok (.goto 4, 3) := dk_167 0 4 (dk_at dksX3_isEntry_1 4 rfl rfl)
theorem dX3_isEntry_30 : decode cX3_isEntry 30 = .ok (.iconst 0, 1) := dk_3 (dk_at dksX3_isEntry_1 7 rfl rfl)
theorem dX3_isEntry_31 : decode cX3_isEntry 31 = .ok (.istore_n 2, 1) := dk_61 (dk_at dksX3_isEntry_1 8 rfl rfl)
theorem dX3_isEntry_32 : decode cX3_isEntry 32 = .ok (.iinc 3 1, 3) := dk_132 3 1 (dk_at dksX3_isEntry_1 9 rfl rfl)
theorem dX3_isEntry_35 : decode cX3_isEntry 35 = .ok (.goto (-31), 3) := dk_167 255 225 (dk_at dksX3_isEntry_1 12 rfl rfl)
theorem dX3_isEntry_38 : decode cX3_isEntry 38 = .ok (.iload_n 2, 1) := dk_28 (dk_at dksX3_isEntry_1 15 rfl rfl)
theorem dX3_isEntry_39 : decode cX3_isEntry 39 = .ok (.ireturn, 1) := dk_172 (dk_at dksX3_isEntry_1 16 rfl rfl)
abbrev cX3_removeEntry : ByteArray := prog_12_method_17_code
def yX3_removeEntry : MethodName := ⟨RX3, "removeEntry", "(I)I"⟩
def dkwX3_removeEntry_3 : List UInt8 := [181, 0, 131, 42, 3, 182, 0, 123, 28, 172]
abbrev dktX3_removeEntry_3 : List UInt8 := dkwX3_removeEntry_3 ++ []
def dkwX3_removeEntry_2 : List UInt8 := [29, 42, 180, 0, 16, 29, 4, 96, 46, 79, 132, 3, 1, 167, 255, 229, 42, 89, 180, 0, 131, 4, 100]
abbrev dktX3_removeEntry_2 : List UInt8 := dkwX3_removeEntry_2 ++ dktX3_removeEntry_3
def dkwX3_removeEntry_1 : List UInt8 := [172, 42, 180, 0, 16, 27, 46, 61, 27, 62, 29, 42, 180, 0, 131, 4, 100, 162, 0, 23, 42, 180, 0, 16]
abbrev dktX3_removeEntry_1 : List UInt8 := dkwX3_removeEntry_1 ++ dktX3_removeEntry_2
def dkwX3_removeEntry_0 : List UInt8 := [42, 3, 181, 0, 96, 27, 3, 42, 180, 0, 131, 4, 100, 184, 0, 102, 154, 0, 9, 42, 4, 182, 0, 113]
abbrev dktX3_removeEntry_0 : List UInt8 := dkwX3_removeEntry_0 ++ dktX3_removeEntry_1
theorem dksX3_removeEntry_0 : cX3_removeEntry.data.toList.drop 0 = dktX3_removeEntry_0 := by decide +kernel
theorem dksX3_removeEntry_1 : cX3_removeEntry.data.toList.drop 24 = dktX3_removeEntry_1 := dk_seg dksX3_removeEntry_0 24 rfl rfl
theorem dksX3_removeEntry_2 : cX3_removeEntry.data.toList.drop 48 = dktX3_removeEntry_2 := dk_seg dksX3_removeEntry_1 24 rfl rfl
theorem dksX3_removeEntry_3 : cX3_removeEntry.data.toList.drop 71 = dktX3_removeEntry_3 := dk_seg dksX3_removeEntry_2 23 rfl rfl
theorem dX3_removeEntry_0 : decode cX3_removeEntry 0 = .ok (.aload_n 0, 1) := dk_42 (dk_at dksX3_removeEntry_0 0 rfl rfl)
theorem dX3_removeEntry_1 : decode cX3_removeEntry 1 = .ok (.iconst 0, 1) := dk_3 (dk_at dksX3_removeEntry_0 1 rfl rfl)
theorem dX3_removeEntry_2 : decode cX3_removeEntry 2 = .ok (.putfield 96, 3) := dk_181 0 96 (dk_at dksX3_removeEntry_0 2 rfl rfl)
theorem dX3_removeEntry_5 : decode cX3_removeEntry 5 = .ok (.iload_n 1, 1) := dk_27 (dk_at dksX3_removeEntry_0 5 rfl rfl)
theorem dX3_removeEntry_6 : decode cX3_removeEntry 6 = .ok (.iconst 0, 1) := dk_3 (dk_at dksX3_removeEntry_0 6 rfl rfl)
theorem dX3_removeEntry_7 : decode cX3_removeEntry 7 = .ok (.aload_n 0, 1) := dk_42 (dk_at dksX3_removeEntry_0 7 rfl rfl)
theorem dX3_removeEntry_8 : decode cX3_removeEntry 8 = .ok (.getfield 131, 3) := dk_180 0 131 (dk_at dksX3_removeEntry_0 8 rfl rfl)
theorem dX3_removeEntry_11 : decode cX3_removeEntry 11 = .ok (.iconst 1, 1) := dk_4 (dk_at dksX3_removeEntry_0 11 rfl rfl)
theorem dX3_removeEntry_12 : decode cX3_removeEntry 12 = .ok (.isub, 1) := dk_100 (dk_at dksX3_removeEntry_0 12 rfl rfl)
theorem dX3_removeEntry_13 : decode cX3_removeEntry 13 = .ok (.invokestatic 102, 3) := dk_184 0 102 (dk_at dksX3_removeEntry_0 13 rfl rfl)
theorem dX3_removeEntry_16 : decode cX3_removeEntry 16 = .ok (.ifCond .ne 9, 3) := dk_154 0 9 (dk_at dksX3_removeEntry_0 16 rfl rfl)
theorem dX3_removeEntry_19 : decode cX3_removeEntry 19 = .ok (.aload_n 0, 1) := dk_42 (dk_at dksX3_removeEntry_0 19 rfl rfl)
theorem dX3_removeEntry_20 : decode cX3_removeEntry 20 = .ok (.iconst 1, 1) := dk_4 (dk_at dksX3_removeEntry_0 20 rfl rfl)
theorem dX3_removeEntry_21 : decode cX3_removeEntry 21 = .ok (.invokevirtual 113, 3) := dk_182 0 113 (dk_at dksX3_removeEntry_0 21 rfl rfl)
theorem dX3_removeEntry_24 : decode cX3_removeEntry 24 = .ok (.ireturn, 1) := dk_172 (dk_at dksX3_removeEntry_1 0 rfl rfl)
theorem dX3_removeEntry_25 : decode cX3_removeEntry 25 = .ok (.aload_n 0, 1) := dk_42 (dk_at dksX3_removeEntry_1 1 rfl rfl)
theorem dX3_removeEntry_26 : decode cX3_removeEntry 26 = .ok (.getfield 16, 3) := dk_180 0 16 (dk_at dksX3_removeEntry_1 2 rfl rfl)
theorem dX3_removeEntry_29 : decode cX3_removeEntry 29 = .ok (.iload_n 1, 1) := dk_27 (dk_at dksX3_removeEntry_1 5 rfl rfl)
theorem dX3_removeEntry_30 : decode cX3_removeEntry 30 = .ok (.iaload, 1) := dk_46 (dk_at dksX3_removeEntry_1 6 rfl rfl)
theorem dX3_removeEntry_31 : decode cX3_removeEntry 31 = .ok (.istore_n 2, 1) := dk_61 (dk_at dksX3_removeEntry_1 7 rfl rfl)
theorem dX3_removeEntry_32 : decode cX3_removeEntry 32 = .ok (.iload_n 1, 1) := dk_27 (dk_at dksX3_removeEntry_1 8 rfl rfl)
theorem dX3_removeEntry_33 : decode cX3_removeEntry 33 = .ok (.istore_n 3, 1) := dk_62 (dk_at dksX3_removeEntry_1 9 rfl rfl)
theorem dX3_removeEntry_34 : decode cX3_removeEntry 34 = .ok (.iload_n 3, 1) := dk_29 (dk_at dksX3_removeEntry_1 10 rfl rfl)
theorem dX3_removeEntry_35 : decode cX3_removeEntry 35 = .ok (.aload_n 0, 1) := dk_42 (dk_at dksX3_removeEntry_1 11 rfl rfl)
theorem dX3_removeEntry_36 : decode cX3_removeEntry 36 = .ok (.getfield 131, 3) := dk_180 0 131 (dk_at dksX3_removeEntry_1 12 rfl rfl)
theorem dX3_removeEntry_39 : decode cX3_removeEntry 39 = .ok (.iconst 1, 1) := dk_4 (dk_at dksX3_removeEntry_1 15 rfl rfl)
theorem dX3_removeEntry_40 : decode cX3_removeEntry 40 = .ok (.isub, 1) := dk_100 (dk_at dksX3_removeEntry_1 16 rfl rfl)
theorem dX3_removeEntry_41 : decode cX3_removeEntry 41 = .ok (.if_icmp .ge 23, 3) := dk_162 0 23 (dk_at dksX3_removeEntry_1 17 rfl rfl)
theorem dX3_removeEntry_44 : decode cX3_removeEntry 44 = .ok (.aload_n 0, 1) := dk_42 (dk_at dksX3_removeEntry_1 20 rfl rfl)
theorem dX3_removeEntry_45 : decode cX3_removeEntry 45 = .ok (.getfield 16, 3) := dk_180 0 16 (dk_at dksX3_removeEntry_1 21 rfl rfl)
theorem dX3_removeEntry_48 : decode cX3_removeEntry 48 = .ok (.iload_n 3, 1) := dk_29 (dk_at dksX3_removeEntry_2 0 rfl rfl)
theorem dX3_removeEntry_49 : decode cX3_removeEntry 49 = .ok (.aload_n 0, 1) := dk_42 (dk_at dksX3_removeEntry_2 1 rfl rfl)
theorem dX3_removeEntry_50 : decode cX3_removeEntry 50 = .ok (.getfield 16, 3) := dk_180 0 16 (dk_at dksX3_removeEntry_2 2 rfl rfl)
theorem dX3_removeEntry_53 : decode cX3_removeEntry 53 = .ok (.iload_n 3, 1) := dk_29 (dk_at dksX3_removeEntry_2 5 rfl rfl)
theorem dX3_removeEntry_54 : decode cX3_removeEntry 54 = .ok (.iconst 1, 1) := dk_4 (dk_at dksX3_removeEntry_2 6 rfl rfl)
theorem dX3_removeEntry_55 : decode cX3_removeEntry 55 = .ok (.iadd, 1) := dk_96 (dk_at dksX3_removeEntry_2 7 rfl rfl)
theorem dX3_removeEntry_56 : decode cX3_removeEntry 56 = .ok (.iaload, 1) := dk_46 (dk_at dksX3_removeEntry_2 8 rfl rfl)
theorem dX3_removeEntry_57 : decode cX3_removeEntry 57 = .ok (.iastore, 1) := dk_79 (dk_at dksX3_removeEntry_2 9 rfl rfl)
theorem dX3_removeEntry_58 : decode cX3_removeEntry 58 = .ok (.iinc 3 1, 3) := dk_132 3 1 (dk_at dksX3_removeEntry_2 10 rfl rfl)
theorem dX3_removeEntry_61 : decode cX3_removeEntry 61 = .ok (.goto (-27), 3) := dk_167 255 229 (dk_at dksX3_removeEntry_2 13 rfl rfl)
theorem dX3_removeEntry_64 : decode cX3_removeEntry 64 = .ok (.aload_n 0, 1) := dk_42 (dk_at dksX3_removeEntry_2 16 rfl rfl)
theorem dX3_removeEntry_65 : decode cX3_removeEntry 65 = .ok (.dup, 1) := dk_89 (dk_at dksX3_removeEntry_2 17 rfl rfl)
theorem dX3_removeEntry_66 : decode cX3_removeEntry 66 = .ok (.getfield 131, 3) := dk_180 0 131 (dk_at dksX3_removeEntry_2 18 rfl rfl)
theorem dX3_removeEntry_69 : decode cX3_removeEntry 69 = .ok (.iconst 1, 1) := dk_4 (dk_at dksX3_removeEntry_2 21 rfl rfl)
theorem dX3_removeEntry_70 : decode cX3_removeEntry 70 = .ok (.isub, 1) := dk_100 (dk_at dksX3_removeEntry_2 22 rfl rfl)
theorem dX3_removeEntry_71 : decode cX3_removeEntry 71 = .ok (.putfield 131, 3) := dk_181 0 131 (dk_at dksX3_removeEntry_3 0 rfl rfl)
theorem dX3_removeEntry_74 : decode cX3_removeEntry 74 = .ok (.aload_n 0, 1) := dk_42 (dk_at dksX3_removeEntry_3 3 rfl rfl)
theorem dX3_removeEntry_75 : decode cX3_removeEntry 75 = .ok (.iconst 0, 1) := dk_3 (dk_at dksX3_removeEntry_3 4 rfl rfl)
theorem dX3_removeEntry_76 : decode cX3_removeEntry 76 = .ok (.invokevirtual 123, 3) := dk_182 0 123 (dk_at dksX3_removeEntry_3 5 rfl rfl)
theorem dX3_removeEntry_79 : decode cX3_removeEntry 79 = .ok (.iload_n 2, 1) := dk_28 (dk_at dksX3_removeEntry_3 8 rfl rfl)
theorem dX3_removeEntry_80 : decode cX3_removeEntry 80 = .ok (.ireturn, 1) := dk_172 (dk_at dksX3_removeEntry_3 9 rfl rfl)
abbrev cX3_entryCount : ByteArray := prog_12_method_18_code
def yX3_entryCount : MethodName := ⟨RX3, "entryCount", "()I"⟩
def dkwX3_entryCount_0 : List UInt8 := [42, 3, 181, 0, 96, 42, 180, 0, 131, 172]
abbrev dktX3_entryCount_0 : List UInt8 := dkwX3_entryCount_0 ++ []
theorem dksX3_entryCount_0 : cX3_entryCount.data.toList.drop 0 = dktX3_entryCount_0 := by decide +kernel
theorem dX3_entryCount_0 : decode cX3_entryCount 0 = .ok (.aload_n 0, 1) := dk_42 (dk_at dksX3_entryCount_0 0 rfl rfl)
theorem dX3_entryCount_1 : decode cX3_entryCount 1 = .ok (.iconst 0, 1) := dk_3 (dk_at dksX3_entryCount_0 1 rfl rfl)
theorem dX3_entryCount_2 : decode cX3_entryCount 2 = .ok (.putfield 96, 3) := dk_181 0 96 (dk_at dksX3_entryCount_0 2 rfl rfl)
theorem dX3_entryCount_5 : decode cX3_entryCount 5 = .ok (.aload_n 0, 1) := dk_42 (dk_at dksX3_entryCount_0 5 rfl rfl)
theorem dX3_entryCount_6 : decode cX3_entryCount 6 = .ok (.getfield 131, 3) := dk_180 0 131 (dk_at dksX3_entryCount_0 6 rfl rfl)
theorem dX3_entryCount_9 : decode cX3_entryCount 9 = .ok (.ireturn, 1) := dk_172 (dk_at dksX3_entryCount_0 9 rfl rfl)
abbrev cX3_setThreshold : ByteArray := prog_12_method_19_code
def yX3_setThreshold : MethodName := ⟨RX3, "setThreshold", "(I)I"⟩
def dkwX3_setThreshold_1 : List UInt8 := [180, 0, 22, 61, 42, 27, 181, 0, 22, 42, 3, 182, 0, 123, 28, 172]
abbrev dktX3_setThreshold_1 : List UInt8 := dkwX3_setThreshold_1 ++ []
def dkwX3_setThreshold_0 : List UInt8 := [42, 3, 181, 0, 96, 27, 4, 16, 30, 184, 0, 102, 154, 0, 9, 42, 4, 182, 0, 113, 172, 42]
abbrev dktX3_setThreshold_0 : List UInt8 := dkwX3_setThreshold_0 ++ dktX3_setThreshold_1
theorem dksX3_setThreshold_0 : cX3_setThreshold.data.toList.drop 0 = dktX3_setThreshold_0 := by decide +kernel
theorem dksX3_setThreshold_1 : cX3_setThreshold.data.toList.drop 22 = dktX3_setThreshold_1 := dk_seg dksX3_setThreshold_0 22 rfl rfl
theorem dX3_setThreshold_0 : decode cX3_setThreshold 0 = .ok (.aload_n 0, 1) := dk_42 (dk_at dksX3_setThreshold_0 0 rfl rfl)
theorem dX3_setThreshold_1 : decode cX3_setThreshold 1 = .ok (.iconst 0, 1) := dk_3 (dk_at dksX3_setThreshold_0 1 rfl rfl)
theorem dX3_setThreshold_2 : decode cX3_setThreshold 2 = .ok (.putfield 96, 3) := dk_181 0 96 (dk_at dksX3_setThreshold_0 2 rfl rfl)
theorem dX3_setThreshold_5 : decode cX3_setThreshold 5 = .ok (.iload_n 1, 1) := dk_27 (dk_at dksX3_setThreshold_0 5 rfl rfl)
theorem dX3_setThreshold_6 : decode cX3_setThreshold 6 = .ok (.iconst 1, 1) := dk_4 (dk_at dksX3_setThreshold_0 6 rfl rfl)
theorem dX3_setThreshold_7 : decode cX3_setThreshold 7 = .ok (.bipush 30, 2) := dk_16 30 (dk_at dksX3_setThreshold_0 7 rfl rfl)
theorem dX3_setThreshold_9 : decode cX3_setThreshold 9 = .ok (.invokestatic 102, 3) := dk_184 0 102 (dk_at dksX3_setThreshold_0 9 rfl rfl)
theorem dX3_setThreshold_12 : decode cX3_setThreshold 12 = .ok (.ifCond .ne 9, 3) := dk_154 0 9 (dk_at dksX3_setThreshold_0 12 rfl rfl)
theorem dX3_setThreshold_15 : decode cX3_setThreshold 15 = .ok (.aload_n 0, 1) := dk_42 (dk_at dksX3_setThreshold_0 15 rfl rfl)
theorem dX3_setThreshold_16 : decode cX3_setThreshold 16 = .ok (.iconst 1, 1) := dk_4 (dk_at dksX3_setThreshold_0 16 rfl rfl)
theorem dX3_setThreshold_17 : decode cX3_setThreshold 17 = .ok (.invokevirtual 113, 3) := dk_182 0 113 (dk_at dksX3_setThreshold_0 17 rfl rfl)
theorem dX3_setThreshold_20 : decode cX3_setThreshold 20 = .ok (.ireturn, 1) := dk_172 (dk_at dksX3_setThreshold_0 20 rfl rfl)
theorem dX3_setThreshold_21 : decode cX3_setThreshold 21 = .ok (.aload_n 0, 1) := dk_42 (dk_at dksX3_setThreshold_0 21 rfl rfl)
theorem dX3_setThreshold_22 : decode cX3_setThreshold 22 = .ok (.getfield 22, 3) := dk_180 0 22 (dk_at dksX3_setThreshold_1 0 rfl rfl)
theorem dX3_setThreshold_25 : decode cX3_setThreshold 25 = .ok (.istore_n 2, 1) := dk_61 (dk_at dksX3_setThreshold_1 3 rfl rfl)
theorem dX3_setThreshold_26 : decode cX3_setThreshold 26 = .ok (.aload_n 0, 1) := dk_42 (dk_at dksX3_setThreshold_1 4 rfl rfl)
theorem dX3_setThreshold_27 : decode cX3_setThreshold 27 = .ok (.iload_n 1, 1) := dk_27 (dk_at dksX3_setThreshold_1 5 rfl rfl)
theorem dX3_setThreshold_28 : decode cX3_setThreshold 28 = .ok (.putfield 22, 3) := dk_181 0 22 (dk_at dksX3_setThreshold_1 6 rfl rfl)
theorem dX3_setThreshold_31 : decode cX3_setThreshold 31 = .ok (.aload_n 0, 1) := dk_42 (dk_at dksX3_setThreshold_1 9 rfl rfl)
theorem dX3_setThreshold_32 : decode cX3_setThreshold 32 = .ok (.iconst 0, 1) := dk_3 (dk_at dksX3_setThreshold_1 10 rfl rfl)
theorem dX3_setThreshold_33 : decode cX3_setThreshold 33 = .ok (.invokevirtual 123, 3) := dk_182 0 123 (dk_at dksX3_setThreshold_1 11 rfl rfl)
theorem dX3_setThreshold_36 : decode cX3_setThreshold 36 = .ok (.iload_n 2, 1) := dk_28 (dk_at dksX3_setThreshold_1 14 rfl rfl)
theorem dX3_setThreshold_37 : decode cX3_setThreshold 37 = .ok (.ireturn, 1) := dk_172 (dk_at dksX3_setThreshold_1 15 rfl rfl)
abbrev cX3_isValid : ByteArray := prog_12_method_29_code
def yX3_isValid : MethodName := ⟨RX3, "isValid", "(I)Z"⟩
def dkwX3_isValid_1 : List UInt8 := [42, 27, 182, 0, 155, 153, 0, 7, 4, 167, 0, 4, 3, 172]
abbrev dktX3_isValid_1 : List UInt8 := dkwX3_isValid_1 ++ []
def dkwX3_isValid_0 : List UInt8 := [42, 42, 27, 182, 0, 127, 153, 0, 7, 3, 167, 0, 4, 4, 181, 0, 96, 42, 180, 0, 96, 154, 0, 15]
abbrev dktX3_isValid_0 : List UInt8 := dkwX3_isValid_0 ++ dktX3_isValid_1
theorem dksX3_isValid_0 : cX3_isValid.data.toList.drop 0 = dktX3_isValid_0 := by decide +kernel
theorem dksX3_isValid_1 : cX3_isValid.data.toList.drop 24 = dktX3_isValid_1 := dk_seg dksX3_isValid_0 24 rfl rfl
theorem dX3_isValid_0 : decode cX3_isValid 0 = .ok (.aload_n 0, 1) := dk_42 (dk_at dksX3_isValid_0 0 rfl rfl)
theorem dX3_isValid_1 : decode cX3_isValid 1 = .ok (.aload_n 0, 1) := dk_42 (dk_at dksX3_isValid_0 1 rfl rfl)
theorem dX3_isValid_2 : decode cX3_isValid 2 = .ok (.iload_n 1, 1) := dk_27 (dk_at dksX3_isValid_0 2 rfl rfl)
theorem dX3_isValid_3 : decode cX3_isValid 3 = .ok (.invokevirtual 127, 3) := dk_182 0 127 (dk_at dksX3_isValid_0 3 rfl rfl)
theorem dX3_isValid_6 : decode cX3_isValid 6 = .ok (.ifCond .eq 7, 3) := dk_153 0 7 (dk_at dksX3_isValid_0 6 rfl rfl)
theorem dX3_isValid_9 : decode cX3_isValid 9 = .ok (.iconst 0, 1) := dk_3 (dk_at dksX3_isValid_0 9 rfl rfl)
theorem dX3_isValid_10 : decode cX3_isValid 10 = .ok (.goto 4, 3) := dk_167 0 4 (dk_at dksX3_isValid_0 10 rfl rfl)
theorem dX3_isValid_13 : decode cX3_isValid 13 = .ok (.iconst 1, 1) := dk_4 (dk_at dksX3_isValid_0 13 rfl rfl)
theorem dX3_isValid_14 : decode cX3_isValid 14 = .ok (.putfield 96, 3) := dk_181 0 96 (dk_at dksX3_isValid_0 14 rfl rfl)
theorem dX3_isValid_17 : decode cX3_isValid 17 = .ok (.aload_n 0, 1) := dk_42 (dk_at dksX3_isValid_0 17 rfl rfl)
theorem dX3_isValid_18 : decode cX3_isValid 18 = .ok (.getfield 96, 3) := dk_180 0 96 (dk_at dksX3_isValid_0 18 rfl rfl)
theorem dX3_isValid_21 : decode cX3_isValid 21 = .ok (.ifCond .ne 15, 3) := dk_154 0 15 (dk_at dksX3_isValid_0 21 rfl rfl)
theorem dX3_isValid_24 : decode cX3_isValid 24 = .ok (.aload_n 0, 1) := dk_42 (dk_at dksX3_isValid_1 0 rfl rfl)
theorem dX3_isValid_25 : decode cX3_isValid 25 = .ok (.iload_n 1, 1) := dk_27 (dk_at dksX3_isValid_1 1 rfl rfl)
theorem dX3_isValid_26 : decode cX3_isValid 26 = .ok (.invokevirtual 155, 3) := dk_182 0 155 (dk_at dksX3_isValid_1 2 rfl rfl)
theorem dX3_isValid_29 : decode cX3_isValid 29 = .ok (.ifCond .eq 7, 3) := dk_153 0 7 (dk_at dksX3_isValid_1 5 rfl rfl)
theorem dX3_isValid_32 : decode cX3_isValid 32 = .ok (.iconst 1, 1) := dk_4 (dk_at dksX3_isValid_1 8 rfl rfl)
theorem dX3_isValid_33 : decode cX3_isValid 33 = .ok (.goto 4, 3) := dk_167 0 4 (dk_at dksX3_isValid_1 9 rfl rfl)
theorem dX3_isValid_36 : decode cX3_isValid 36 = .ok (.iconst 0, 1) := dk_3 (dk_at dksX3_isValid_1 12 rfl rfl)
theorem dX3_isValid_37 : decode cX3_isValid 37 = .ok (.ireturn, 1) := dk_172 (dk_at dksX3_isValid_1 13 rfl rfl)
abbrev cX3_isSound : ByteArray := prog_12_method_26_code
def yX3_isSound : MethodName := ⟨RX3, "isSound", "(I)Z"⟩
def dkwX3_isSound_2 : List UInt8 := [182, 0, 149, 182, 0, 127, 153, 0, 7, 4, 167, 0, 4, 3, 172]
abbrev dktX3_isSound_2 : List UInt8 := dkwX3_isSound_2 ++ []
def dkwX3_isSound_1 : List UInt8 := [184, 0, 143, 96, 42, 180, 0, 99, 164, 0, 5, 3, 172, 42, 27, 182, 0, 146, 153, 0, 15, 42, 42, 27]
abbrev dktX3_isSound_1 : List UInt8 := dkwX3_isSound_1 ++ dktX3_isSound_2
def dkwX3_isSound_0 : List UInt8 := [42, 27, 182, 0, 127, 153, 0, 30, 42, 27, 182, 0, 140, 16, 13, 163, 0, 20, 27, 42, 27, 182, 0, 140]
abbrev dktX3_isSound_0 : List UInt8 := dkwX3_isSound_0 ++ dktX3_isSound_1
theorem dksX3_isSound_0 : cX3_isSound.data.toList.drop 0 = dktX3_isSound_0 := by decide +kernel
theorem dksX3_isSound_1 : cX3_isSound.data.toList.drop 24 = dktX3_isSound_1 := dk_seg dksX3_isSound_0 24 rfl rfl
theorem dksX3_isSound_2 : cX3_isSound.data.toList.drop 48 = dktX3_isSound_2 := dk_seg dksX3_isSound_1 24 rfl rfl
theorem dX3_isSound_0 : decode cX3_isSound 0 = .ok (.aload_n 0, 1) := dk_42 (dk_at dksX3_isSound_0 0 rfl rfl)
theorem dX3_isSound_1 : decode cX3_isSound 1 = .ok (.iload_n 1, 1) := dk_27 (dk_at dksX3_isSound_0 1 rfl rfl)
theorem dX3_isSound_2 : decode cX3_isSound 2 = .ok (.invokevirtual 127, 3) := dk_182 0 127 (dk_at dksX3_isSound_0 2 rfl rfl)
theorem dX3_isSound_5 : decode cX3_isSound 5 = .ok (.ifCond .eq 30, 3) := dk_153 0 30 (dk_at dksX3_isSound_0 5 rfl rfl)
theorem dX3_isSound_8 : decode cX3_isSound 8 = .ok (.aload_n 0, 1) := dk_42 (dk_at dksX3_isSound_0 8 rfl rfl)
theorem dX3_isSound_9 : decode cX3_isSound 9 = .ok (.iload_n 1, 1) := dk_27 (dk_at dksX3_isSound_0 9 rfl rfl)
theorem dX3_isSound_10 : decode cX3_isSound 10 = .ok (.invokevirtual 140, 3) := dk_182 0 140 (dk_at dksX3_isSound_0 10 rfl rfl)
theorem dX3_isSound_13 : decode cX3_isSound 13 = .ok (.bipush 13, 2) := dk_16 13 (dk_at dksX3_isSound_0 13 rfl rfl)
theorem dX3_isSound_15 : decode cX3_isSound 15 = .ok (.if_icmp .gt 20, 3) := dk_163 0 20 (dk_at dksX3_isSound_0 15 rfl rfl)
theorem dX3_isSound_18 : decode cX3_isSound 18 = .ok (.iload_n 1, 1) := dk_27 (dk_at dksX3_isSound_0 18 rfl rfl)
theorem dX3_isSound_19 : decode cX3_isSound 19 = .ok (.aload_n 0, 1) := dk_42 (dk_at dksX3_isSound_0 19 rfl rfl)
theorem dX3_isSound_20 : decode cX3_isSound 20 = .ok (.iload_n 1, 1) := dk_27 (dk_at dksX3_isSound_0 20 rfl rfl)
theorem dX3_isSound_21 : decode cX3_isSound 21 = .ok (.invokevirtual 140, 3) := dk_182 0 140 (dk_at dksX3_isSound_0 21 rfl rfl)
theorem dX3_isSound_24 : decode cX3_isSound 24 = .ok (.invokestatic 143, 3) := dk_184 0 143 (dk_at dksX3_isSound_1 0 rfl rfl)
theorem dX3_isSound_27 : decode cX3_isSound 27 = .ok (.iadd, 1) := dk_96 (dk_at dksX3_isSound_1 3 rfl rfl)
theorem dX3_isSound_28 : decode cX3_isSound 28 = .ok (.aload_n 0, 1) := dk_42 (dk_at dksX3_isSound_1 4 rfl rfl)
theorem dX3_isSound_29 : decode cX3_isSound 29 = .ok (.getfield 99, 3) := dk_180 0 99 (dk_at dksX3_isSound_1 5 rfl rfl)
theorem dX3_isSound_32 : decode cX3_isSound 32 = .ok (.if_icmp .le 5, 3) := dk_164 0 5 (dk_at dksX3_isSound_1 8 rfl rfl)
theorem dX3_isSound_35 : decode cX3_isSound 35 = .ok (.iconst 0, 1) := dk_3 (dk_at dksX3_isSound_1 11 rfl rfl)
theorem dX3_isSound_36 : decode cX3_isSound 36 = .ok (.ireturn, 1) := dk_172 (dk_at dksX3_isSound_1 12 rfl rfl)
theorem dX3_isSound_37 : decode cX3_isSound 37 = .ok (.aload_n 0, 1) := dk_42 (dk_at dksX3_isSound_1 13 rfl rfl)
theorem dX3_isSound_38 : decode cX3_isSound 38 = .ok (.iload_n 1, 1) := dk_27 (dk_at dksX3_isSound_1 14 rfl rfl)
theorem dX3_isSound_39 : decode cX3_isSound 39 = .ok (.invokevirtual 146, 3) := dk_182 0 146 (dk_at dksX3_isSound_1 15 rfl rfl)
theorem dX3_isSound_42 : decode cX3_isSound 42 = .ok (.ifCond .eq 15, 3) := dk_153 0 15 (dk_at dksX3_isSound_1 18 rfl rfl)
theorem dX3_isSound_45 : decode cX3_isSound 45 = .ok (.aload_n 0, 1) := dk_42 (dk_at dksX3_isSound_1 21 rfl rfl)
theorem dX3_isSound_46 : decode cX3_isSound 46 = .ok (.aload_n 0, 1) := dk_42 (dk_at dksX3_isSound_1 22 rfl rfl)
theorem dX3_isSound_47 : decode cX3_isSound 47 = .ok (.iload_n 1, 1) := dk_27 (dk_at dksX3_isSound_1 23 rfl rfl)
theorem dX3_isSound_48 : decode cX3_isSound 48 = .ok (.invokevirtual 149, 3) := dk_182 0 149 (dk_at dksX3_isSound_2 0 rfl rfl)
theorem dX3_isSound_51 : decode cX3_isSound 51 = .ok (.invokevirtual 127, 3) := dk_182 0 127 (dk_at dksX3_isSound_2 3 rfl rfl)
theorem dX3_isSound_54 : decode cX3_isSound 54 = .ok (.ifCond .eq 7, 3) := dk_153 0 7 (dk_at dksX3_isSound_2 6 rfl rfl)
theorem dX3_isSound_57 : decode cX3_isSound 57 = .ok (.iconst 1, 1) := dk_4 (dk_at dksX3_isSound_2 9 rfl rfl)
theorem dX3_isSound_58 : decode cX3_isSound 58 = .ok (.goto 4, 3) := dk_167 0 4 (dk_at dksX3_isSound_2 10 rfl rfl)
theorem dX3_isSound_61 : decode cX3_isSound 61 = .ok (.iconst 0, 1) := dk_3 (dk_at dksX3_isSound_2 13 rfl rfl)
theorem dX3_isSound_62 : decode cX3_isSound 62 = .ok (.ireturn, 1) := dk_172 (dk_at dksX3_isSound_2 14 rfl rfl)
abbrev cX3_sort : ByteArray := prog_12_method_20_code
def yX3_sort : MethodName := ⟨RX3, "sort", "(I)I"⟩
def dkwX3_sort_0 : List UInt8 := [42, 180, 0, 9, 27, 46, 7, 122, 172]
abbrev dktX3_sort_0 : List UInt8 := dkwX3_sort_0 ++ []
theorem dksX3_sort_0 : cX3_sort.data.toList.drop 0 = dktX3_sort_0 := by decide +kernel
theorem dX3_sort_0 : decode cX3_sort 0 = .ok (.aload_n 0, 1) := dk_42 (dk_at dksX3_sort_0 0 rfl rfl)
theorem dX3_sort_1 : decode cX3_sort 1 = .ok (.getfield 9, 3) := dk_180 0 9 (dk_at dksX3_sort_0 1 rfl rfl)
theorem dX3_sort_4 : decode cX3_sort 4 = .ok (.iload_n 1, 1) := dk_27 (dk_at dksX3_sort_0 4 rfl rfl)
theorem dX3_sort_5 : decode cX3_sort 5 = .ok (.iaload, 1) := dk_46 (dk_at dksX3_sort_0 5 rfl rfl)
theorem dX3_sort_6 : decode cX3_sort 6 = .ok (.iconst 4, 1) := dk_7 (dk_at dksX3_sort_0 6 rfl rfl)
theorem dX3_sort_7 : decode cX3_sort 7 = .ok (.ishr, 1) := dk_122 (dk_at dksX3_sort_0 7 rfl rfl)
theorem dX3_sort_8 : decode cX3_sort 8 = .ok (.ireturn, 1) := dk_172 (dk_at dksX3_sort_0 8 rfl rfl)
abbrev cX3_lengthOf : ByteArray := prog_12_method_22_code
def yX3_lengthOf : MethodName := ⟨RX3, "lengthOf", "(I)I"⟩
def dkwX3_lengthOf_1 : List UInt8 := [160, 0, 7, 4, 167, 0, 4, 5, 172]
abbrev dktX3_lengthOf_1 : List UInt8 := dkwX3_lengthOf_1 ++ []
def dkwX3_lengthOf_0 : List UInt8 := [26, 153, 0, 26, 26, 5, 159, 0, 21, 26, 16, 8, 159, 0, 15, 26, 16, 11, 159, 0, 9, 26, 16, 13]
abbrev dktX3_lengthOf_0 : List UInt8 := dkwX3_lengthOf_0 ++ dktX3_lengthOf_1
theorem dksX3_lengthOf_0 : cX3_lengthOf.data.toList.drop 0 = dktX3_lengthOf_0 := by decide +kernel
theorem dksX3_lengthOf_1 : cX3_lengthOf.data.toList.drop 24 = dktX3_lengthOf_1 := dk_seg dksX3_lengthOf_0 24 rfl rfl
theorem dX3_lengthOf_0 : decode cX3_lengthOf 0 = .ok (.iload_n 0, 1) := dk_26 (dk_at dksX3_lengthOf_0 0 rfl rfl)
theorem dX3_lengthOf_1 : decode cX3_lengthOf 1 = .ok (.ifCond .eq 26, 3) := dk_153 0 26 (dk_at dksX3_lengthOf_0 1 rfl rfl)
theorem dX3_lengthOf_4 : decode cX3_lengthOf 4 = .ok (.iload_n 0, 1) := dk_26 (dk_at dksX3_lengthOf_0 4 rfl rfl)
theorem dX3_lengthOf_5 : decode cX3_lengthOf 5 = .ok (.iconst 2, 1) := dk_5 (dk_at dksX3_lengthOf_0 5 rfl rfl)
theorem dX3_lengthOf_6 : decode cX3_lengthOf 6 = .ok (.if_icmp .eq 21, 3) := dk_159 0 21 (dk_at dksX3_lengthOf_0 6 rfl rfl)
theorem dX3_lengthOf_9 : decode cX3_lengthOf 9 = .ok (.iload_n 0, 1) := dk_26 (dk_at dksX3_lengthOf_0 9 rfl rfl)
theorem dX3_lengthOf_10 : decode cX3_lengthOf 10 = .ok (.bipush 8, 2) := dk_16 8 (dk_at dksX3_lengthOf_0 10 rfl rfl)
theorem dX3_lengthOf_12 : decode cX3_lengthOf 12 = .ok (.if_icmp .eq 15, 3) := dk_159 0 15 (dk_at dksX3_lengthOf_0 12 rfl rfl)
theorem dX3_lengthOf_15 : decode cX3_lengthOf 15 = .ok (.iload_n 0, 1) := dk_26 (dk_at dksX3_lengthOf_0 15 rfl rfl)
theorem dX3_lengthOf_16 : decode cX3_lengthOf 16 = .ok (.bipush 11, 2) := dk_16 11 (dk_at dksX3_lengthOf_0 16 rfl rfl)
theorem dX3_lengthOf_18 : decode cX3_lengthOf 18 = .ok (.if_icmp .eq 9, 3) := dk_159 0 9 (dk_at dksX3_lengthOf_0 18 rfl rfl)
theorem dX3_lengthOf_21 : decode cX3_lengthOf 21 = .ok (.iload_n 0, 1) := dk_26 (dk_at dksX3_lengthOf_0 21 rfl rfl)
theorem dX3_lengthOf_22 : decode cX3_lengthOf 22 = .ok (.bipush 13, 2) := dk_16 13 (dk_at dksX3_lengthOf_0 22 rfl rfl)
theorem dX3_lengthOf_24 : decode cX3_lengthOf 24 = .ok (.if_icmp .ne 7, 3) := dk_160 0 7 (dk_at dksX3_lengthOf_1 0 rfl rfl)
theorem dX3_lengthOf_27 : decode cX3_lengthOf 27 = .ok (.iconst 1, 1) := dk_4 (dk_at dksX3_lengthOf_1 3 rfl rfl)
theorem dX3_lengthOf_28 : decode cX3_lengthOf 28 = .ok (.goto 4, 3) := dk_167 0 4 (dk_at dksX3_lengthOf_1 4 rfl rfl)
theorem dX3_lengthOf_31 : decode cX3_lengthOf 31 = .ok (.iconst 2, 1) := dk_5 (dk_at dksX3_lengthOf_1 7 rfl rfl)
theorem dX3_lengthOf_32 : decode cX3_lengthOf 32 = .ok (.ireturn, 1) := dk_172 (dk_at dksX3_lengthOf_1 8 rfl rfl)
abbrev cX3_hasGoal : ByteArray := prog_12_method_25_code
def yX3_hasGoal : MethodName := ⟨RX3, "hasGoal", "(I)Z"⟩
def dkwX3_hasGoal_0 : List UInt8 := [42, 27, 182, 0, 140, 7, 16, 7, 184, 0, 102, 172]
abbrev dktX3_hasGoal_0 : List UInt8 := dkwX3_hasGoal_0 ++ []
theorem dksX3_hasGoal_0 : cX3_hasGoal.data.toList.drop 0 = dktX3_hasGoal_0 := by decide +kernel
theorem dX3_hasGoal_0 : decode cX3_hasGoal 0 = .ok (.aload_n 0, 1) := dk_42 (dk_at dksX3_hasGoal_0 0 rfl rfl)
theorem dX3_hasGoal_1 : decode cX3_hasGoal 1 = .ok (.iload_n 1, 1) := dk_27 (dk_at dksX3_hasGoal_0 1 rfl rfl)
theorem dX3_hasGoal_2 : decode cX3_hasGoal 2 = .ok (.invokevirtual 140, 3) := dk_182 0 140 (dk_at dksX3_hasGoal_0 2 rfl rfl)
theorem dX3_hasGoal_5 : decode cX3_hasGoal 5 = .ok (.iconst 4, 1) := dk_7 (dk_at dksX3_hasGoal_0 5 rfl rfl)
theorem dX3_hasGoal_6 : decode cX3_hasGoal 6 = .ok (.bipush 7, 2) := dk_16 7 (dk_at dksX3_hasGoal_0 6 rfl rfl)
theorem dX3_hasGoal_8 : decode cX3_hasGoal 8 = .ok (.invokestatic 102, 3) := dk_184 0 102 (dk_at dksX3_hasGoal_0 8 rfl rfl)
theorem dX3_hasGoal_11 : decode cX3_hasGoal 11 = .ok (.ireturn, 1) := dk_172 (dk_at dksX3_hasGoal_0 11 rfl rfl)
abbrev cX3_goal : ByteArray := prog_12_method_24_code
def yX3_goal : MethodName := ⟨RX3, "goal", "(I)I"⟩
def dkwX3_goal_1 : List UInt8 := [182, 0, 137, 17, 1, 0, 100, 96, 172]
abbrev dktX3_goal_1 : List UInt8 := dkwX3_goal_1 ++ []
def dkwX3_goal_0 : List UInt8 := [27, 5, 96, 42, 27, 182, 0, 137, 17, 0, 128, 162, 0, 11, 42, 27, 182, 0, 137, 167, 0, 12, 42, 27]
abbrev dktX3_goal_0 : List UInt8 := dkwX3_goal_0 ++ dktX3_goal_1
theorem dksX3_goal_0 : cX3_goal.data.toList.drop 0 = dktX3_goal_0 := by decide +kernel
theorem dksX3_goal_1 : cX3_goal.data.toList.drop 24 = dktX3_goal_1 := dk_seg dksX3_goal_0 24 rfl rfl
theorem dX3_goal_0 : decode cX3_goal 0 = .ok (.iload_n 1, 1) := dk_27 (dk_at dksX3_goal_0 0 rfl rfl)
theorem dX3_goal_1 : decode cX3_goal 1 = .ok (.iconst 2, 1) := dk_5 (dk_at dksX3_goal_0 1 rfl rfl)
theorem dX3_goal_2 : decode cX3_goal 2 = .ok (.iadd, 1) := dk_96 (dk_at dksX3_goal_0 2 rfl rfl)
theorem dX3_goal_3 : decode cX3_goal 3 = .ok (.aload_n 0, 1) := dk_42 (dk_at dksX3_goal_0 3 rfl rfl)
theorem dX3_goal_4 : decode cX3_goal 4 = .ok (.iload_n 1, 1) := dk_27 (dk_at dksX3_goal_0 4 rfl rfl)
theorem dX3_goal_5 : decode cX3_goal 5 = .ok (.invokevirtual 137, 3) := dk_182 0 137 (dk_at dksX3_goal_0 5 rfl rfl)
theorem dX3_goal_8 : decode cX3_goal 8 = .ok (.sipush 128, 3) := dk_17 0 128 (dk_at dksX3_goal_0 8 rfl rfl)
theorem dX3_goal_11 : decode cX3_goal 11 = .ok (.if_icmp .ge 11, 3) := dk_162 0 11 (dk_at dksX3_goal_0 11 rfl rfl)
theorem dX3_goal_14 : decode cX3_goal 14 = .ok (.aload_n 0, 1) := dk_42 (dk_at dksX3_goal_0 14 rfl rfl)
theorem dX3_goal_15 : decode cX3_goal 15 = .ok (.iload_n 1, 1) := dk_27 (dk_at dksX3_goal_0 15 rfl rfl)
theorem dX3_goal_16 : decode cX3_goal 16 = .ok (.invokevirtual 137, 3) := dk_182 0 137 (dk_at dksX3_goal_0 16 rfl rfl)
theorem dX3_goal_19 : decode cX3_goal 19 = .ok (.goto 12, 3) := dk_167 0 12 (dk_at dksX3_goal_0 19 rfl rfl)
theorem dX3_goal_22 : decode cX3_goal 22 = .ok (.aload_n 0, 1) := dk_42 (dk_at dksX3_goal_0 22 rfl rfl)
theorem dX3_goal_23 : decode cX3_goal 23 = .ok (.iload_n 1, 1) := dk_27 (dk_at dksX3_goal_0 23 rfl rfl)
theorem dX3_goal_24 : decode cX3_goal 24 = .ok (.invokevirtual 137, 3) := dk_182 0 137 (dk_at dksX3_goal_1 0 rfl rfl)
theorem dX3_goal_27 : decode cX3_goal 27 = .ok (.sipush 256, 3) := dk_17 1 0 (dk_at dksX3_goal_1 3 rfl rfl)
theorem dX3_goal_30 : decode cX3_goal 30 = .ok (.isub, 1) := dk_100 (dk_at dksX3_goal_1 6 rfl rfl)
theorem dX3_goal_31 : decode cX3_goal 31 = .ok (.iadd, 1) := dk_96 (dk_at dksX3_goal_1 7 rfl rfl)
theorem dX3_goal_32 : decode cX3_goal 32 = .ok (.ireturn, 1) := dk_172 (dk_at dksX3_goal_1 8 rfl rfl)
abbrev cX3_operand : ByteArray := prog_12_method_23_code
def yX3_operand : MethodName := ⟨RX3, "operand", "(I)I"⟩
def dkwX3_operand_0 : List UInt8 := [42, 180, 0, 9, 27, 4, 96, 46, 172]
abbrev dktX3_operand_0 : List UInt8 := dkwX3_operand_0 ++ []
theorem dksX3_operand_0 : cX3_operand.data.toList.drop 0 = dktX3_operand_0 := by decide +kernel
theorem dX3_operand_0 : decode cX3_operand 0 = .ok (.aload_n 0, 1) := dk_42 (dk_at dksX3_operand_0 0 rfl rfl)
theorem dX3_operand_1 : decode cX3_operand 1 = .ok (.getfield 9, 3) := dk_180 0 9 (dk_at dksX3_operand_0 1 rfl rfl)
theorem dX3_operand_4 : decode cX3_operand 4 = .ok (.iload_n 1, 1) := dk_27 (dk_at dksX3_operand_0 4 rfl rfl)
theorem dX3_operand_5 : decode cX3_operand 5 = .ok (.iconst 1, 1) := dk_4 (dk_at dksX3_operand_0 5 rfl rfl)
theorem dX3_operand_6 : decode cX3_operand 6 = .ok (.iadd, 1) := dk_96 (dk_at dksX3_operand_0 6 rfl rfl)
theorem dX3_operand_7 : decode cX3_operand 7 = .ok (.iaload, 1) := dk_46 (dk_at dksX3_operand_0 7 rfl rfl)
theorem dX3_operand_8 : decode cX3_operand 8 = .ok (.ireturn, 1) := dk_172 (dk_at dksX3_operand_0 8 rfl rfl)
abbrev cX3_decode : ByteArray := prog_12_method_30_code
def yX3_decode : MethodName := ⟨RX3, "decode", "(II)I"⟩
def dkwX3_decode_7 : List UInt8 := [182, 0, 149, 167, 0, 8, 42, 6, 182, 0, 113, 172]
abbrev dktX3_decode_7 : List UInt8 := dkwX3_decode_7 ++ []
def dkwX3_decode_6 : List UInt8 := [182, 0, 137, 167, 0, 8, 42, 6, 182, 0, 113, 172, 42, 27, 182, 0, 146, 153, 0, 11, 42, 27]
abbrev dktX3_decode_6 : List UInt8 := dkwX3_decode_6 ++ dktX3_decode_7
def dkwX3_decode_5 : List UInt8 := [180, 0, 9, 27, 46, 6, 126, 172, 42, 27, 182, 0, 140, 184, 0, 143, 5, 160, 0, 11, 42, 27]
abbrev dktX3_decode_5 : List UInt8 := dkwX3_decode_5 ++ dktX3_decode_6
def dkwX3_decode_4 : List UInt8 := [42, 27, 182, 0, 140, 172, 42, 27, 182, 0, 140, 184, 0, 143, 172, 42, 27, 182, 0, 158, 172, 42]
abbrev dktX3_decode_4 : List UInt8 := dkwX3_decode_4 ++ dktX3_decode_5
def dkwX3_decode_3 : List UInt8 := [170, 0, 0, 0, 0, 0, 91, 0, 0, 0, 0, 0, 0, 0, 4, 0, 0, 0, 35, 0, 0, 0, 41, 0, 0, 0, 50, 0, 0, 0, 56, 0, 0, 0, 65]
abbrev dktX3_decode_3 : List UInt8 := dkwX3_decode_3 ++ dktX3_decode_4
def dkwX3_decode_2 : List UInt8 := [182, 0, 113, 172, 28]
abbrev dktX3_decode_2 : List UInt8 := dkwX3_decode_2 ++ dktX3_decode_3
def dkwX3_decode_1 : List UInt8 := [184, 0, 102, 154, 0, 9, 42, 5, 182, 0, 113, 172, 42, 27, 182, 0, 155, 154, 0, 9, 42, 6]
abbrev dktX3_decode_1 : List UInt8 := dkwX3_decode_1 ++ dktX3_decode_2
def dkwX3_decode_0 : List UInt8 := [42, 3, 181, 0, 96, 42, 27, 182, 0, 127, 154, 0, 9, 42, 4, 182, 0, 113, 172, 28, 3, 8]
abbrev dktX3_decode_0 : List UInt8 := dkwX3_decode_0 ++ dktX3_decode_1
theorem dksX3_decode_0 : cX3_decode.data.toList.drop 0 = dktX3_decode_0 := by decide +kernel
theorem dksX3_decode_1 : cX3_decode.data.toList.drop 22 = dktX3_decode_1 := dk_seg dksX3_decode_0 22 rfl rfl
theorem dksX3_decode_2 : cX3_decode.data.toList.drop 44 = dktX3_decode_2 := dk_seg dksX3_decode_1 22 rfl rfl
theorem dksX3_decode_3 : cX3_decode.data.toList.drop 49 = dktX3_decode_3 := dk_seg dksX3_decode_2 5 rfl rfl
theorem dksX3_decode_4 : cX3_decode.data.toList.drop 84 = dktX3_decode_4 := dk_seg dksX3_decode_3 35 rfl rfl
theorem dksX3_decode_5 : cX3_decode.data.toList.drop 106 = dktX3_decode_5 := dk_seg dksX3_decode_4 22 rfl rfl
theorem dksX3_decode_6 : cX3_decode.data.toList.drop 128 = dktX3_decode_6 := dk_seg dksX3_decode_5 22 rfl rfl
theorem dksX3_decode_7 : cX3_decode.data.toList.drop 150 = dktX3_decode_7 := dk_seg dksX3_decode_6 22 rfl rfl
theorem dX3_decode_0 : decode cX3_decode 0 = .ok (.aload_n 0, 1) := dk_42 (dk_at dksX3_decode_0 0 rfl rfl)
theorem dX3_decode_1 : decode cX3_decode 1 = .ok (.iconst 0, 1) := dk_3 (dk_at dksX3_decode_0 1 rfl rfl)
theorem dX3_decode_2 : decode cX3_decode 2 = .ok (.putfield 96, 3) := dk_181 0 96 (dk_at dksX3_decode_0 2 rfl rfl)
theorem dX3_decode_5 : decode cX3_decode 5 = .ok (.aload_n 0, 1) := dk_42 (dk_at dksX3_decode_0 5 rfl rfl)
theorem dX3_decode_6 : decode cX3_decode 6 = .ok (.iload_n 1, 1) := dk_27 (dk_at dksX3_decode_0 6 rfl rfl)
theorem dX3_decode_7 : decode cX3_decode 7 = .ok (.invokevirtual 127, 3) := dk_182 0 127 (dk_at dksX3_decode_0 7 rfl rfl)
theorem dX3_decode_10 : decode cX3_decode 10 = .ok (.ifCond .ne 9, 3) := dk_154 0 9 (dk_at dksX3_decode_0 10 rfl rfl)
theorem dX3_decode_13 : decode cX3_decode 13 = .ok (.aload_n 0, 1) := dk_42 (dk_at dksX3_decode_0 13 rfl rfl)
theorem dX3_decode_14 : decode cX3_decode 14 = .ok (.iconst 1, 1) := dk_4 (dk_at dksX3_decode_0 14 rfl rfl)
theorem dX3_decode_15 : decode cX3_decode 15 = .ok (.invokevirtual 113, 3) := dk_182 0 113 (dk_at dksX3_decode_0 15 rfl rfl)
theorem dX3_decode_18 : decode cX3_decode 18 = .ok (.ireturn, 1) := dk_172 (dk_at dksX3_decode_0 18 rfl rfl)
theorem dX3_decode_19 : decode cX3_decode 19 = .ok (.iload_n 2, 1) := dk_28 (dk_at dksX3_decode_0 19 rfl rfl)
theorem dX3_decode_20 : decode cX3_decode 20 = .ok (.iconst 0, 1) := dk_3 (dk_at dksX3_decode_0 20 rfl rfl)
theorem dX3_decode_21 : decode cX3_decode 21 = .ok (.iconst 5, 1) := dk_8 (dk_at dksX3_decode_0 21 rfl rfl)
theorem dX3_decode_22 : decode cX3_decode 22 = .ok (.invokestatic 102, 3) := dk_184 0 102 (dk_at dksX3_decode_1 0 rfl rfl)
theorem dX3_decode_25 : decode cX3_decode 25 = .ok (.ifCond .ne 9, 3) := dk_154 0 9 (dk_at dksX3_decode_1 3 rfl rfl)
theorem dX3_decode_28 : decode cX3_decode 28 = .ok (.aload_n 0, 1) := dk_42 (dk_at dksX3_decode_1 6 rfl rfl)
theorem dX3_decode_29 : decode cX3_decode 29 = .ok (.iconst 2, 1) := dk_5 (dk_at dksX3_decode_1 7 rfl rfl)
theorem dX3_decode_30 : decode cX3_decode 30 = .ok (.invokevirtual 113, 3) := dk_182 0 113 (dk_at dksX3_decode_1 8 rfl rfl)
theorem dX3_decode_33 : decode cX3_decode 33 = .ok (.ireturn, 1) := dk_172 (dk_at dksX3_decode_1 11 rfl rfl)
theorem dX3_decode_34 : decode cX3_decode 34 = .ok (.aload_n 0, 1) := dk_42 (dk_at dksX3_decode_1 12 rfl rfl)
theorem dX3_decode_35 : decode cX3_decode 35 = .ok (.iload_n 1, 1) := dk_27 (dk_at dksX3_decode_1 13 rfl rfl)
theorem dX3_decode_36 : decode cX3_decode 36 = .ok (.invokevirtual 155, 3) := dk_182 0 155 (dk_at dksX3_decode_1 14 rfl rfl)
theorem dX3_decode_39 : decode cX3_decode 39 = .ok (.ifCond .ne 9, 3) := dk_154 0 9 (dk_at dksX3_decode_1 17 rfl rfl)
theorem dX3_decode_42 : decode cX3_decode 42 = .ok (.aload_n 0, 1) := dk_42 (dk_at dksX3_decode_1 20 rfl rfl)
theorem dX3_decode_43 : decode cX3_decode 43 = .ok (.iconst 3, 1) := dk_6 (dk_at dksX3_decode_1 21 rfl rfl)
theorem dX3_decode_44 : decode cX3_decode 44 = .ok (.invokevirtual 113, 3) := dk_182 0 113 (dk_at dksX3_decode_2 0 rfl rfl)
theorem dX3_decode_47 : decode cX3_decode 47 = .ok (.ireturn, 1) := dk_172 (dk_at dksX3_decode_2 3 rfl rfl)
theorem dX3_decode_48 : decode cX3_decode 48 = .ok (.iload_n 2, 1) := dk_28 (dk_at dksX3_decode_2 4 rfl rfl)
theorem dX3_decode_49 : decode cX3_decode 49 = .ok (.tableswitch 91 0 4 #[35, 41, 50, 56, 65], 35) := by decide +kernel
theorem dX3_decode_84 : decode cX3_decode 84 = .ok (.aload_n 0, 1) := dk_42 (dk_at dksX3_decode_4 0 rfl rfl)
theorem dX3_decode_85 : decode cX3_decode 85 = .ok (.iload_n 1, 1) := dk_27 (dk_at dksX3_decode_4 1 rfl rfl)
theorem dX3_decode_86 : decode cX3_decode 86 = .ok (.invokevirtual 140, 3) := dk_182 0 140 (dk_at dksX3_decode_4 2 rfl rfl)
theorem dX3_decode_89 : decode cX3_decode 89 = .ok (.ireturn, 1) := dk_172 (dk_at dksX3_decode_4 5 rfl rfl)
theorem dX3_decode_90 : decode cX3_decode 90 = .ok (.aload_n 0, 1) := dk_42 (dk_at dksX3_decode_4 6 rfl rfl)
theorem dX3_decode_91 : decode cX3_decode 91 = .ok (.iload_n 1, 1) := dk_27 (dk_at dksX3_decode_4 7 rfl rfl)
theorem dX3_decode_92 : decode cX3_decode 92 = .ok (.invokevirtual 140, 3) := dk_182 0 140 (dk_at dksX3_decode_4 8 rfl rfl)
theorem dX3_decode_95 : decode cX3_decode 95 = .ok (.invokestatic 143, 3) := dk_184 0 143 (dk_at dksX3_decode_4 11 rfl rfl)
theorem dX3_decode_98 : decode cX3_decode 98 = .ok (.ireturn, 1) := dk_172 (dk_at dksX3_decode_4 14 rfl rfl)
theorem dX3_decode_99 : decode cX3_decode 99 = .ok (.aload_n 0, 1) := dk_42 (dk_at dksX3_decode_4 15 rfl rfl)
theorem dX3_decode_100 : decode cX3_decode 100 = .ok (.iload_n 1, 1) := dk_27 (dk_at dksX3_decode_4 16 rfl rfl)
theorem dX3_decode_101 : decode cX3_decode 101 = .ok (.invokevirtual 158, 3) := dk_182 0 158 (dk_at dksX3_decode_4 17 rfl rfl)
theorem dX3_decode_104 : decode cX3_decode 104 = .ok (.ireturn, 1) := dk_172 (dk_at dksX3_decode_4 20 rfl rfl)
theorem dX3_decode_105 : decode cX3_decode 105 = .ok (.aload_n 0, 1) := dk_42 (dk_at dksX3_decode_4 21 rfl rfl)
theorem dX3_decode_106 : decode cX3_decode 106 = .ok (.getfield 9, 3) := dk_180 0 9 (dk_at dksX3_decode_5 0 rfl rfl)
theorem dX3_decode_109 : decode cX3_decode 109 = .ok (.iload_n 1, 1) := dk_27 (dk_at dksX3_decode_5 3 rfl rfl)
theorem dX3_decode_110 : decode cX3_decode 110 = .ok (.iaload, 1) := dk_46 (dk_at dksX3_decode_5 4 rfl rfl)
theorem dX3_decode_111 : decode cX3_decode 111 = .ok (.iconst 3, 1) := dk_6 (dk_at dksX3_decode_5 5 rfl rfl)
theorem dX3_decode_112 : decode cX3_decode 112 = .ok (.iand, 1) := dk_126 (dk_at dksX3_decode_5 6 rfl rfl)
theorem dX3_decode_113 : decode cX3_decode 113 = .ok (.ireturn, 1) := dk_172 (dk_at dksX3_decode_5 7 rfl rfl)
theorem dX3_decode_114 : decode cX3_decode 114 = .ok (.aload_n 0, 1) := dk_42 (dk_at dksX3_decode_5 8 rfl rfl)
theorem dX3_decode_115 : decode cX3_decode 115 = .ok (.iload_n 1, 1) := dk_27 (dk_at dksX3_decode_5 9 rfl rfl)
theorem dX3_decode_116 : decode cX3_decode 116 = .ok (.invokevirtual 140, 3) := dk_182 0 140 (dk_at dksX3_decode_5 10 rfl rfl)
theorem dX3_decode_119 : decode cX3_decode 119 = .ok (.invokestatic 143, 3) := dk_184 0 143 (dk_at dksX3_decode_5 13 rfl rfl)
theorem dX3_decode_122 : decode cX3_decode 122 = .ok (.iconst 2, 1) := dk_5 (dk_at dksX3_decode_5 16 rfl rfl)
theorem dX3_decode_123 : decode cX3_decode 123 = .ok (.if_icmp .ne 11, 3) := dk_160 0 11 (dk_at dksX3_decode_5 17 rfl rfl)
theorem dX3_decode_126 : decode cX3_decode 126 = .ok (.aload_n 0, 1) := dk_42 (dk_at dksX3_decode_5 20 rfl rfl)
theorem dX3_decode_127 : decode cX3_decode 127 = .ok (.iload_n 1, 1) := dk_27 (dk_at dksX3_decode_5 21 rfl rfl)
theorem dX3_decode_128 : decode cX3_decode 128 = .ok (.invokevirtual 137, 3) := dk_182 0 137 (dk_at dksX3_decode_6 0 rfl rfl)
theorem dX3_decode_131 : decode cX3_decode 131 = .ok (.goto 8, 3) := dk_167 0 8 (dk_at dksX3_decode_6 3 rfl rfl)
theorem dX3_decode_134 : decode cX3_decode 134 = .ok (.aload_n 0, 1) := dk_42 (dk_at dksX3_decode_6 6 rfl rfl)
theorem dX3_decode_135 : decode cX3_decode 135 = .ok (.iconst 3, 1) := dk_6 (dk_at dksX3_decode_6 7 rfl rfl)
theorem dX3_decode_136 : decode cX3_decode 136 = .ok (.invokevirtual 113, 3) := dk_182 0 113 (dk_at dksX3_decode_6 8 rfl rfl)
theorem dX3_decode_139 : decode cX3_decode 139 = .ok (.ireturn, 1) := dk_172 (dk_at dksX3_decode_6 11 rfl rfl)
theorem dX3_decode_140 : decode cX3_decode 140 = .ok (.aload_n 0, 1) := dk_42 (dk_at dksX3_decode_6 12 rfl rfl)
theorem dX3_decode_141 : decode cX3_decode 141 = .ok (.iload_n 1, 1) := dk_27 (dk_at dksX3_decode_6 13 rfl rfl)
theorem dX3_decode_142 : decode cX3_decode 142 = .ok (.invokevirtual 146, 3) := dk_182 0 146 (dk_at dksX3_decode_6 14 rfl rfl)
theorem dX3_decode_145 : decode cX3_decode 145 = .ok (.ifCond .eq 11, 3) := dk_153 0 11 (dk_at dksX3_decode_6 17 rfl rfl)
theorem dX3_decode_148 : decode cX3_decode 148 = .ok (.aload_n 0, 1) := dk_42 (dk_at dksX3_decode_6 20 rfl rfl)
theorem dX3_decode_149 : decode cX3_decode 149 = .ok (.iload_n 1, 1) := dk_27 (dk_at dksX3_decode_6 21 rfl rfl)
theorem dX3_decode_150 : decode cX3_decode 150 = .ok (.invokevirtual 149, 3) := dk_182 0 149 (dk_at dksX3_decode_7 0 rfl rfl)
theorem dX3_decode_153 : decode cX3_decode 153 = .ok (.goto 8, 3) := dk_167 0 8 (dk_at dksX3_decode_7 3 rfl rfl)
theorem dX3_decode_156 : decode cX3_decode 156 = .ok (.aload_n 0, 1) := dk_42 (dk_at dksX3_decode_7 6 rfl rfl)
theorem dX3_decode_157 : decode cX3_decode 157 = .ok (.iconst 3, 1) := dk_6 (dk_at dksX3_decode_7 7 rfl rfl)
theorem dX3_decode_158 : decode cX3_decode 158 = .ok (.invokevirtual 113, 3) := dk_182 0 113 (dk_at dksX3_decode_7 8 rfl rfl)
theorem dX3_decode_161 : decode cX3_decode 161 = .ok (.ireturn, 1) := dk_172 (dk_at dksX3_decode_7 11 rfl rfl)
abbrev cX3_first : ByteArray := prog_12_method_21_code
def yX3_first : MethodName := ⟨RX3, "first", "(I)I"⟩
def dkwX3_first_0 : List UInt8 := [42, 180, 0, 9, 27, 46, 5, 122, 6, 126, 172]
abbrev dktX3_first_0 : List UInt8 := dkwX3_first_0 ++ []
theorem dksX3_first_0 : cX3_first.data.toList.drop 0 = dktX3_first_0 := by decide +kernel
theorem dX3_first_0 : decode cX3_first 0 = .ok (.aload_n 0, 1) := dk_42 (dk_at dksX3_first_0 0 rfl rfl)
theorem dX3_first_1 : decode cX3_first 1 = .ok (.getfield 9, 3) := dk_180 0 9 (dk_at dksX3_first_0 1 rfl rfl)
theorem dX3_first_4 : decode cX3_first 4 = .ok (.iload_n 1, 1) := dk_27 (dk_at dksX3_first_0 4 rfl rfl)
theorem dX3_first_5 : decode cX3_first 5 = .ok (.iaload, 1) := dk_46 (dk_at dksX3_first_0 5 rfl rfl)
theorem dX3_first_6 : decode cX3_first 6 = .ok (.iconst 2, 1) := dk_5 (dk_at dksX3_first_0 6 rfl rfl)
theorem dX3_first_7 : decode cX3_first 7 = .ok (.ishr, 1) := dk_122 (dk_at dksX3_first_0 7 rfl rfl)
theorem dX3_first_8 : decode cX3_first 8 = .ok (.iconst 3, 1) := dk_6 (dk_at dksX3_first_0 8 rfl rfl)
theorem dX3_first_9 : decode cX3_first 9 = .ok (.iand, 1) := dk_126 (dk_at dksX3_first_0 9 rfl rfl)
theorem dX3_first_10 : decode cX3_first 10 = .ok (.ireturn, 1) := dk_172 (dk_at dksX3_first_0 10 rfl rfl)
abbrev cX3_recover : ByteArray := prog_12_method_48_code
def yX3_recover : MethodName := ⟨RX3, "recover", "()I"⟩
def dkwX3_recover_7 : List UInt8 := [42, 182, 0, 235, 42, 4, 181, 0, 106, 42, 180, 0, 170, 172]
abbrev dktX3_recover_7 : List UInt8 := dkwX3_recover_7 ++ []
def dkwX3_recover_6 : List UInt8 := [27, 42, 180, 0, 161, 162, 0, 19, 42, 42, 180, 0, 51, 27, 46, 182, 0, 232, 132, 1, 1, 167, 255, 235]
abbrev dktX3_recover_6 : List UInt8 := dkwX3_recover_6 ++ dktX3_recover_7
def dkwX3_recover_5 : List UInt8 := [180, 0, 131, 162, 0, 19, 42, 42, 180, 0, 16, 27, 46, 182, 0, 173, 132, 1, 1, 167, 255, 235, 3, 60]
abbrev dktX3_recover_5 : List UInt8 := dkwX3_recover_5 ++ dktX3_recover_6
def dkwX3_recover_4 : List UInt8 := [181, 0, 164, 42, 3, 181, 0, 202, 42, 3, 181, 0, 223, 42, 3, 181, 0, 217, 3, 60, 27, 42]
abbrev dktX3_recover_4 : List UInt8 := dkwX3_recover_4 ++ dktX3_recover_5
def dkwX3_recover_3 : List UInt8 := [132, 1, 1, 167, 255, 239, 42, 3, 181, 0, 161, 42, 3, 181, 0, 170, 42, 3, 181, 0, 167, 42, 3]
abbrev dktX3_recover_3 : List UInt8 := dkwX3_recover_3 ++ dktX3_recover_4
def dkwX3_recover_2 : List UInt8 := [132, 1, 1, 167, 255, 212, 3, 60, 27, 17, 1, 0, 162, 0, 16, 42, 180, 0, 48, 27, 3, 84]
abbrev dktX3_recover_2 : List UInt8 := dkwX3_recover_2 ++ dktX3_recover_3
def dkwX3_recover_1 : List UInt8 := [27, 2, 79, 42, 180, 0, 38, 27, 3, 79, 42, 180, 0, 41, 27, 2, 79, 42, 180, 0, 44, 27, 3, 84]
abbrev dktX3_recover_1 : List UInt8 := dkwX3_recover_1 ++ dktX3_recover_2
def dkwX3_recover_0 : List UInt8 := [42, 3, 181, 0, 96, 3, 60, 27, 16, 96, 162, 0, 44, 42, 180, 0, 32, 27, 3, 79, 42, 180, 0, 35]
abbrev dktX3_recover_0 : List UInt8 := dkwX3_recover_0 ++ dktX3_recover_1
theorem dksX3_recover_0 : cX3_recover.data.toList.drop 0 = dktX3_recover_0 := by decide +kernel
theorem dksX3_recover_1 : cX3_recover.data.toList.drop 24 = dktX3_recover_1 := dk_seg dksX3_recover_0 24 rfl rfl
theorem dksX3_recover_2 : cX3_recover.data.toList.drop 48 = dktX3_recover_2 := dk_seg dksX3_recover_1 24 rfl rfl
theorem dksX3_recover_3 : cX3_recover.data.toList.drop 70 = dktX3_recover_3 := dk_seg dksX3_recover_2 22 rfl rfl
theorem dksX3_recover_4 : cX3_recover.data.toList.drop 93 = dktX3_recover_4 := dk_seg dksX3_recover_3 23 rfl rfl
theorem dksX3_recover_5 : cX3_recover.data.toList.drop 115 = dktX3_recover_5 := dk_seg dksX3_recover_4 22 rfl rfl
theorem dksX3_recover_6 : cX3_recover.data.toList.drop 139 = dktX3_recover_6 := dk_seg dksX3_recover_5 24 rfl rfl
theorem dksX3_recover_7 : cX3_recover.data.toList.drop 163 = dktX3_recover_7 := dk_seg dksX3_recover_6 24 rfl rfl
theorem dX3_recover_0 : decode cX3_recover 0 = .ok (.aload_n 0, 1) := dk_42 (dk_at dksX3_recover_0 0 rfl rfl)
theorem dX3_recover_1 : decode cX3_recover 1 = .ok (.iconst 0, 1) := dk_3 (dk_at dksX3_recover_0 1 rfl rfl)
theorem dX3_recover_2 : decode cX3_recover 2 = .ok (.putfield 96, 3) := dk_181 0 96 (dk_at dksX3_recover_0 2 rfl rfl)
theorem dX3_recover_5 : decode cX3_recover 5 = .ok (.iconst 0, 1) := dk_3 (dk_at dksX3_recover_0 5 rfl rfl)
theorem dX3_recover_6 : decode cX3_recover 6 = .ok (.istore_n 1, 1) := dk_60 (dk_at dksX3_recover_0 6 rfl rfl)
theorem dX3_recover_7 : decode cX3_recover 7 = .ok (.iload_n 1, 1) := dk_27 (dk_at dksX3_recover_0 7 rfl rfl)
theorem dX3_recover_8 : decode cX3_recover 8 = .ok (.bipush 96, 2) := dk_16 96 (dk_at dksX3_recover_0 8 rfl rfl)
theorem dX3_recover_10 : decode cX3_recover 10 = .ok (.if_icmp .ge 44, 3) := dk_162 0 44 (dk_at dksX3_recover_0 10 rfl rfl)
theorem dX3_recover_13 : decode cX3_recover 13 = .ok (.aload_n 0, 1) := dk_42 (dk_at dksX3_recover_0 13 rfl rfl)
theorem dX3_recover_14 : decode cX3_recover 14 = .ok (.getfield 32, 3) := dk_180 0 32 (dk_at dksX3_recover_0 14 rfl rfl)
theorem dX3_recover_17 : decode cX3_recover 17 = .ok (.iload_n 1, 1) := dk_27 (dk_at dksX3_recover_0 17 rfl rfl)
theorem dX3_recover_18 : decode cX3_recover 18 = .ok (.iconst 0, 1) := dk_3 (dk_at dksX3_recover_0 18 rfl rfl)
theorem dX3_recover_19 : decode cX3_recover 19 = .ok (.iastore, 1) := dk_79 (dk_at dksX3_recover_0 19 rfl rfl)
theorem dX3_recover_20 : decode cX3_recover 20 = .ok (.aload_n 0, 1) := dk_42 (dk_at dksX3_recover_0 20 rfl rfl)
theorem dX3_recover_21 : decode cX3_recover 21 = .ok (.getfield 35, 3) := dk_180 0 35 (dk_at dksX3_recover_0 21 rfl rfl)
theorem dX3_recover_24 : decode cX3_recover 24 = .ok (.iload_n 1, 1) := dk_27 (dk_at dksX3_recover_1 0 rfl rfl)
theorem dX3_recover_25 : decode cX3_recover 25 = .ok (.iconst (-1), 1) := dk_2 (dk_at dksX3_recover_1 1 rfl rfl)
theorem dX3_recover_26 : decode cX3_recover 26 = .ok (.iastore, 1) := dk_79 (dk_at dksX3_recover_1 2 rfl rfl)
theorem dX3_recover_27 : decode cX3_recover 27 = .ok (.aload_n 0, 1) := dk_42 (dk_at dksX3_recover_1 3 rfl rfl)
theorem dX3_recover_28 : decode cX3_recover 28 = .ok (.getfield 38, 3) := dk_180 0 38 (dk_at dksX3_recover_1 4 rfl rfl)
theorem dX3_recover_31 : decode cX3_recover 31 = .ok (.iload_n 1, 1) := dk_27 (dk_at dksX3_recover_1 7 rfl rfl)
theorem dX3_recover_32 : decode cX3_recover 32 = .ok (.iconst 0, 1) := dk_3 (dk_at dksX3_recover_1 8 rfl rfl)
theorem dX3_recover_33 : decode cX3_recover 33 = .ok (.iastore, 1) := dk_79 (dk_at dksX3_recover_1 9 rfl rfl)
theorem dX3_recover_34 : decode cX3_recover 34 = .ok (.aload_n 0, 1) := dk_42 (dk_at dksX3_recover_1 10 rfl rfl)
theorem dX3_recover_35 : decode cX3_recover 35 = .ok (.getfield 41, 3) := dk_180 0 41 (dk_at dksX3_recover_1 11 rfl rfl)
theorem dX3_recover_38 : decode cX3_recover 38 = .ok (.iload_n 1, 1) := dk_27 (dk_at dksX3_recover_1 14 rfl rfl)
theorem dX3_recover_39 : decode cX3_recover 39 = .ok (.iconst (-1), 1) := dk_2 (dk_at dksX3_recover_1 15 rfl rfl)
theorem dX3_recover_40 : decode cX3_recover 40 = .ok (.iastore, 1) := dk_79 (dk_at dksX3_recover_1 16 rfl rfl)
theorem dX3_recover_41 : decode cX3_recover 41 = .ok (.aload_n 0, 1) := dk_42 (dk_at dksX3_recover_1 17 rfl rfl)
theorem dX3_recover_42 : decode cX3_recover 42 = .ok (.getfield 44, 3) := dk_180 0 44 (dk_at dksX3_recover_1 18 rfl rfl)
theorem dX3_recover_45 : decode cX3_recover 45 = .ok (.iload_n 1, 1) := dk_27 (dk_at dksX3_recover_1 21 rfl rfl)
theorem dX3_recover_46 : decode cX3_recover 46 = .ok (.iconst 0, 1) := dk_3 (dk_at dksX3_recover_1 22 rfl rfl)
theorem dX3_recover_47 : decode cX3_recover 47 = .ok (.bastore, 1) := dk_84 (dk_at dksX3_recover_1 23 rfl rfl)
theorem dX3_recover_48 : decode cX3_recover 48 = .ok (.iinc 1 1, 3) := dk_132 1 1 (dk_at dksX3_recover_2 0 rfl rfl)
theorem dX3_recover_51 : decode cX3_recover 51 = .ok (.goto (-44), 3) := dk_167 255 212 (dk_at dksX3_recover_2 3 rfl rfl)
theorem dX3_recover_54 : decode cX3_recover 54 = .ok (.iconst 0, 1) := dk_3 (dk_at dksX3_recover_2 6 rfl rfl)
theorem dX3_recover_55 : decode cX3_recover 55 = .ok (.istore_n 1, 1) := dk_60 (dk_at dksX3_recover_2 7 rfl rfl)
theorem dX3_recover_56 : decode cX3_recover 56 = .ok (.iload_n 1, 1) := dk_27 (dk_at dksX3_recover_2 8 rfl rfl)
theorem dX3_recover_57 : decode cX3_recover 57 = .ok (.sipush 256, 3) := dk_17 1 0 (dk_at dksX3_recover_2 9 rfl rfl)
theorem dX3_recover_60 : decode cX3_recover 60 = .ok (.if_icmp .ge 16, 3) := dk_162 0 16 (dk_at dksX3_recover_2 12 rfl rfl)
theorem dX3_recover_63 : decode cX3_recover 63 = .ok (.aload_n 0, 1) := dk_42 (dk_at dksX3_recover_2 15 rfl rfl)
theorem dX3_recover_64 : decode cX3_recover 64 = .ok (.getfield 48, 3) := dk_180 0 48 (dk_at dksX3_recover_2 16 rfl rfl)
theorem dX3_recover_67 : decode cX3_recover 67 = .ok (.iload_n 1, 1) := dk_27 (dk_at dksX3_recover_2 19 rfl rfl)
theorem dX3_recover_68 : decode cX3_recover 68 = .ok (.iconst 0, 1) := dk_3 (dk_at dksX3_recover_2 20 rfl rfl)
theorem dX3_recover_69 : decode cX3_recover 69 = .ok (.bastore, 1) := dk_84 (dk_at dksX3_recover_2 21 rfl rfl)
theorem dX3_recover_70 : decode cX3_recover 70 = .ok (.iinc 1 1, 3) := dk_132 1 1 (dk_at dksX3_recover_3 0 rfl rfl)
theorem dX3_recover_73 : decode cX3_recover 73 = .ok (.goto (-17), 3) := dk_167 255 239 (dk_at dksX3_recover_3 3 rfl rfl)
theorem dX3_recover_76 : decode cX3_recover 76 = .ok (.aload_n 0, 1) := dk_42 (dk_at dksX3_recover_3 6 rfl rfl)
theorem dX3_recover_77 : decode cX3_recover 77 = .ok (.iconst 0, 1) := dk_3 (dk_at dksX3_recover_3 7 rfl rfl)
theorem dX3_recover_78 : decode cX3_recover 78 = .ok (.putfield 161, 3) := dk_181 0 161 (dk_at dksX3_recover_3 8 rfl rfl)
theorem dX3_recover_81 : decode cX3_recover 81 = .ok (.aload_n 0, 1) := dk_42 (dk_at dksX3_recover_3 11 rfl rfl)
theorem dX3_recover_82 : decode cX3_recover 82 = .ok (.iconst 0, 1) := dk_3 (dk_at dksX3_recover_3 12 rfl rfl)
theorem dX3_recover_83 : decode cX3_recover 83 = .ok (.putfield 170, 3) := dk_181 0 170 (dk_at dksX3_recover_3 13 rfl rfl)
theorem dX3_recover_86 : decode cX3_recover 86 = .ok (.aload_n 0, 1) := dk_42 (dk_at dksX3_recover_3 16 rfl rfl)
theorem dX3_recover_87 : decode cX3_recover 87 = .ok (.iconst 0, 1) := dk_3 (dk_at dksX3_recover_3 17 rfl rfl)
theorem dX3_recover_88 : decode cX3_recover 88 = .ok (.putfield 167, 3) := dk_181 0 167 (dk_at dksX3_recover_3 18 rfl rfl)
theorem dX3_recover_91 : decode cX3_recover 91 = .ok (.aload_n 0, 1) := dk_42 (dk_at dksX3_recover_3 21 rfl rfl)
theorem dX3_recover_92 : decode cX3_recover 92 = .ok (.iconst 0, 1) := dk_3 (dk_at dksX3_recover_3 22 rfl rfl)
theorem dX3_recover_93 : decode cX3_recover 93 = .ok (.putfield 164, 3) := dk_181 0 164 (dk_at dksX3_recover_4 0 rfl rfl)
theorem dX3_recover_96 : decode cX3_recover 96 = .ok (.aload_n 0, 1) := dk_42 (dk_at dksX3_recover_4 3 rfl rfl)
theorem dX3_recover_97 : decode cX3_recover 97 = .ok (.iconst 0, 1) := dk_3 (dk_at dksX3_recover_4 4 rfl rfl)
theorem dX3_recover_98 : decode cX3_recover 98 = .ok (.putfield 202, 3) := dk_181 0 202 (dk_at dksX3_recover_4 5 rfl rfl)
theorem dX3_recover_101 : decode cX3_recover 101 = .ok (.aload_n 0, 1) := dk_42 (dk_at dksX3_recover_4 8 rfl rfl)
theorem dX3_recover_102 : decode cX3_recover 102 = .ok (.iconst 0, 1) := dk_3 (dk_at dksX3_recover_4 9 rfl rfl)
theorem dX3_recover_103 : decode cX3_recover 103 = .ok (.putfield 223, 3) := dk_181 0 223 (dk_at dksX3_recover_4 10 rfl rfl)
theorem dX3_recover_106 : decode cX3_recover 106 = .ok (.aload_n 0, 1) := dk_42 (dk_at dksX3_recover_4 13 rfl rfl)
theorem dX3_recover_107 : decode cX3_recover 107 = .ok (.iconst 0, 1) := dk_3 (dk_at dksX3_recover_4 14 rfl rfl)
theorem dX3_recover_108 : decode cX3_recover 108 = .ok (.putfield 217, 3) := dk_181 0 217 (dk_at dksX3_recover_4 15 rfl rfl)
theorem dX3_recover_111 : decode cX3_recover 111 = .ok (.iconst 0, 1) := dk_3 (dk_at dksX3_recover_4 18 rfl rfl)
theorem dX3_recover_112 : decode cX3_recover 112 = .ok (.istore_n 1, 1) := dk_60 (dk_at dksX3_recover_4 19 rfl rfl)
theorem dX3_recover_113 : decode cX3_recover 113 = .ok (.iload_n 1, 1) := dk_27 (dk_at dksX3_recover_4 20 rfl rfl)
theorem dX3_recover_114 : decode cX3_recover 114 = .ok (.aload_n 0, 1) := dk_42 (dk_at dksX3_recover_4 21 rfl rfl)
theorem dX3_recover_115 : decode cX3_recover 115 = .ok (.getfield 131, 3) := dk_180 0 131 (dk_at dksX3_recover_5 0 rfl rfl)
theorem dX3_recover_118 : decode cX3_recover 118 = .ok (.if_icmp .ge 19, 3) := dk_162 0 19 (dk_at dksX3_recover_5 3 rfl rfl)
theorem dX3_recover_121 : decode cX3_recover 121 = .ok (.aload_n 0, 1) := dk_42 (dk_at dksX3_recover_5 6 rfl rfl)
theorem dX3_recover_122 : decode cX3_recover 122 = .ok (.aload_n 0, 1) := dk_42 (dk_at dksX3_recover_5 7 rfl rfl)
theorem dX3_recover_123 : decode cX3_recover 123 = .ok (.getfield 16, 3) := dk_180 0 16 (dk_at dksX3_recover_5 8 rfl rfl)
theorem dX3_recover_126 : decode cX3_recover 126 = .ok (.iload_n 1, 1) := dk_27 (dk_at dksX3_recover_5 11 rfl rfl)
theorem dX3_recover_127 : decode cX3_recover 127 = .ok (.iaload, 1) := dk_46 (dk_at dksX3_recover_5 12 rfl rfl)
theorem dX3_recover_128 : decode cX3_recover 128 = .ok (.invokevirtual 173, 3) := dk_182 0 173 (dk_at dksX3_recover_5 13 rfl rfl)
theorem dX3_recover_131 : decode cX3_recover 131 = .ok (.iinc 1 1, 3) := dk_132 1 1 (dk_at dksX3_recover_5 16 rfl rfl)
theorem dX3_recover_134 : decode cX3_recover 134 = .ok (.goto (-21), 3) := dk_167 255 235 (dk_at dksX3_recover_5 19 rfl rfl)
theorem dX3_recover_137 : decode cX3_recover 137 = .ok (.iconst 0, 1) := dk_3 (dk_at dksX3_recover_5 22 rfl rfl)
theorem dX3_recover_138 : decode cX3_recover 138 = .ok (.istore_n 1, 1) := dk_60 (dk_at dksX3_recover_5 23 rfl rfl)
theorem dX3_recover_139 : decode cX3_recover 139 = .ok (.iload_n 1, 1) := dk_27 (dk_at dksX3_recover_6 0 rfl rfl)
theorem dX3_recover_140 : decode cX3_recover 140 = .ok (.aload_n 0, 1) := dk_42 (dk_at dksX3_recover_6 1 rfl rfl)
theorem dX3_recover_141 : decode cX3_recover 141 = .ok (.getfield 161, 3) := dk_180 0 161 (dk_at dksX3_recover_6 2 rfl rfl)
theorem dX3_recover_144 : decode cX3_recover 144 = .ok (.if_icmp .ge 19, 3) := dk_162 0 19 (dk_at dksX3_recover_6 5 rfl rfl)
theorem dX3_recover_147 : decode cX3_recover 147 = .ok (.aload_n 0, 1) := dk_42 (dk_at dksX3_recover_6 8 rfl rfl)
theorem dX3_recover_148 : decode cX3_recover 148 = .ok (.aload_n 0, 1) := dk_42 (dk_at dksX3_recover_6 9 rfl rfl)
theorem dX3_recover_149 : decode cX3_recover 149 = .ok (.getfield 51, 3) := dk_180 0 51 (dk_at dksX3_recover_6 10 rfl rfl)
theorem dX3_recover_152 : decode cX3_recover 152 = .ok (.iload_n 1, 1) := dk_27 (dk_at dksX3_recover_6 13 rfl rfl)
theorem dX3_recover_153 : decode cX3_recover 153 = .ok (.iaload, 1) := dk_46 (dk_at dksX3_recover_6 14 rfl rfl)
theorem dX3_recover_154 : decode cX3_recover 154 = .ok (.invokevirtual 232, 3) := dk_182 0 232 (dk_at dksX3_recover_6 15 rfl rfl)
theorem dX3_recover_157 : decode cX3_recover 157 = .ok (.iinc 1 1, 3) := dk_132 1 1 (dk_at dksX3_recover_6 18 rfl rfl)
theorem dX3_recover_160 : decode cX3_recover 160 = .ok (.goto (-21), 3) := dk_167 255 235 (dk_at dksX3_recover_6 21 rfl rfl)
theorem dX3_recover_163 : decode cX3_recover 163 = .ok (.aload_n 0, 1) := dk_42 (dk_at dksX3_recover_7 0 rfl rfl)
theorem dX3_recover_164 : decode cX3_recover 164 = .ok (.invokevirtual 235, 3) := dk_182 0 235 (dk_at dksX3_recover_7 1 rfl rfl)
theorem dX3_recover_167 : decode cX3_recover 167 = .ok (.aload_n 0, 1) := dk_42 (dk_at dksX3_recover_7 4 rfl rfl)
theorem dX3_recover_168 : decode cX3_recover 168 = .ok (.iconst 1, 1) := dk_4 (dk_at dksX3_recover_7 5 rfl rfl)
theorem dX3_recover_169 : decode cX3_recover 169 = .ok (.putfield 106, 3) := dk_181 0 106 (dk_at dksX3_recover_7 6 rfl rfl)
theorem dX3_recover_172 : decode cX3_recover 172 = .ok (.aload_n 0, 1) := dk_42 (dk_at dksX3_recover_7 9 rfl rfl)
theorem dX3_recover_173 : decode cX3_recover 173 = .ok (.getfield 170, 3) := dk_180 0 170 (dk_at dksX3_recover_7 10 rfl rfl)
theorem dX3_recover_176 : decode cX3_recover 176 = .ok (.ireturn, 1) := dk_172 (dk_at dksX3_recover_7 13 rfl rfl)
abbrev cX3_adds : ByteArray := prog_12_method_31_code
def yX3_adds : MethodName := ⟨RX3, "adds", "(I)V"⟩
def dkwX3_adds_0 : List UInt8 := [42, 180, 0, 51, 42, 180, 0, 161, 27, 79, 42, 89, 180, 0, 161, 4, 96, 181, 0, 161, 177]
abbrev dktX3_adds_0 : List UInt8 := dkwX3_adds_0 ++ []
theorem dksX3_adds_0 : cX3_adds.data.toList.drop 0 = dktX3_adds_0 := by decide +kernel
theorem dX3_adds_0 : decode cX3_adds 0 = .ok (.aload_n 0, 1) := dk_42 (dk_at dksX3_adds_0 0 rfl rfl)
theorem dX3_adds_1 : decode cX3_adds 1 = .ok (.getfield 51, 3) := dk_180 0 51 (dk_at dksX3_adds_0 1 rfl rfl)
theorem dX3_adds_4 : decode cX3_adds 4 = .ok (.aload_n 0, 1) := dk_42 (dk_at dksX3_adds_0 4 rfl rfl)
theorem dX3_adds_5 : decode cX3_adds 5 = .ok (.getfield 161, 3) := dk_180 0 161 (dk_at dksX3_adds_0 5 rfl rfl)
theorem dX3_adds_8 : decode cX3_adds 8 = .ok (.iload_n 1, 1) := dk_27 (dk_at dksX3_adds_0 8 rfl rfl)
theorem dX3_adds_9 : decode cX3_adds 9 = .ok (.iastore, 1) := dk_79 (dk_at dksX3_adds_0 9 rfl rfl)
theorem dX3_adds_10 : decode cX3_adds 10 = .ok (.aload_n 0, 1) := dk_42 (dk_at dksX3_adds_0 10 rfl rfl)
theorem dX3_adds_11 : decode cX3_adds 11 = .ok (.dup, 1) := dk_89 (dk_at dksX3_adds_0 11 rfl rfl)
theorem dX3_adds_12 : decode cX3_adds 12 = .ok (.getfield 161, 3) := dk_180 0 161 (dk_at dksX3_adds_0 12 rfl rfl)
theorem dX3_adds_15 : decode cX3_adds 15 = .ok (.iconst 1, 1) := dk_4 (dk_at dksX3_adds_0 15 rfl rfl)
theorem dX3_adds_16 : decode cX3_adds 16 = .ok (.iadd, 1) := dk_96 (dk_at dksX3_adds_0 16 rfl rfl)
theorem dX3_adds_17 : decode cX3_adds 17 = .ok (.putfield 161, 3) := dk_181 0 161 (dk_at dksX3_adds_0 17 rfl rfl)
theorem dX3_adds_20 : decode cX3_adds 20 = .ok (.return_, 1) := dk_177 (dk_at dksX3_adds_0 20 rfl rfl)
abbrev cX3_follows : ByteArray := prog_12_method_36_code
def yX3_follows : MethodName := ⟨RX3, "follows", "(I)V"⟩
def dkwX3_follows_3 : List UInt8 := [154, 0, 7, 4, 167, 0, 4, 3, 62, 28, 42, 180, 0, 32, 28, 46, 96, 61, 167, 255, 172, 177]
abbrev dktX3_follows_3 : List UInt8 := dkwX3_follows_3 ++ []
def dkwX3_follows_2 : List UInt8 := [182, 0, 183, 154, 0, 11, 42, 28, 182, 0, 186, 167, 255, 203, 42, 28, 182, 0, 189, 42, 28, 182, 0, 152]
abbrev dktX3_follows_2 : List UInt8 := dkwX3_follows_2 ++ dktX3_follows_3
def dkwX3_follows_1 : List UInt8 := [158, 0, 4, 177, 42, 28, 182, 0, 155, 154, 0, 11, 42, 28, 182, 0, 180, 167, 255, 219, 42, 28]
abbrev dktX3_follows_1 : List UInt8 := dkwX3_follows_1 ++ dktX3_follows_2
def dkwX3_follows_0 : List UInt8 := [27, 61, 4, 62, 29, 153, 0, 86, 3, 62, 42, 28, 182, 0, 127, 153, 0, 13, 42, 180, 0, 32, 28, 46]
abbrev dktX3_follows_0 : List UInt8 := dkwX3_follows_0 ++ dktX3_follows_1
theorem dksX3_follows_0 : cX3_follows.data.toList.drop 0 = dktX3_follows_0 := by decide +kernel
theorem dksX3_follows_1 : cX3_follows.data.toList.drop 24 = dktX3_follows_1 := dk_seg dksX3_follows_0 24 rfl rfl
theorem dksX3_follows_2 : cX3_follows.data.toList.drop 46 = dktX3_follows_2 := dk_seg dksX3_follows_1 22 rfl rfl
theorem dksX3_follows_3 : cX3_follows.data.toList.drop 70 = dktX3_follows_3 := dk_seg dksX3_follows_2 24 rfl rfl
theorem dX3_follows_0 : decode cX3_follows 0 = .ok (.iload_n 1, 1) := dk_27 (dk_at dksX3_follows_0 0 rfl rfl)
theorem dX3_follows_1 : decode cX3_follows 1 = .ok (.istore_n 2, 1) := dk_61 (dk_at dksX3_follows_0 1 rfl rfl)
theorem dX3_follows_2 : decode cX3_follows 2 = .ok (.iconst 1, 1) := dk_4 (dk_at dksX3_follows_0 2 rfl rfl)
theorem dX3_follows_3 : decode cX3_follows 3 = .ok (.istore_n 3, 1) := dk_62 (dk_at dksX3_follows_0 3 rfl rfl)
theorem dX3_follows_4 : decode cX3_follows 4 = .ok (.iload_n 3, 1) := dk_29 (dk_at dksX3_follows_0 4 rfl rfl)
theorem dX3_follows_5 : decode cX3_follows 5 = .ok (.ifCond .eq 86, 3) := dk_153 0 86 (dk_at dksX3_follows_0 5 rfl rfl)
theorem dX3_follows_8 : decode cX3_follows 8 = .ok (.iconst 0, 1) := dk_3 (dk_at dksX3_follows_0 8 rfl rfl)
theorem dX3_follows_9 : decode cX3_follows 9 = .ok (.istore_n 3, 1) := dk_62 (dk_at dksX3_follows_0 9 rfl rfl)
theorem dX3_follows_10 : decode cX3_follows 10 = .ok (.aload_n 0, 1) := dk_42 (dk_at dksX3_follows_0 10 rfl rfl)
theorem dX3_follows_11 : decode cX3_follows 11 = .ok (.iload_n 2, 1) := dk_28 (dk_at dksX3_follows_0 11 rfl rfl)
theorem dX3_follows_12 : decode cX3_follows 12 = .ok (.invokevirtual 127, 3) := dk_182 0 127 (dk_at dksX3_follows_0 12 rfl rfl)
theorem dX3_follows_15 : decode cX3_follows 15 = .ok (.ifCond .eq 13, 3) := dk_153 0 13 (dk_at dksX3_follows_0 15 rfl rfl)
theorem dX3_follows_18 : decode cX3_follows 18 = .ok (.aload_n 0, 1) := dk_42 (dk_at dksX3_follows_0 18 rfl rfl)
theorem dX3_follows_19 : decode cX3_follows 19 = .ok (.getfield 32, 3) := dk_180 0 32 (dk_at dksX3_follows_0 19 rfl rfl)
theorem dX3_follows_22 : decode cX3_follows 22 = .ok (.iload_n 2, 1) := dk_28 (dk_at dksX3_follows_0 22 rfl rfl)
theorem dX3_follows_23 : decode cX3_follows 23 = .ok (.iaload, 1) := dk_46 (dk_at dksX3_follows_0 23 rfl rfl)
theorem dX3_follows_24 : decode cX3_follows 24 = .ok (.ifCond .le 4, 3) := dk_158 0 4 (dk_at dksX3_follows_1 0 rfl rfl)
theorem dX3_follows_27 : decode cX3_follows 27 = .ok (.return_, 1) := dk_177 (dk_at dksX3_follows_1 3 rfl rfl)
theorem dX3_follows_28 : decode cX3_follows 28 = .ok (.aload_n 0, 1) := dk_42 (dk_at dksX3_follows_1 4 rfl rfl)
theorem dX3_follows_29 : decode cX3_follows 29 = .ok (.iload_n 2, 1) := dk_28 (dk_at dksX3_follows_1 5 rfl rfl)
theorem dX3_follows_30 : decode cX3_follows 30 = .ok (.invokevirtual 155, 3) := dk_182 0 155 (dk_at dksX3_follows_1 6 rfl rfl)
theorem dX3_follows_33 : decode cX3_follows 33 = .ok (.ifCond .ne 11, 3) := dk_154 0 11 (dk_at dksX3_follows_1 9 rfl rfl)
theorem dX3_follows_36 : decode cX3_follows 36 = .ok (.aload_n 0, 1) := dk_42 (dk_at dksX3_follows_1 12 rfl rfl)
theorem dX3_follows_37 : decode cX3_follows 37 = .ok (.iload_n 2, 1) := dk_28 (dk_at dksX3_follows_1 13 rfl rfl)
theorem dX3_follows_38 : decode cX3_follows 38 = .ok (.invokevirtual 180, 3) := dk_182 0 180 (dk_at dksX3_follows_1 14 rfl rfl)
theorem dX3_follows_41 : decode cX3_follows 41 = .ok (.goto (-37), 3) := dk_167 255 219 (dk_at dksX3_follows_1 17 rfl rfl)
theorem dX3_follows_44 : decode cX3_follows 44 = .ok (.aload_n 0, 1) := dk_42 (dk_at dksX3_follows_1 20 rfl rfl)
theorem dX3_follows_45 : decode cX3_follows 45 = .ok (.iload_n 2, 1) := dk_28 (dk_at dksX3_follows_1 21 rfl rfl)
theorem dX3_follows_46 : decode cX3_follows 46 = .ok (.invokevirtual 183, 3) := dk_182 0 183 (dk_at dksX3_follows_2 0 rfl rfl)
theorem dX3_follows_49 : decode cX3_follows 49 = .ok (.ifCond .ne 11, 3) := dk_154 0 11 (dk_at dksX3_follows_2 3 rfl rfl)
theorem dX3_follows_52 : decode cX3_follows 52 = .ok (.aload_n 0, 1) := dk_42 (dk_at dksX3_follows_2 6 rfl rfl)
theorem dX3_follows_53 : decode cX3_follows 53 = .ok (.iload_n 2, 1) := dk_28 (dk_at dksX3_follows_2 7 rfl rfl)
theorem dX3_follows_54 : decode cX3_follows 54 = .ok (.invokevirtual 186, 3) := dk_182 0 186 (dk_at dksX3_follows_2 8 rfl rfl)
theorem dX3_follows_57 : decode cX3_follows 57 = .ok (.goto (-53), 3) := dk_167 255 203 (dk_at dksX3_follows_2 11 rfl rfl)
theorem dX3_follows_60 : decode cX3_follows 60 = .ok (.aload_n 0, 1) := dk_42 (dk_at dksX3_follows_2 14 rfl rfl)
theorem dX3_follows_61 : decode cX3_follows 61 = .ok (.iload_n 2, 1) := dk_28 (dk_at dksX3_follows_2 15 rfl rfl)
theorem dX3_follows_62 : decode cX3_follows 62 = .ok (.invokevirtual 189, 3) := dk_182 0 189 (dk_at dksX3_follows_2 16 rfl rfl)
theorem dX3_follows_65 : decode cX3_follows 65 = .ok (.aload_n 0, 1) := dk_42 (dk_at dksX3_follows_2 19 rfl rfl)
theorem dX3_follows_66 : decode cX3_follows 66 = .ok (.iload_n 2, 1) := dk_28 (dk_at dksX3_follows_2 20 rfl rfl)
theorem dX3_follows_67 : decode cX3_follows 67 = .ok (.invokevirtual 152, 3) := dk_182 0 152 (dk_at dksX3_follows_2 21 rfl rfl)
theorem dX3_follows_70 : decode cX3_follows 70 = .ok (.ifCond .ne 7, 3) := dk_154 0 7 (dk_at dksX3_follows_3 0 rfl rfl)
theorem dX3_follows_73 : decode cX3_follows 73 = .ok (.iconst 1, 1) := dk_4 (dk_at dksX3_follows_3 3 rfl rfl)
theorem dX3_follows_74 : decode cX3_follows 74 = .ok (.goto 4, 3) := dk_167 0 4 (dk_at dksX3_follows_3 4 rfl rfl)
theorem dX3_follows_77 : decode cX3_follows 77 = .ok (.iconst 0, 1) := dk_3 (dk_at dksX3_follows_3 7 rfl rfl)
theorem dX3_follows_78 : decode cX3_follows 78 = .ok (.istore_n 3, 1) := dk_62 (dk_at dksX3_follows_3 8 rfl rfl)
theorem dX3_follows_79 : decode cX3_follows 79 = .ok (.iload_n 2, 1) := dk_28 (dk_at dksX3_follows_3 9 rfl rfl)
theorem dX3_follows_80 : decode cX3_follows 80 = .ok (.aload_n 0, 1) := dk_42 (dk_at dksX3_follows_3 10 rfl rfl)
theorem dX3_follows_81 : decode cX3_follows 81 = .ok (.getfield 32, 3) := dk_180 0 32 (dk_at dksX3_follows_3 11 rfl rfl)
theorem dX3_follows_84 : decode cX3_follows 84 = .ok (.iload_n 2, 1) := dk_28 (dk_at dksX3_follows_3 14 rfl rfl)
theorem dX3_follows_85 : decode cX3_follows 85 = .ok (.iaload, 1) := dk_46 (dk_at dksX3_follows_3 15 rfl rfl)
theorem dX3_follows_86 : decode cX3_follows 86 = .ok (.iadd, 1) := dk_96 (dk_at dksX3_follows_3 16 rfl rfl)
theorem dX3_follows_87 : decode cX3_follows 87 = .ok (.istore_n 2, 1) := dk_61 (dk_at dksX3_follows_3 17 rfl rfl)
theorem dX3_follows_88 : decode cX3_follows 88 = .ok (.goto (-84), 3) := dk_167 255 172 (dk_at dksX3_follows_3 18 rfl rfl)
theorem dX3_follows_91 : decode cX3_follows 91 = .ok (.return_, 1) := dk_177 (dk_at dksX3_follows_3 21 rfl rfl)
abbrev cX3_isBadAt : ByteArray := prog_12_method_32_code
def yX3_isBadAt : MethodName := ⟨RX3, "isBadAt", "(I)V"⟩
def dkwX3_isBadAt_1 : List UInt8 := [180, 0, 48, 27, 4, 84, 177]
abbrev dktX3_isBadAt_1 : List UInt8 := dkwX3_isBadAt_1 ++ []
def dkwX3_isBadAt_0 : List UInt8 := [42, 89, 180, 0, 164, 42, 180, 0, 48, 27, 51, 153, 0, 7, 3, 167, 0, 4, 4, 96, 181, 0, 164, 42]
abbrev dktX3_isBadAt_0 : List UInt8 := dkwX3_isBadAt_0 ++ dktX3_isBadAt_1
theorem dksX3_isBadAt_0 : cX3_isBadAt.data.toList.drop 0 = dktX3_isBadAt_0 := by decide +kernel
theorem dksX3_isBadAt_1 : cX3_isBadAt.data.toList.drop 24 = dktX3_isBadAt_1 := dk_seg dksX3_isBadAt_0 24 rfl rfl
theorem dX3_isBadAt_0 : decode cX3_isBadAt 0 = .ok (.aload_n 0, 1) := dk_42 (dk_at dksX3_isBadAt_0 0 rfl rfl)
theorem dX3_isBadAt_1 : decode cX3_isBadAt 1 = .ok (.dup, 1) := dk_89 (dk_at dksX3_isBadAt_0 1 rfl rfl)
theorem dX3_isBadAt_2 : decode cX3_isBadAt 2 = .ok (.getfield 164, 3) := dk_180 0 164 (dk_at dksX3_isBadAt_0 2 rfl rfl)
theorem dX3_isBadAt_5 : decode cX3_isBadAt 5 = .ok (.aload_n 0, 1) := dk_42 (dk_at dksX3_isBadAt_0 5 rfl rfl)
theorem dX3_isBadAt_6 : decode cX3_isBadAt 6 = .ok (.getfield 48, 3) := dk_180 0 48 (dk_at dksX3_isBadAt_0 6 rfl rfl)
theorem dX3_isBadAt_9 : decode cX3_isBadAt 9 = .ok (.iload_n 1, 1) := dk_27 (dk_at dksX3_isBadAt_0 9 rfl rfl)
theorem dX3_isBadAt_10 : decode cX3_isBadAt 10 = .ok (.baload, 1) := dk_51 (dk_at dksX3_isBadAt_0 10 rfl rfl)
theorem dX3_isBadAt_11 : decode cX3_isBadAt 11 = .ok (.ifCond .eq 7, 3) := dk_153 0 7 (dk_at dksX3_isBadAt_0 11 rfl rfl)
theorem dX3_isBadAt_14 : decode cX3_isBadAt 14 = .ok (.iconst 0, 1) := dk_3 (dk_at dksX3_isBadAt_0 14 rfl rfl)
theorem dX3_isBadAt_15 : decode cX3_isBadAt 15 = .ok (.goto 4, 3) := dk_167 0 4 (dk_at dksX3_isBadAt_0 15 rfl rfl)
theorem dX3_isBadAt_18 : decode cX3_isBadAt 18 = .ok (.iconst 1, 1) := dk_4 (dk_at dksX3_isBadAt_0 18 rfl rfl)
theorem dX3_isBadAt_19 : decode cX3_isBadAt 19 = .ok (.iadd, 1) := dk_96 (dk_at dksX3_isBadAt_0 19 rfl rfl)
theorem dX3_isBadAt_20 : decode cX3_isBadAt 20 = .ok (.putfield 164, 3) := dk_181 0 164 (dk_at dksX3_isBadAt_0 20 rfl rfl)
theorem dX3_isBadAt_23 : decode cX3_isBadAt 23 = .ok (.aload_n 0, 1) := dk_42 (dk_at dksX3_isBadAt_0 23 rfl rfl)
theorem dX3_isBadAt_24 : decode cX3_isBadAt 24 = .ok (.getfield 48, 3) := dk_180 0 48 (dk_at dksX3_isBadAt_1 0 rfl rfl)
theorem dX3_isBadAt_27 : decode cX3_isBadAt 27 = .ok (.iload_n 1, 1) := dk_27 (dk_at dksX3_isBadAt_1 3 rfl rfl)
theorem dX3_isBadAt_28 : decode cX3_isBadAt 28 = .ok (.iconst 1, 1) := dk_4 (dk_at dksX3_isBadAt_1 4 rfl rfl)
theorem dX3_isBadAt_29 : decode cX3_isBadAt 29 = .ok (.bastore, 1) := dk_84 (dk_at dksX3_isBadAt_1 5 rfl rfl)
theorem dX3_isBadAt_30 : decode cX3_isBadAt 30 = .ok (.return_, 1) := dk_177 (dk_at dksX3_isBadAt_1 6 rfl rfl)
abbrev cX3_isFree : ByteArray := prog_12_method_34_code
def yX3_isFree : MethodName := ⟨RX3, "isFree", "(I)Z"⟩
def dkwX3_isFree_2 : List UInt8 := [132, 3, 1, 167, 255, 211, 28, 172]
abbrev dktX3_isFree_2 : List UInt8 := dkwX3_isFree_2 ++ []
def dkwX3_isFree_1 : List UInt8 := [180, 0, 35, 29, 46, 156, 0, 16, 42, 180, 0, 44, 29, 51, 154, 0, 7, 4, 167, 0, 4, 3, 61]
abbrev dktX3_isFree_1 : List UInt8 := dkwX3_isFree_1 ++ dktX3_isFree_2
def dkwX3_isFree_0 : List UInt8 := [4, 61, 27, 62, 29, 27, 42, 27, 182, 0, 140, 184, 0, 143, 96, 162, 0, 37, 28, 153, 0, 25, 42]
abbrev dktX3_isFree_0 : List UInt8 := dkwX3_isFree_0 ++ dktX3_isFree_1
theorem dksX3_isFree_0 : cX3_isFree.data.toList.drop 0 = dktX3_isFree_0 := by decide +kernel
theorem dksX3_isFree_1 : cX3_isFree.data.toList.drop 23 = dktX3_isFree_1 := dk_seg dksX3_isFree_0 23 rfl rfl
theorem dksX3_isFree_2 : cX3_isFree.data.toList.drop 46 = dktX3_isFree_2 := dk_seg dksX3_isFree_1 23 rfl rfl
theorem dX3_isFree_0 : decode cX3_isFree 0 = .ok (.iconst 1, 1) := dk_4 (dk_at dksX3_isFree_0 0 rfl rfl)
theorem dX3_isFree_1 : decode cX3_isFree 1 = .ok (.istore_n 2, 1) := dk_61 (dk_at dksX3_isFree_0 1 rfl rfl)
theorem dX3_isFree_2 : decode cX3_isFree 2 = .ok (.iload_n 1, 1) := dk_27 (dk_at dksX3_isFree_0 2 rfl rfl)
theorem dX3_isFree_3 : decode cX3_isFree 3 = .ok (.istore_n 3, 1) := dk_62 (dk_at dksX3_isFree_0 3 rfl rfl)
theorem dX3_isFree_4 : decode cX3_isFree 4 = .ok (.iload_n 3, 1) := dk_29 (dk_at dksX3_isFree_0 4 rfl rfl)
theorem dX3_isFree_5 : decode cX3_isFree 5 = .ok (.iload_n 1, 1) := dk_27 (dk_at dksX3_isFree_0 5 rfl rfl)
theorem dX3_isFree_6 : decode cX3_isFree 6 = .ok (.aload_n 0, 1) := dk_42 (dk_at dksX3_isFree_0 6 rfl rfl)
theorem dX3_isFree_7 : decode cX3_isFree 7 = .ok (.iload_n 1, 1) := dk_27 (dk_at dksX3_isFree_0 7 rfl rfl)
theorem dX3_isFree_8 : decode cX3_isFree 8 = .ok (.invokevirtual 140, 3) := dk_182 0 140 (dk_at dksX3_isFree_0 8 rfl rfl)
theorem dX3_isFree_11 : decode cX3_isFree 11 = .ok (.invokestatic 143, 3) := dk_184 0 143 (dk_at dksX3_isFree_0 11 rfl rfl)
theorem dX3_isFree_14 : decode cX3_isFree 14 = .ok (.iadd, 1) := dk_96 (dk_at dksX3_isFree_0 14 rfl rfl)
theorem dX3_isFree_15 : decode cX3_isFree 15 = .ok (.if_icmp .ge 37, 3) := dk_162 0 37 (dk_at dksX3_isFree_0 15 rfl rfl)
theorem dX3_isFree_18 : decode cX3_isFree 18 = .ok (.iload_n 2, 1) := dk_28 (dk_at dksX3_isFree_0 18 rfl rfl)
theorem dX3_isFree_19 : decode cX3_isFree 19 = .ok (.ifCond .eq 25, 3) := dk_153 0 25 (dk_at dksX3_isFree_0 19 rfl rfl)
theorem dX3_isFree_22 : decode cX3_isFree 22 = .ok (.aload_n 0, 1) := dk_42 (dk_at dksX3_isFree_0 22 rfl rfl)
theorem dX3_isFree_23 : decode cX3_isFree 23 = .ok (.getfield 35, 3) := dk_180 0 35 (dk_at dksX3_isFree_1 0 rfl rfl)
theorem dX3_isFree_26 : decode cX3_isFree 26 = .ok (.iload_n 3, 1) := dk_29 (dk_at dksX3_isFree_1 3 rfl rfl)
theorem dX3_isFree_27 : decode cX3_isFree 27 = .ok (.iaload, 1) := dk_46 (dk_at dksX3_isFree_1 4 rfl rfl)
theorem dX3_isFree_28 : decode cX3_isFree 28 = .ok (.ifCond .ge 16, 3) := dk_156 0 16 (dk_at dksX3_isFree_1 5 rfl rfl)
theorem dX3_isFree_31 : decode cX3_isFree 31 = .ok (.aload_n 0, 1) := dk_42 (dk_at dksX3_isFree_1 8 rfl rfl)
theorem dX3_isFree_32 : decode cX3_isFree 32 = .ok (.getfield 44, 3) := dk_180 0 44 (dk_at dksX3_isFree_1 9 rfl rfl)
theorem dX3_isFree_35 : decode cX3_isFree 35 = .ok (.iload_n 3, 1) := dk_29 (dk_at dksX3_isFree_1 12 rfl rfl)
theorem dX3_isFree_36 : decode cX3_isFree 36 = .ok (.baload, 1) := dk_51 (dk_at dksX3_isFree_1 13 rfl rfl)
theorem dX3_isFree_37 : decode cX3_isFree 37 = .ok (.ifCond .ne 7, 3) := dk_154 0 7 (dk_at dksX3_isFree_1 14 rfl rfl)
theorem dX3_isFree_40 : decode cX3_isFree 40 = .ok (.iconst 1, 1) := dk_4 (dk_at dksX3_isFree_1 17 rfl rfl)
theorem dX3_isFree_41 : decode cX3_isFree 41 = .ok (.goto 4, 3) := dk_167 0 4 (dk_at dksX3_isFree_1 18 rfl rfl)
theorem dX3_isFree_44 : decode cX3_isFree 44 = .ok (.iconst 0, 1) := dk_3 (dk_at dksX3_isFree_1 21 rfl rfl)
theorem dX3_isFree_45 : decode cX3_isFree 45 = .ok (.istore_n 2, 1) := dk_61 (dk_at dksX3_isFree_1 22 rfl rfl)
theorem dX3_isFree_46 : decode cX3_isFree 46 = .ok (.iinc 3 1, 3) := dk_132 3 1 (dk_at dksX3_isFree_2 0 rfl rfl)
theorem dX3_isFree_49 : decode cX3_isFree 49 = .ok (.goto (-45), 3) := dk_167 255 211 (dk_at dksX3_isFree_2 3 rfl rfl)
theorem dX3_isFree_52 : decode cX3_isFree 52 = .ok (.iload_n 2, 1) := dk_28 (dk_at dksX3_isFree_2 6 rfl rfl)
theorem dX3_isFree_53 : decode cX3_isFree 53 = .ok (.ireturn, 1) := dk_172 (dk_at dksX3_isFree_2 7 rfl rfl)
abbrev cX3_conflictAt : ByteArray := prog_12_method_33_code
def yX3_conflictAt : MethodName := ⟨RX3, "conflictAt", "(I)V"⟩
def dkwX3_conflictAt_1 : List UInt8 := [167, 255, 234, 42, 180, 0, 54, 42, 180, 0, 167, 27, 79, 42, 89, 180, 0, 167, 4, 96, 181, 0, 167, 177]
abbrev dktX3_conflictAt_1 : List UInt8 := dkwX3_conflictAt_1 ++ []
def dkwX3_conflictAt_0 : List UInt8 := [3, 61, 28, 42, 180, 0, 167, 162, 0, 20, 42, 180, 0, 54, 28, 46, 27, 160, 0, 4, 177, 132, 2, 1]
abbrev dktX3_conflictAt_0 : List UInt8 := dkwX3_conflictAt_0 ++ dktX3_conflictAt_1
theorem dksX3_conflictAt_0 : cX3_conflictAt.data.toList.drop 0 = dktX3_conflictAt_0 := by decide +kernel
theorem dksX3_conflictAt_1 : cX3_conflictAt.data.toList.drop 24 = dktX3_conflictAt_1 := dk_seg dksX3_conflictAt_0 24 rfl rfl
theorem dX3_conflictAt_0 : decode cX3_conflictAt 0 = .ok (.iconst 0, 1) := dk_3 (dk_at dksX3_conflictAt_0 0 rfl rfl)
theorem dX3_conflictAt_1 : decode cX3_conflictAt 1 = .ok (.istore_n 2, 1) := dk_61 (dk_at dksX3_conflictAt_0 1 rfl rfl)
theorem dX3_conflictAt_2 : decode cX3_conflictAt 2 = .ok (.iload_n 2, 1) := dk_28 (dk_at dksX3_conflictAt_0 2 rfl rfl)
theorem dX3_conflictAt_3 : decode cX3_conflictAt 3 = .ok (.aload_n 0, 1) := dk_42 (dk_at dksX3_conflictAt_0 3 rfl rfl)
theorem dX3_conflictAt_4 : decode cX3_conflictAt 4 = .ok (.getfield 167, 3) := dk_180 0 167 (dk_at dksX3_conflictAt_0 4 rfl rfl)
theorem dX3_conflictAt_7 : decode cX3_conflictAt 7 = .ok (.if_icmp .ge 20, 3) := dk_162 0 20 (dk_at dksX3_conflictAt_0 7 rfl rfl)
theorem dX3_conflictAt_10 : decode cX3_conflictAt 10 = .ok (.aload_n 0, 1) := dk_42 (dk_at dksX3_conflictAt_0 10 rfl rfl)
theorem dX3_conflictAt_11 : decode cX3_conflictAt 11 = .ok (.getfield 54, 3) := dk_180 0 54 (dk_at dksX3_conflictAt_0 11 rfl rfl)
theorem dX3_conflictAt_14 : decode cX3_conflictAt 14 = .ok (.iload_n 2, 1) := dk_28 (dk_at dksX3_conflictAt_0 14 rfl rfl)
theorem dX3_conflictAt_15 : decode cX3_conflictAt 15 = .ok (.iaload, 1) := dk_46 (dk_at dksX3_conflictAt_0 15 rfl rfl)
theorem dX3_conflictAt_16 : decode cX3_conflictAt 16 = .ok (.iload_n 1, 1) := dk_27 (dk_at dksX3_conflictAt_0 16 rfl rfl)
theorem dX3_conflictAt_17 : decode cX3_conflictAt 17 = .ok (.if_icmp .ne 4, 3) := dk_160 0 4 (dk_at dksX3_conflictAt_0 17 rfl rfl)
theorem dX3_conflictAt_20 : decode cX3_conflictAt 20 = .ok (.return_, 1) := dk_177 (dk_at dksX3_conflictAt_0 20 rfl rfl)
theorem dX3_conflictAt_21 : decode cX3_conflictAt 21 = .ok (.iinc 2 1, 3) := dk_132 2 1 (dk_at dksX3_conflictAt_0 21 rfl rfl)
theorem dX3_conflictAt_24 : decode cX3_conflictAt 24 = .ok (.goto (-22), 3) := dk_167 255 234 (dk_at dksX3_conflictAt_1 0 rfl rfl)
theorem dX3_conflictAt_27 : decode cX3_conflictAt 27 = .ok (.aload_n 0, 1) := dk_42 (dk_at dksX3_conflictAt_1 3 rfl rfl)
theorem dX3_conflictAt_28 : decode cX3_conflictAt 28 = .ok (.getfield 54, 3) := dk_180 0 54 (dk_at dksX3_conflictAt_1 4 rfl rfl)
theorem dX3_conflictAt_31 : decode cX3_conflictAt 31 = .ok (.aload_n 0, 1) := dk_42 (dk_at dksX3_conflictAt_1 7 rfl rfl)
theorem dX3_conflictAt_32 : decode cX3_conflictAt 32 = .ok (.getfield 167, 3) := dk_180 0 167 (dk_at dksX3_conflictAt_1 8 rfl rfl)
theorem dX3_conflictAt_35 : decode cX3_conflictAt 35 = .ok (.iload_n 1, 1) := dk_27 (dk_at dksX3_conflictAt_1 11 rfl rfl)
theorem dX3_conflictAt_36 : decode cX3_conflictAt 36 = .ok (.iastore, 1) := dk_79 (dk_at dksX3_conflictAt_1 12 rfl rfl)
theorem dX3_conflictAt_37 : decode cX3_conflictAt 37 = .ok (.aload_n 0, 1) := dk_42 (dk_at dksX3_conflictAt_1 13 rfl rfl)
theorem dX3_conflictAt_38 : decode cX3_conflictAt 38 = .ok (.dup, 1) := dk_89 (dk_at dksX3_conflictAt_1 14 rfl rfl)
theorem dX3_conflictAt_39 : decode cX3_conflictAt 39 = .ok (.getfield 167, 3) := dk_180 0 167 (dk_at dksX3_conflictAt_1 15 rfl rfl)
theorem dX3_conflictAt_42 : decode cX3_conflictAt 42 = .ok (.iconst 1, 1) := dk_4 (dk_at dksX3_conflictAt_1 18 rfl rfl)
theorem dX3_conflictAt_43 : decode cX3_conflictAt 43 = .ok (.iadd, 1) := dk_96 (dk_at dksX3_conflictAt_1 19 rfl rfl)
theorem dX3_conflictAt_44 : decode cX3_conflictAt 44 = .ok (.putfield 167, 3) := dk_181 0 167 (dk_at dksX3_conflictAt_1 20 rfl rfl)
theorem dX3_conflictAt_47 : decode cX3_conflictAt 47 = .ok (.return_, 1) := dk_177 (dk_at dksX3_conflictAt_1 23 rfl rfl)
abbrev cX3_accepts : ByteArray := prog_12_method_35_code
def yX3_accepts : MethodName := ⟨RX3, "accepts", "(I)V"⟩
def dkwX3_accepts_3 : List UInt8 := [182, 0, 140, 16, 9, 160, 0, 8, 42, 27, 182, 0, 177, 177]
abbrev dktX3_accepts_3 : List UInt8 := dkwX3_accepts_3 ++ []
def dkwX3_accepts_2 : List UInt8 := [181, 0, 170, 42, 27, 182, 0, 146, 153, 0, 12, 42, 42, 27, 182, 0, 149, 182, 0, 173, 42, 27]
abbrev dktX3_accepts_2 : List UInt8 := dkwX3_accepts_2 ++ dktX3_accepts_3
def dkwX3_accepts_1 : List UInt8 := [162, 0, 16, 42, 180, 0, 35, 29, 27, 79, 132, 3, 1, 167, 255, 239, 42, 89, 180, 0, 170, 4, 96]
abbrev dktX3_accepts_1 : List UInt8 := dkwX3_accepts_1 ++ dktX3_accepts_2
def dkwX3_accepts_0 : List UInt8 := [42, 27, 182, 0, 140, 184, 0, 143, 61, 42, 180, 0, 32, 27, 28, 79, 27, 62, 29, 27, 28, 96]
abbrev dktX3_accepts_0 : List UInt8 := dkwX3_accepts_0 ++ dktX3_accepts_1
theorem dksX3_accepts_0 : cX3_accepts.data.toList.drop 0 = dktX3_accepts_0 := by decide +kernel
theorem dksX3_accepts_1 : cX3_accepts.data.toList.drop 22 = dktX3_accepts_1 := dk_seg dksX3_accepts_0 22 rfl rfl
theorem dksX3_accepts_2 : cX3_accepts.data.toList.drop 45 = dktX3_accepts_2 := dk_seg dksX3_accepts_1 23 rfl rfl
theorem dksX3_accepts_3 : cX3_accepts.data.toList.drop 67 = dktX3_accepts_3 := dk_seg dksX3_accepts_2 22 rfl rfl
theorem dX3_accepts_0 : decode cX3_accepts 0 = .ok (.aload_n 0, 1) := dk_42 (dk_at dksX3_accepts_0 0 rfl rfl)
theorem dX3_accepts_1 : decode cX3_accepts 1 = .ok (.iload_n 1, 1) := dk_27 (dk_at dksX3_accepts_0 1 rfl rfl)
theorem dX3_accepts_2 : decode cX3_accepts 2 = .ok (.invokevirtual 140, 3) := dk_182 0 140 (dk_at dksX3_accepts_0 2 rfl rfl)
theorem dX3_accepts_5 : decode cX3_accepts 5 = .ok (.invokestatic 143, 3) := dk_184 0 143 (dk_at dksX3_accepts_0 5 rfl rfl)
theorem dX3_accepts_8 : decode cX3_accepts 8 = .ok (.istore_n 2, 1) := dk_61 (dk_at dksX3_accepts_0 8 rfl rfl)
theorem dX3_accepts_9 : decode cX3_accepts 9 = .ok (.aload_n 0, 1) := dk_42 (dk_at dksX3_accepts_0 9 rfl rfl)
theorem dX3_accepts_10 : decode cX3_accepts 10 = .ok (.getfield 32, 3) := dk_180 0 32 (dk_at dksX3_accepts_0 10 rfl rfl)
theorem dX3_accepts_13 : decode cX3_accepts 13 = .ok (.iload_n 1, 1) := dk_27 (dk_at dksX3_accepts_0 13 rfl rfl)
theorem dX3_accepts_14 : decode cX3_accepts 14 = .ok (.iload_n 2, 1) := dk_28 (dk_at dksX3_accepts_0 14 rfl rfl)
theorem dX3_accepts_15 : decode cX3_accepts 15 = .ok (.iastore, 1) := dk_79 (dk_at dksX3_accepts_0 15 rfl rfl)
theorem dX3_accepts_16 : decode cX3_accepts 16 = .ok (.iload_n 1, 1) := dk_27 (dk_at dksX3_accepts_0 16 rfl rfl)
theorem dX3_accepts_17 : decode cX3_accepts 17 = .ok (.istore_n 3, 1) := dk_62 (dk_at dksX3_accepts_0 17 rfl rfl)
theorem dX3_accepts_18 : decode cX3_accepts 18 = .ok (.iload_n 3, 1) := dk_29 (dk_at dksX3_accepts_0 18 rfl rfl)
theorem dX3_accepts_19 : decode cX3_accepts 19 = .ok (.iload_n 1, 1) := dk_27 (dk_at dksX3_accepts_0 19 rfl rfl)
theorem dX3_accepts_20 : decode cX3_accepts 20 = .ok (.iload_n 2, 1) := dk_28 (dk_at dksX3_accepts_0 20 rfl rfl)
theorem dX3_accepts_21 : decode cX3_accepts 21 = .ok (.iadd, 1) := dk_96 (dk_at dksX3_accepts_0 21 rfl rfl)
theorem dX3_accepts_22 : decode cX3_accepts 22 = .ok (.if_icmp .ge 16, 3) := dk_162 0 16 (dk_at dksX3_accepts_1 0 rfl rfl)
theorem dX3_accepts_25 : decode cX3_accepts 25 = .ok (.aload_n 0, 1) := dk_42 (dk_at dksX3_accepts_1 3 rfl rfl)
theorem dX3_accepts_26 : decode cX3_accepts 26 = .ok (.getfield 35, 3) := dk_180 0 35 (dk_at dksX3_accepts_1 4 rfl rfl)
theorem dX3_accepts_29 : decode cX3_accepts 29 = .ok (.iload_n 3, 1) := dk_29 (dk_at dksX3_accepts_1 7 rfl rfl)
theorem dX3_accepts_30 : decode cX3_accepts 30 = .ok (.iload_n 1, 1) := dk_27 (dk_at dksX3_accepts_1 8 rfl rfl)
theorem dX3_accepts_31 : decode cX3_accepts 31 = .ok (.iastore, 1) := dk_79 (dk_at dksX3_accepts_1 9 rfl rfl)
theorem dX3_accepts_32 : decode cX3_accepts 32 = .ok (.iinc 3 1, 3) := dk_132 3 1 (dk_at dksX3_accepts_1 10 rfl rfl)
theorem dX3_accepts_35 : decode cX3_accepts 35 = .ok (.goto (-17), 3) := dk_167 255 239 (dk_at dksX3_accepts_1 13 rfl rfl)
theorem dX3_accepts_38 : decode cX3_accepts 38 = .ok (.aload_n 0, 1) := dk_42 (dk_at dksX3_accepts_1 16 rfl rfl)
theorem dX3_accepts_39 : decode cX3_accepts 39 = .ok (.dup, 1) := dk_89 (dk_at dksX3_accepts_1 17 rfl rfl)
theorem dX3_accepts_40 : decode cX3_accepts 40 = .ok (.getfield 170, 3) := dk_180 0 170 (dk_at dksX3_accepts_1 18 rfl rfl)
theorem dX3_accepts_43 : decode cX3_accepts 43 = .ok (.iconst 1, 1) := dk_4 (dk_at dksX3_accepts_1 21 rfl rfl)
theorem dX3_accepts_44 : decode cX3_accepts 44 = .ok (.iadd, 1) := dk_96 (dk_at dksX3_accepts_1 22 rfl rfl)
theorem dX3_accepts_45 : decode cX3_accepts 45 = .ok (.putfield 170, 3) := dk_181 0 170 (dk_at dksX3_accepts_2 0 rfl rfl)
theorem dX3_accepts_48 : decode cX3_accepts 48 = .ok (.aload_n 0, 1) := dk_42 (dk_at dksX3_accepts_2 3 rfl rfl)
theorem dX3_accepts_49 : decode cX3_accepts 49 = .ok (.iload_n 1, 1) := dk_27 (dk_at dksX3_accepts_2 4 rfl rfl)
theorem dX3_accepts_50 : decode cX3_accepts 50 = .ok (.invokevirtual 146, 3) := dk_182 0 146 (dk_at dksX3_accepts_2 5 rfl rfl)
theorem dX3_accepts_53 : decode cX3_accepts 53 = .ok (.ifCond .eq 12, 3) := dk_153 0 12 (dk_at dksX3_accepts_2 8 rfl rfl)
theorem dX3_accepts_56 : decode cX3_accepts 56 = .ok (.aload_n 0, 1) := dk_42 (dk_at dksX3_accepts_2 11 rfl rfl)
theorem dX3_accepts_57 : decode cX3_accepts 57 = .ok (.aload_n 0, 1) := dk_42 (dk_at dksX3_accepts_2 12 rfl rfl)
theorem dX3_accepts_58 : decode cX3_accepts 58 = .ok (.iload_n 1, 1) := dk_27 (dk_at dksX3_accepts_2 13 rfl rfl)
theorem dX3_accepts_59 : decode cX3_accepts 59 = .ok (.invokevirtual 149, 3) := dk_182 0 149 (dk_at dksX3_accepts_2 14 rfl rfl)
theorem dX3_accepts_62 : decode cX3_accepts 62 = .ok (.invokevirtual 173, 3) := dk_182 0 173 (dk_at dksX3_accepts_2 17 rfl rfl)
theorem dX3_accepts_65 : decode cX3_accepts 65 = .ok (.aload_n 0, 1) := dk_42 (dk_at dksX3_accepts_2 20 rfl rfl)
theorem dX3_accepts_66 : decode cX3_accepts 66 = .ok (.iload_n 1, 1) := dk_27 (dk_at dksX3_accepts_2 21 rfl rfl)
theorem dX3_accepts_67 : decode cX3_accepts 67 = .ok (.invokevirtual 140, 3) := dk_182 0 140 (dk_at dksX3_accepts_3 0 rfl rfl)
theorem dX3_accepts_70 : decode cX3_accepts 70 = .ok (.bipush 9, 2) := dk_16 9 (dk_at dksX3_accepts_3 3 rfl rfl)
theorem dX3_accepts_72 : decode cX3_accepts 72 = .ok (.if_icmp .ne 8, 3) := dk_160 0 8 (dk_at dksX3_accepts_3 5 rfl rfl)
theorem dX3_accepts_75 : decode cX3_accepts 75 = .ok (.aload_n 0, 1) := dk_42 (dk_at dksX3_accepts_3 8 rfl rfl)
theorem dX3_accepts_76 : decode cX3_accepts 76 = .ok (.iload_n 1, 1) := dk_27 (dk_at dksX3_accepts_3 9 rfl rfl)
theorem dX3_accepts_77 : decode cX3_accepts 77 = .ok (.invokevirtual 177, 3) := dk_182 0 177 (dk_at dksX3_accepts_3 10 rfl rfl)
theorem dX3_accepts_80 : decode cX3_accepts 80 = .ok (.return_, 1) := dk_177 (dk_at dksX3_accepts_3 13 rfl rfl)
abbrev cX3_tabulates : ByteArray := prog_12_method_41_code
def yX3_tabulates : MethodName := ⟨RX3, "tabulates", "(I)V"⟩
def dkwX3_tabulates_10 : List UInt8 := [182, 0, 173, 132, 4, 1, 167, 255, 203, 42, 89, 180, 0, 202, 4, 96, 181, 0, 202, 177]
abbrev dktX3_tabulates_10 : List UInt8 := dkwX3_tabulates_10 ++ []
def dkwX3_tabulates_9 : List UInt8 := [104, 21, 4, 96, 46, 54, 5, 42, 180, 0, 44, 21, 5, 4, 84, 42, 42, 180, 0, 9, 21, 5, 46]
abbrev dktX3_tabulates_9 : List UInt8 := dkwX3_tabulates_9 ++ dktX3_tabulates_10
def dkwX3_tabulates_8 : List UInt8 := [21, 4, 42, 180, 0, 66, 42, 180, 0, 202, 46, 162, 0, 45, 42, 180, 0, 69, 16, 16, 42, 180, 0, 202]
abbrev dktX3_tabulates_8 : List UInt8 := dkwX3_tabulates_8 ++ dktX3_tabulates_9
def dkwX3_tabulates_7 : List UInt8 := [180, 0, 202, 46, 162, 0, 17, 42, 28, 21, 4, 96, 182, 0, 208, 132, 4, 1, 167, 255, 231, 3, 54, 4]
abbrev dktX3_tabulates_7 : List UInt8 := dkwX3_tabulates_7 ++ dktX3_tabulates_8
def dkwX3_tabulates_6 : List UInt8 := [28, 42, 180, 0, 192, 96, 182, 0, 208, 167, 0, 34, 3, 54, 4, 21, 4, 42, 180, 0, 63, 42]
abbrev dktX3_tabulates_6 : List UInt8 := dkwX3_tabulates_6 ++ dktX3_tabulates_7
def dkwX3_tabulates_5 : List UInt8 := [28, 21, 4, 96, 182, 0, 208, 132, 4, 1, 167, 255, 199, 167, 0, 54, 42, 180, 0, 192, 155, 0, 16, 42]
abbrev dktX3_tabulates_5 : List UInt8 := dkwX3_tabulates_5 ++ dktX3_tabulates_6
def dkwX3_tabulates_4 : List UInt8 := [21, 4, 96, 46, 156, 0, 33, 42, 42, 180, 0, 9, 28, 21, 4, 96, 46, 182, 0, 155, 153, 0, 17, 42]
abbrev dktX3_tabulates_4 : List UInt8 := dkwX3_tabulates_4 ++ dktX3_tabulates_5
def dkwX3_tabulates_3 : List UInt8 := [21, 4, 16, 8, 162, 0, 56, 42, 28, 21, 4, 96, 182, 0, 127, 153, 0, 45, 42, 180, 0, 35, 28]
abbrev dktX3_tabulates_3 : List UInt8 := dkwX3_tabulates_3 ++ dktX3_tabulates_4
def dkwX3_tabulates_2 : List UInt8 := [16, 16, 167, 0, 4, 29, 79, 42, 180, 0, 66, 42, 180, 0, 202, 3, 79, 29, 156, 0, 69, 3, 54, 4]
abbrev dktX3_tabulates_2 : List UInt8 := dkwX3_tabulates_2 ++ dktX3_tabulates_3
def dkwX3_tabulates_1 : List UInt8 := [180, 0, 60, 42, 180, 0, 202, 28, 79, 42, 180, 0, 63, 42, 180, 0, 202, 29, 16, 16, 164, 0, 8]
abbrev dktX3_tabulates_1 : List UInt8 := dkwX3_tabulates_1 ++ dktX3_tabulates_2
def dkwX3_tabulates_0 : List UInt8 := [42, 27, 182, 0, 137, 61, 42, 27, 182, 0, 205, 62, 42, 180, 0, 57, 42, 180, 0, 202, 27, 79, 42]
abbrev dktX3_tabulates_0 : List UInt8 := dkwX3_tabulates_0 ++ dktX3_tabulates_1
theorem dksX3_tabulates_0 : cX3_tabulates.data.toList.drop 0 = dktX3_tabulates_0 := by decide +kernel
theorem dksX3_tabulates_1 : cX3_tabulates.data.toList.drop 23 = dktX3_tabulates_1 := dk_seg dksX3_tabulates_0 23 rfl rfl
theorem dksX3_tabulates_2 : cX3_tabulates.data.toList.drop 46 = dktX3_tabulates_2 := dk_seg dksX3_tabulates_1 23 rfl rfl
theorem dksX3_tabulates_3 : cX3_tabulates.data.toList.drop 70 = dktX3_tabulates_3 := dk_seg dksX3_tabulates_2 24 rfl rfl
theorem dksX3_tabulates_4 : cX3_tabulates.data.toList.drop 93 = dktX3_tabulates_4 := dk_seg dksX3_tabulates_3 23 rfl rfl
theorem dksX3_tabulates_5 : cX3_tabulates.data.toList.drop 117 = dktX3_tabulates_5 := dk_seg dksX3_tabulates_4 24 rfl rfl
theorem dksX3_tabulates_6 : cX3_tabulates.data.toList.drop 141 = dktX3_tabulates_6 := dk_seg dksX3_tabulates_5 24 rfl rfl
theorem dksX3_tabulates_7 : cX3_tabulates.data.toList.drop 163 = dktX3_tabulates_7 := dk_seg dksX3_tabulates_6 22 rfl rfl
theorem dksX3_tabulates_8 : cX3_tabulates.data.toList.drop 187 = dktX3_tabulates_8 := dk_seg dksX3_tabulates_7 24 rfl rfl
theorem dksX3_tabulates_9 : cX3_tabulates.data.toList.drop 211 = dktX3_tabulates_9 := dk_seg dksX3_tabulates_8 24 rfl rfl
theorem dksX3_tabulates_10 : cX3_tabulates.data.toList.drop 234 = dktX3_tabulates_10 := dk_seg dksX3_tabulates_9 23 rfl rfl
theorem dX3_tabulates_0 : decode cX3_tabulates 0 = .ok (.aload_n 0, 1) := dk_42 (dk_at dksX3_tabulates_0 0 rfl rfl)
theorem dX3_tabulates_1 : decode cX3_tabulates 1 = .ok (.iload_n 1, 1) := dk_27 (dk_at dksX3_tabulates_0 1 rfl rfl)
theorem dX3_tabulates_2 : decode cX3_tabulates 2 = .ok (.invokevirtual 137, 3) := dk_182 0 137 (dk_at dksX3_tabulates_0 2 rfl rfl)
theorem dX3_tabulates_5 : decode cX3_tabulates 5 = .ok (.istore_n 2, 1) := dk_61 (dk_at dksX3_tabulates_0 5 rfl rfl)
theorem dX3_tabulates_6 : decode cX3_tabulates 6 = .ok (.aload_n 0, 1) := dk_42 (dk_at dksX3_tabulates_0 6 rfl rfl)
theorem dX3_tabulates_7 : decode cX3_tabulates 7 = .ok (.iload_n 1, 1) := dk_27 (dk_at dksX3_tabulates_0 7 rfl rfl)
theorem dX3_tabulates_8 : decode cX3_tabulates 8 = .ok (.invokevirtual 205, 3) := dk_182 0 205 (dk_at dksX3_tabulates_0 8 rfl rfl)
theorem dX3_tabulates_11 : decode cX3_tabulates 11 = .ok (.istore_n 3, 1) := dk_62 (dk_at dksX3_tabulates_0 11 rfl rfl)
theorem dX3_tabulates_12 : decode cX3_tabulates 12 = .ok (.aload_n 0, 1) := dk_42 (dk_at dksX3_tabulates_0 12 rfl rfl)
theorem dX3_tabulates_13 : decode cX3_tabulates 13 = .ok (.getfield 57, 3) := dk_180 0 57 (dk_at dksX3_tabulates_0 13 rfl rfl)
theorem dX3_tabulates_16 : decode cX3_tabulates 16 = .ok (.aload_n 0, 1) := dk_42 (dk_at dksX3_tabulates_0 16 rfl rfl)
theorem dX3_tabulates_17 : decode cX3_tabulates 17 = .ok (.getfield 202, 3) := dk_180 0 202 (dk_at dksX3_tabulates_0 17 rfl rfl)
theorem dX3_tabulates_20 : decode cX3_tabulates 20 = .ok (.iload_n 1, 1) := dk_27 (dk_at dksX3_tabulates_0 20 rfl rfl)
theorem dX3_tabulates_21 : decode cX3_tabulates 21 = .ok (.iastore, 1) := dk_79 (dk_at dksX3_tabulates_0 21 rfl rfl)
theorem dX3_tabulates_22 : decode cX3_tabulates 22 = .ok (.aload_n 0, 1) := dk_42 (dk_at dksX3_tabulates_0 22 rfl rfl)
theorem dX3_tabulates_23 : decode cX3_tabulates 23 = .ok (.getfield 60, 3) := dk_180 0 60 (dk_at dksX3_tabulates_1 0 rfl rfl)
theorem dX3_tabulates_26 : decode cX3_tabulates 26 = .ok (.aload_n 0, 1) := dk_42 (dk_at dksX3_tabulates_1 3 rfl rfl)
theorem dX3_tabulates_27 : decode cX3_tabulates 27 = .ok (.getfield 202, 3) := dk_180 0 202 (dk_at dksX3_tabulates_1 4 rfl rfl)
theorem dX3_tabulates_30 : decode cX3_tabulates 30 = .ok (.iload_n 2, 1) := dk_28 (dk_at dksX3_tabulates_1 7 rfl rfl)
theorem dX3_tabulates_31 : decode cX3_tabulates 31 = .ok (.iastore, 1) := dk_79 (dk_at dksX3_tabulates_1 8 rfl rfl)
theorem dX3_tabulates_32 : decode cX3_tabulates 32 = .ok (.aload_n 0, 1) := dk_42 (dk_at dksX3_tabulates_1 9 rfl rfl)
theorem dX3_tabulates_33 : decode cX3_tabulates 33 = .ok (.getfield 63, 3) := dk_180 0 63 (dk_at dksX3_tabulates_1 10 rfl rfl)
theorem dX3_tabulates_36 : decode cX3_tabulates 36 = .ok (.aload_n 0, 1) := dk_42 (dk_at dksX3_tabulates_1 13 rfl rfl)
theorem dX3_tabulates_37 : decode cX3_tabulates 37 = .ok (.getfield 202, 3) := dk_180 0 202 (dk_at dksX3_tabulates_1 14 rfl rfl)
theorem dX3_tabulates_40 : decode cX3_tabulates 40 = .ok (.iload_n 3, 1) := dk_29 (dk_at dksX3_tabulates_1 17 rfl rfl)
theorem dX3_tabulates_41 : decode cX3_tabulates 41 = .ok (.bipush 16, 2) := dk_16 16 (dk_at dksX3_tabulates_1 18 rfl rfl)
theorem dX3_tabulates_43 : decode cX3_tabulates 43 = .ok (.if_icmp .le 8, 3) := dk_164 0 8 (dk_at dksX3_tabulates_1 20 rfl rfl)
theorem dX3_tabulates_46 : decode cX3_tabulates 46 = .ok (.bipush 16, 2) := dk_16 16 (dk_at dksX3_tabulates_2 0 rfl rfl)
theorem dX3_tabulates_48 : decode cX3_tabulates 48 = .ok (.goto 4, 3) := dk_167 0 4 (dk_at dksX3_tabulates_2 2 rfl rfl)
theorem dX3_tabulates_51 : decode cX3_tabulates 51 = .ok (.iload_n 3, 1) := dk_29 (dk_at dksX3_tabulates_2 5 rfl rfl)
theorem dX3_tabulates_52 : decode cX3_tabulates 52 = .ok (.iastore, 1) := dk_79 (dk_at dksX3_tabulates_2 6 rfl rfl)
theorem dX3_tabulates_53 : decode cX3_tabulates 53 = .ok (.aload_n 0, 1) := dk_42 (dk_at dksX3_tabulates_2 7 rfl rfl)
theorem dX3_tabulates_54 : decode cX3_tabulates 54 = .ok (.getfield 66, 3) := dk_180 0 66 (dk_at dksX3_tabulates_2 8 rfl rfl)
theorem dX3_tabulates_57 : decode cX3_tabulates 57 = .ok (.aload_n 0, 1) := dk_42 (dk_at dksX3_tabulates_2 11 rfl rfl)
theorem dX3_tabulates_58 : decode cX3_tabulates 58 = .ok (.getfield 202, 3) := dk_180 0 202 (dk_at dksX3_tabulates_2 12 rfl rfl)
theorem dX3_tabulates_61 : decode cX3_tabulates 61 = .ok (.iconst 0, 1) := dk_3 (dk_at dksX3_tabulates_2 15 rfl rfl)
theorem dX3_tabulates_62 : decode cX3_tabulates 62 = .ok (.iastore, 1) := dk_79 (dk_at dksX3_tabulates_2 16 rfl rfl)
theorem dX3_tabulates_63 : decode cX3_tabulates 63 = .ok (.iload_n 3, 1) := dk_29 (dk_at dksX3_tabulates_2 17 rfl rfl)
theorem dX3_tabulates_64 : decode cX3_tabulates 64 = .ok (.ifCond .ge 69, 3) := dk_156 0 69 (dk_at dksX3_tabulates_2 18 rfl rfl)
theorem dX3_tabulates_67 : decode cX3_tabulates 67 = .ok (.iconst 0, 1) := dk_3 (dk_at dksX3_tabulates_2 21 rfl rfl)
theorem dX3_tabulates_68 : decode cX3_tabulates 68 = .ok (.istore 4, 2) := dk_54 4 (dk_at dksX3_tabulates_2 22 rfl rfl)
theorem dX3_tabulates_70 : decode cX3_tabulates 70 = .ok (.iload 4, 2) := dk_21 4 (dk_at dksX3_tabulates_3 0 rfl rfl)
theorem dX3_tabulates_72 : decode cX3_tabulates 72 = .ok (.bipush 8, 2) := dk_16 8 (dk_at dksX3_tabulates_3 2 rfl rfl)
theorem dX3_tabulates_74 : decode cX3_tabulates 74 = .ok (.if_icmp .ge 56, 3) := dk_162 0 56 (dk_at dksX3_tabulates_3 4 rfl rfl)
theorem dX3_tabulates_77 : decode cX3_tabulates 77 = .ok (.aload_n 0, 1) := dk_42 (dk_at dksX3_tabulates_3 7 rfl rfl)
theorem dX3_tabulates_78 : decode cX3_tabulates 78 = .ok (.iload_n 2, 1) := dk_28 (dk_at dksX3_tabulates_3 8 rfl rfl)
theorem dX3_tabulates_79 : decode cX3_tabulates 79 = .ok (.iload 4, 2) := dk_21 4 (dk_at dksX3_tabulates_3 9 rfl rfl)
theorem dX3_tabulates_81 : decode cX3_tabulates 81 = .ok (.iadd, 1) := dk_96 (dk_at dksX3_tabulates_3 11 rfl rfl)
theorem dX3_tabulates_82 : decode cX3_tabulates 82 = .ok (.invokevirtual 127, 3) := dk_182 0 127 (dk_at dksX3_tabulates_3 12 rfl rfl)
theorem dX3_tabulates_85 : decode cX3_tabulates 85 = .ok (.ifCond .eq 45, 3) := dk_153 0 45 (dk_at dksX3_tabulates_3 15 rfl rfl)
theorem dX3_tabulates_88 : decode cX3_tabulates 88 = .ok (.aload_n 0, 1) := dk_42 (dk_at dksX3_tabulates_3 18 rfl rfl)
theorem dX3_tabulates_89 : decode cX3_tabulates 89 = .ok (.getfield 35, 3) := dk_180 0 35 (dk_at dksX3_tabulates_3 19 rfl rfl)
theorem dX3_tabulates_92 : decode cX3_tabulates 92 = .ok (.iload_n 2, 1) := dk_28 (dk_at dksX3_tabulates_3 22 rfl rfl)
theorem dX3_tabulates_93 : decode cX3_tabulates 93 = .ok (.iload 4, 2) := dk_21 4 (dk_at dksX3_tabulates_4 0 rfl rfl)
theorem dX3_tabulates_95 : decode cX3_tabulates 95 = .ok (.iadd, 1) := dk_96 (dk_at dksX3_tabulates_4 2 rfl rfl)
theorem dX3_tabulates_96 : decode cX3_tabulates 96 = .ok (.iaload, 1) := dk_46 (dk_at dksX3_tabulates_4 3 rfl rfl)
theorem dX3_tabulates_97 : decode cX3_tabulates 97 = .ok (.ifCond .ge 33, 3) := dk_156 0 33 (dk_at dksX3_tabulates_4 4 rfl rfl)
theorem dX3_tabulates_100 : decode cX3_tabulates 100 = .ok (.aload_n 0, 1) := dk_42 (dk_at dksX3_tabulates_4 7 rfl rfl)
theorem dX3_tabulates_101 : decode cX3_tabulates 101 = .ok (.aload_n 0, 1) := dk_42 (dk_at dksX3_tabulates_4 8 rfl rfl)
theorem dX3_tabulates_102 : decode cX3_tabulates 102 = .ok (.getfield 9, 3) := dk_180 0 9 (dk_at dksX3_tabulates_4 9 rfl rfl)
theorem dX3_tabulates_105 : decode cX3_tabulates 105 = .ok (.iload_n 2, 1) := dk_28 (dk_at dksX3_tabulates_4 12 rfl rfl)
theorem dX3_tabulates_106 : decode cX3_tabulates 106 = .ok (.iload 4, 2) := dk_21 4 (dk_at dksX3_tabulates_4 13 rfl rfl)
theorem dX3_tabulates_108 : decode cX3_tabulates 108 = .ok (.iadd, 1) := dk_96 (dk_at dksX3_tabulates_4 15 rfl rfl)
theorem dX3_tabulates_109 : decode cX3_tabulates 109 = .ok (.iaload, 1) := dk_46 (dk_at dksX3_tabulates_4 16 rfl rfl)
theorem dX3_tabulates_110 : decode cX3_tabulates 110 = .ok (.invokevirtual 155, 3) := dk_182 0 155 (dk_at dksX3_tabulates_4 17 rfl rfl)
theorem dX3_tabulates_113 : decode cX3_tabulates 113 = .ok (.ifCond .eq 17, 3) := dk_153 0 17 (dk_at dksX3_tabulates_4 20 rfl rfl)
theorem dX3_tabulates_116 : decode cX3_tabulates 116 = .ok (.aload_n 0, 1) := dk_42 (dk_at dksX3_tabulates_4 23 rfl rfl)
theorem dX3_tabulates_117 : decode cX3_tabulates 117 = .ok (.iload_n 2, 1) := dk_28 (dk_at dksX3_tabulates_5 0 rfl rfl)
theorem dX3_tabulates_118 : decode cX3_tabulates 118 = .ok (.iload 4, 2) := dk_21 4 (dk_at dksX3_tabulates_5 1 rfl rfl)
theorem dX3_tabulates_120 : decode cX3_tabulates 120 = .ok (.iadd, 1) := dk_96 (dk_at dksX3_tabulates_5 3 rfl rfl)
theorem dX3_tabulates_121 : decode cX3_tabulates 121 = .ok (.invokevirtual 208, 3) := dk_182 0 208 (dk_at dksX3_tabulates_5 4 rfl rfl)
theorem dX3_tabulates_124 : decode cX3_tabulates 124 = .ok (.iinc 4 1, 3) := dk_132 4 1 (dk_at dksX3_tabulates_5 7 rfl rfl)
theorem dX3_tabulates_127 : decode cX3_tabulates 127 = .ok (.goto (-57), 3) := dk_167 255 199 (dk_at dksX3_tabulates_5 10 rfl rfl)
theorem dX3_tabulates_130 : decode cX3_tabulates 130 = .ok (.goto 54, 3) := dk_167 0 54 (dk_at dksX3_tabulates_5 13 rfl rfl)
theorem dX3_tabulates_133 : decode cX3_tabulates 133 = .ok (.aload_n 0, 1) := dk_42 (dk_at dksX3_tabulates_5 16 rfl rfl)
theorem dX3_tabulates_134 : decode cX3_tabulates 134 = .ok (.getfield 192, 3) := dk_180 0 192 (dk_at dksX3_tabulates_5 17 rfl rfl)
theorem dX3_tabulates_137 : decode cX3_tabulates 137 = .ok (.ifCond .lt 16, 3) := dk_155 0 16 (dk_at dksX3_tabulates_5 20 rfl rfl)
theorem dX3_tabulates_140 : decode cX3_tabulates 140 = .ok (.aload_n 0, 1) := dk_42 (dk_at dksX3_tabulates_5 23 rfl rfl)
theorem dX3_tabulates_141 : decode cX3_tabulates 141 = .ok (.iload_n 2, 1) := dk_28 (dk_at dksX3_tabulates_6 0 rfl rfl)
theorem dX3_tabulates_142 : decode cX3_tabulates 142 = .ok (.aload_n 0, 1) := dk_42 (dk_at dksX3_tabulates_6 1 rfl rfl)
theorem dX3_tabulates_143 : decode cX3_tabulates 143 = .ok (.getfield 192, 3) := dk_180 0 192 (dk_at dksX3_tabulates_6 2 rfl rfl)
theorem dX3_tabulates_146 : decode cX3_tabulates 146 = .ok (.iadd, 1) := dk_96 (dk_at dksX3_tabulates_6 5 rfl rfl)
theorem dX3_tabulates_147 : decode cX3_tabulates 147 = .ok (.invokevirtual 208, 3) := dk_182 0 208 (dk_at dksX3_tabulates_6 6 rfl rfl)
theorem dX3_tabulates_150 : decode cX3_tabulates 150 = .ok (.goto 34, 3) := dk_167 0 34 (dk_at dksX3_tabulates_6 9 rfl rfl)
theorem dX3_tabulates_153 : decode cX3_tabulates 153 = .ok (.iconst 0, 1) := dk_3 (dk_at dksX3_tabulates_6 12 rfl rfl)
theorem dX3_tabulates_154 : decode cX3_tabulates 154 = .ok (.istore 4, 2) := dk_54 4 (dk_at dksX3_tabulates_6 13 rfl rfl)
theorem dX3_tabulates_156 : decode cX3_tabulates 156 = .ok (.iload 4, 2) := dk_21 4 (dk_at dksX3_tabulates_6 15 rfl rfl)
theorem dX3_tabulates_158 : decode cX3_tabulates 158 = .ok (.aload_n 0, 1) := dk_42 (dk_at dksX3_tabulates_6 17 rfl rfl)
theorem dX3_tabulates_159 : decode cX3_tabulates 159 = .ok (.getfield 63, 3) := dk_180 0 63 (dk_at dksX3_tabulates_6 18 rfl rfl)
theorem dX3_tabulates_162 : decode cX3_tabulates 162 = .ok (.aload_n 0, 1) := dk_42 (dk_at dksX3_tabulates_6 21 rfl rfl)
theorem dX3_tabulates_163 : decode cX3_tabulates 163 = .ok (.getfield 202, 3) := dk_180 0 202 (dk_at dksX3_tabulates_7 0 rfl rfl)
theorem dX3_tabulates_166 : decode cX3_tabulates 166 = .ok (.iaload, 1) := dk_46 (dk_at dksX3_tabulates_7 3 rfl rfl)
theorem dX3_tabulates_167 : decode cX3_tabulates 167 = .ok (.if_icmp .ge 17, 3) := dk_162 0 17 (dk_at dksX3_tabulates_7 4 rfl rfl)
theorem dX3_tabulates_170 : decode cX3_tabulates 170 = .ok (.aload_n 0, 1) := dk_42 (dk_at dksX3_tabulates_7 7 rfl rfl)
theorem dX3_tabulates_171 : decode cX3_tabulates 171 = .ok (.iload_n 2, 1) := dk_28 (dk_at dksX3_tabulates_7 8 rfl rfl)
theorem dX3_tabulates_172 : decode cX3_tabulates 172 = .ok (.iload 4, 2) := dk_21 4 (dk_at dksX3_tabulates_7 9 rfl rfl)
theorem dX3_tabulates_174 : decode cX3_tabulates 174 = .ok (.iadd, 1) := dk_96 (dk_at dksX3_tabulates_7 11 rfl rfl)
theorem dX3_tabulates_175 : decode cX3_tabulates 175 = .ok (.invokevirtual 208, 3) := dk_182 0 208 (dk_at dksX3_tabulates_7 12 rfl rfl)
theorem dX3_tabulates_178 : decode cX3_tabulates 178 = .ok (.iinc 4 1, 3) := dk_132 4 1 (dk_at dksX3_tabulates_7 15 rfl rfl)
theorem dX3_tabulates_181 : decode cX3_tabulates 181 = .ok (.goto (-25), 3) := dk_167 255 231 (dk_at dksX3_tabulates_7 18 rfl rfl)
theorem dX3_tabulates_184 : decode cX3_tabulates 184 = .ok (.iconst 0, 1) := dk_3 (dk_at dksX3_tabulates_7 21 rfl rfl)
theorem dX3_tabulates_185 : decode cX3_tabulates 185 = .ok (.istore 4, 2) := dk_54 4 (dk_at dksX3_tabulates_7 22 rfl rfl)
theorem dX3_tabulates_187 : decode cX3_tabulates 187 = .ok (.iload 4, 2) := dk_21 4 (dk_at dksX3_tabulates_8 0 rfl rfl)
theorem dX3_tabulates_189 : decode cX3_tabulates 189 = .ok (.aload_n 0, 1) := dk_42 (dk_at dksX3_tabulates_8 2 rfl rfl)
theorem dX3_tabulates_190 : decode cX3_tabulates 190 = .ok (.getfield 66, 3) := dk_180 0 66 (dk_at dksX3_tabulates_8 3 rfl rfl)
theorem dX3_tabulates_193 : decode cX3_tabulates 193 = .ok (.aload_n 0, 1) := dk_42 (dk_at dksX3_tabulates_8 6 rfl rfl)
theorem dX3_tabulates_194 : decode cX3_tabulates 194 = .ok (.getfield 202, 3) := dk_180 0 202 (dk_at dksX3_tabulates_8 7 rfl rfl)
theorem dX3_tabulates_197 : decode cX3_tabulates 197 = .ok (.iaload, 1) := dk_46 (dk_at dksX3_tabulates_8 10 rfl rfl)
theorem dX3_tabulates_198 : decode cX3_tabulates 198 = .ok (.if_icmp .ge 45, 3) := dk_162 0 45 (dk_at dksX3_tabulates_8 11 rfl rfl)
theorem dX3_tabulates_201 : decode cX3_tabulates 201 = .ok (.aload_n 0, 1) := dk_42 (dk_at dksX3_tabulates_8 14 rfl rfl)
theorem dX3_tabulates_202 : decode cX3_tabulates 202 = .ok (.getfield 69, 3) := dk_180 0 69 (dk_at dksX3_tabulates_8 15 rfl rfl)
theorem dX3_tabulates_205 : decode cX3_tabulates 205 = .ok (.bipush 16, 2) := dk_16 16 (dk_at dksX3_tabulates_8 18 rfl rfl)
theorem dX3_tabulates_207 : decode cX3_tabulates 207 = .ok (.aload_n 0, 1) := dk_42 (dk_at dksX3_tabulates_8 20 rfl rfl)
theorem dX3_tabulates_208 : decode cX3_tabulates 208 = .ok (.getfield 202, 3) := dk_180 0 202 (dk_at dksX3_tabulates_8 21 rfl rfl)
theorem dX3_tabulates_211 : decode cX3_tabulates 211 = .ok (.imul, 1) := dk_104 (dk_at dksX3_tabulates_9 0 rfl rfl)
theorem dX3_tabulates_212 : decode cX3_tabulates 212 = .ok (.iload 4, 2) := dk_21 4 (dk_at dksX3_tabulates_9 1 rfl rfl)
theorem dX3_tabulates_214 : decode cX3_tabulates 214 = .ok (.iadd, 1) := dk_96 (dk_at dksX3_tabulates_9 3 rfl rfl)
theorem dX3_tabulates_215 : decode cX3_tabulates 215 = .ok (.iaload, 1) := dk_46 (dk_at dksX3_tabulates_9 4 rfl rfl)
theorem dX3_tabulates_216 : decode cX3_tabulates 216 = .ok (.istore 5, 2) := dk_54 5 (dk_at dksX3_tabulates_9 5 rfl rfl)
theorem dX3_tabulates_218 : decode cX3_tabulates 218 = .ok (.aload_n 0, 1) := dk_42 (dk_at dksX3_tabulates_9 7 rfl rfl)
theorem dX3_tabulates_219 : decode cX3_tabulates 219 = .ok (.getfield 44, 3) := dk_180 0 44 (dk_at dksX3_tabulates_9 8 rfl rfl)
theorem dX3_tabulates_222 : decode cX3_tabulates 222 = .ok (.iload 5, 2) := dk_21 5 (dk_at dksX3_tabulates_9 11 rfl rfl)
theorem dX3_tabulates_224 : decode cX3_tabulates 224 = .ok (.iconst 1, 1) := dk_4 (dk_at dksX3_tabulates_9 13 rfl rfl)
theorem dX3_tabulates_225 : decode cX3_tabulates 225 = .ok (.bastore, 1) := dk_84 (dk_at dksX3_tabulates_9 14 rfl rfl)
theorem dX3_tabulates_226 : decode cX3_tabulates 226 = .ok (.aload_n 0, 1) := dk_42 (dk_at dksX3_tabulates_9 15 rfl rfl)
theorem dX3_tabulates_227 : decode cX3_tabulates 227 = .ok (.aload_n 0, 1) := dk_42 (dk_at dksX3_tabulates_9 16 rfl rfl)
theorem dX3_tabulates_228 : decode cX3_tabulates 228 = .ok (.getfield 9, 3) := dk_180 0 9 (dk_at dksX3_tabulates_9 17 rfl rfl)
theorem dX3_tabulates_231 : decode cX3_tabulates 231 = .ok (.iload 5, 2) := dk_21 5 (dk_at dksX3_tabulates_9 20 rfl rfl)
theorem dX3_tabulates_233 : decode cX3_tabulates 233 = .ok (.iaload, 1) := dk_46 (dk_at dksX3_tabulates_9 22 rfl rfl)
theorem dX3_tabulates_234 : decode cX3_tabulates 234 = .ok (.invokevirtual 173, 3) := dk_182 0 173 (dk_at dksX3_tabulates_10 0 rfl rfl)
theorem dX3_tabulates_237 : decode cX3_tabulates 237 = .ok (.iinc 4 1, 3) := dk_132 4 1 (dk_at dksX3_tabulates_10 3 rfl rfl)
theorem dX3_tabulates_240 : decode cX3_tabulates 240 = .ok (.goto (-53), 3) := dk_167 255 203 (dk_at dksX3_tabulates_10 6 rfl rfl)
theorem dX3_tabulates_243 : decode cX3_tabulates 243 = .ok (.aload_n 0, 1) := dk_42 (dk_at dksX3_tabulates_10 9 rfl rfl)
theorem dX3_tabulates_244 : decode cX3_tabulates 244 = .ok (.dup, 1) := dk_89 (dk_at dksX3_tabulates_10 10 rfl rfl)
theorem dX3_tabulates_245 : decode cX3_tabulates 245 = .ok (.getfield 202, 3) := dk_180 0 202 (dk_at dksX3_tabulates_10 11 rfl rfl)
theorem dX3_tabulates_248 : decode cX3_tabulates 248 = .ok (.iconst 1, 1) := dk_4 (dk_at dksX3_tabulates_10 14 rfl rfl)
theorem dX3_tabulates_249 : decode cX3_tabulates 249 = .ok (.iadd, 1) := dk_96 (dk_at dksX3_tabulates_10 15 rfl rfl)
theorem dX3_tabulates_250 : decode cX3_tabulates 250 = .ok (.putfield 202, 3) := dk_181 0 202 (dk_at dksX3_tabulates_10 16 rfl rfl)
theorem dX3_tabulates_253 : decode cX3_tabulates 253 = .ok (.return_, 1) := dk_177 (dk_at dksX3_tabulates_10 19 rfl rfl)
abbrev cX3_boundOf : ByteArray := prog_12_method_39_code
def yX3_boundOf : MethodName := ⟨RX3, "boundOf", "(I)I"⟩
def dkwX3_boundOf_6 : List UInt8 := [182, 0, 137, 172, 42, 29, 28, 182, 0, 198, 153, 0, 5, 2, 172, 132, 4, 1, 167, 255, 113, 2, 172]
abbrev dktX3_boundOf_6 : List UInt8 := dkwX3_boundOf_6 ++ []
def dkwX3_boundOf_5 : List UInt8 := [21, 5, 182, 0, 140, 6, 160, 0, 20, 42, 21, 5, 182, 0, 158, 28, 160, 0, 10, 42, 21, 5]
abbrev dktX3_boundOf_5 : List UInt8 := dkwX3_boundOf_5 ++ dktX3_boundOf_6
def dkwX3_boundOf_4 : List UInt8 := [172, 42, 29, 182, 0, 140, 16, 6, 160, 0, 42, 42, 29, 182, 0, 195, 54, 5, 21, 5, 155, 0, 30, 42]
abbrev dktX3_boundOf_4 : List UInt8 := dkwX3_boundOf_4 ++ dktX3_boundOf_5
def dkwX3_boundOf_3 : List UInt8 := [42, 29, 182, 0, 158, 28, 160, 0, 19, 42, 42, 29, 182, 0, 137, 181, 0, 192, 42, 180, 0, 192, 4, 96]
abbrev dktX3_boundOf_3 : List UInt8 := dkwX3_boundOf_3 ++ dktX3_boundOf_4
def dkwX3_boundOf_2 : List UInt8 := [182, 0, 158, 28, 160, 0, 11, 42, 29, 182, 0, 137, 4, 96, 172, 42, 29, 182, 0, 140, 4, 160, 0, 28]
abbrev dktX3_boundOf_2 : List UInt8 := dkwX3_boundOf_2 ++ dktX3_boundOf_3
def dkwX3_boundOf_1 : List UInt8 := [29, 182, 0, 195, 62, 29, 156, 0, 5, 2, 172, 42, 29, 182, 0, 140, 16, 12, 160, 0, 20, 42, 29]
abbrev dktX3_boundOf_1 : List UInt8 := dkwX3_boundOf_1 ++ dktX3_boundOf_2
def dkwX3_boundOf_0 : List UInt8 := [42, 27, 182, 0, 158, 61, 27, 62, 42, 2, 181, 0, 192, 3, 54, 4, 21, 4, 16, 6, 162, 0, 142, 42]
abbrev dktX3_boundOf_0 : List UInt8 := dkwX3_boundOf_0 ++ dktX3_boundOf_1
theorem dksX3_boundOf_0 : cX3_boundOf.data.toList.drop 0 = dktX3_boundOf_0 := by decide +kernel
theorem dksX3_boundOf_1 : cX3_boundOf.data.toList.drop 24 = dktX3_boundOf_1 := dk_seg dksX3_boundOf_0 24 rfl rfl
theorem dksX3_boundOf_2 : cX3_boundOf.data.toList.drop 47 = dktX3_boundOf_2 := dk_seg dksX3_boundOf_1 23 rfl rfl
theorem dksX3_boundOf_3 : cX3_boundOf.data.toList.drop 71 = dktX3_boundOf_3 := dk_seg dksX3_boundOf_2 24 rfl rfl
theorem dksX3_boundOf_4 : cX3_boundOf.data.toList.drop 95 = dktX3_boundOf_4 := dk_seg dksX3_boundOf_3 24 rfl rfl
theorem dksX3_boundOf_5 : cX3_boundOf.data.toList.drop 119 = dktX3_boundOf_5 := dk_seg dksX3_boundOf_4 24 rfl rfl
theorem dksX3_boundOf_6 : cX3_boundOf.data.toList.drop 141 = dktX3_boundOf_6 := dk_seg dksX3_boundOf_5 22 rfl rfl
theorem dX3_boundOf_0 : decode cX3_boundOf 0 = .ok (.aload_n 0, 1) := dk_42 (dk_at dksX3_boundOf_0 0 rfl rfl)
theorem dX3_boundOf_1 : decode cX3_boundOf 1 = .ok (.iload_n 1, 1) := dk_27 (dk_at dksX3_boundOf_0 1 rfl rfl)
theorem dX3_boundOf_2 : decode cX3_boundOf 2 = .ok (.invokevirtual 158, 3) := dk_182 0 158 (dk_at dksX3_boundOf_0 2 rfl rfl)
theorem dX3_boundOf_5 : decode cX3_boundOf 5 = .ok (.istore_n 2, 1) := dk_61 (dk_at dksX3_boundOf_0 5 rfl rfl)
theorem dX3_boundOf_6 : decode cX3_boundOf 6 = .ok (.iload_n 1, 1) := dk_27 (dk_at dksX3_boundOf_0 6 rfl rfl)
theorem dX3_boundOf_7 : decode cX3_boundOf 7 = .ok (.istore_n 3, 1) := dk_62 (dk_at dksX3_boundOf_0 7 rfl rfl)
theorem dX3_boundOf_8 : decode cX3_boundOf 8 = .ok (.aload_n 0, 1) := dk_42 (dk_at dksX3_boundOf_0 8 rfl rfl)
theorem dX3_boundOf_9 : decode cX3_boundOf 9 = .ok (.iconst (-1), 1) := dk_2 (dk_at dksX3_boundOf_0 9 rfl rfl)
theorem dX3_boundOf_10 : decode cX3_boundOf 10 = .ok (.putfield 192, 3) := dk_181 0 192 (dk_at dksX3_boundOf_0 10 rfl rfl)
theorem dX3_boundOf_13 : decode cX3_boundOf 13 = .ok (.iconst 0, 1) := dk_3 (dk_at dksX3_boundOf_0 13 rfl rfl)
theorem dX3_boundOf_14 : decode cX3_boundOf 14 = .ok (.istore 4, 2) := dk_54 4 (dk_at dksX3_boundOf_0 14 rfl rfl)
theorem dX3_boundOf_16 : decode cX3_boundOf 16 = .ok (.iload 4, 2) := dk_21 4 (dk_at dksX3_boundOf_0 16 rfl rfl)
theorem dX3_boundOf_18 : decode cX3_boundOf 18 = .ok (.bipush 6, 2) := dk_16 6 (dk_at dksX3_boundOf_0 18 rfl rfl)
theorem dX3_boundOf_20 : decode cX3_boundOf 20 = .ok (.if_icmp .ge 142, 3) := dk_162 0 142 (dk_at dksX3_boundOf_0 20 rfl rfl)
theorem dX3_boundOf_23 : decode cX3_boundOf 23 = .ok (.aload_n 0, 1) := dk_42 (dk_at dksX3_boundOf_0 23 rfl rfl)
theorem dX3_boundOf_24 : decode cX3_boundOf 24 = .ok (.iload_n 3, 1) := dk_29 (dk_at dksX3_boundOf_1 0 rfl rfl)
theorem dX3_boundOf_25 : decode cX3_boundOf 25 = .ok (.invokevirtual 195, 3) := dk_182 0 195 (dk_at dksX3_boundOf_1 1 rfl rfl)
theorem dX3_boundOf_28 : decode cX3_boundOf 28 = .ok (.istore_n 3, 1) := dk_62 (dk_at dksX3_boundOf_1 4 rfl rfl)
theorem dX3_boundOf_29 : decode cX3_boundOf 29 = .ok (.iload_n 3, 1) := dk_29 (dk_at dksX3_boundOf_1 5 rfl rfl)
theorem dX3_boundOf_30 : decode cX3_boundOf 30 = .ok (.ifCond .ge 5, 3) := dk_156 0 5 (dk_at dksX3_boundOf_1 6 rfl rfl)
theorem dX3_boundOf_33 : decode cX3_boundOf 33 = .ok (.iconst (-1), 1) := dk_2 (dk_at dksX3_boundOf_1 9 rfl rfl)
theorem dX3_boundOf_34 : decode cX3_boundOf 34 = .ok (.ireturn, 1) := dk_172 (dk_at dksX3_boundOf_1 10 rfl rfl)
theorem dX3_boundOf_35 : decode cX3_boundOf 35 = .ok (.aload_n 0, 1) := dk_42 (dk_at dksX3_boundOf_1 11 rfl rfl)
theorem dX3_boundOf_36 : decode cX3_boundOf 36 = .ok (.iload_n 3, 1) := dk_29 (dk_at dksX3_boundOf_1 12 rfl rfl)
theorem dX3_boundOf_37 : decode cX3_boundOf 37 = .ok (.invokevirtual 140, 3) := dk_182 0 140 (dk_at dksX3_boundOf_1 13 rfl rfl)
theorem dX3_boundOf_40 : decode cX3_boundOf 40 = .ok (.bipush 12, 2) := dk_16 12 (dk_at dksX3_boundOf_1 16 rfl rfl)
theorem dX3_boundOf_42 : decode cX3_boundOf 42 = .ok (.if_icmp .ne 20, 3) := dk_160 0 20 (dk_at dksX3_boundOf_1 18 rfl rfl)
theorem dX3_boundOf_45 : decode cX3_boundOf 45 = .ok (.aload_n 0, 1) := dk_42 (dk_at dksX3_boundOf_1 21 rfl rfl)
theorem dX3_boundOf_46 : decode cX3_boundOf 46 = .ok (.iload_n 3, 1) := dk_29 (dk_at dksX3_boundOf_1 22 rfl rfl)
theorem dX3_boundOf_47 : decode cX3_boundOf 47 = .ok (.invokevirtual 158, 3) := dk_182 0 158 (dk_at dksX3_boundOf_2 0 rfl rfl)
theorem dX3_boundOf_50 : decode cX3_boundOf 50 = .ok (.iload_n 2, 1) := dk_28 (dk_at dksX3_boundOf_2 3 rfl rfl)
theorem dX3_boundOf_51 : decode cX3_boundOf 51 = .ok (.if_icmp .ne 11, 3) := dk_160 0 11 (dk_at dksX3_boundOf_2 4 rfl rfl)
theorem dX3_boundOf_54 : decode cX3_boundOf 54 = .ok (.aload_n 0, 1) := dk_42 (dk_at dksX3_boundOf_2 7 rfl rfl)
theorem dX3_boundOf_55 : decode cX3_boundOf 55 = .ok (.iload_n 3, 1) := dk_29 (dk_at dksX3_boundOf_2 8 rfl rfl)
theorem dX3_boundOf_56 : decode cX3_boundOf 56 = .ok (.invokevirtual 137, 3) := dk_182 0 137 (dk_at dksX3_boundOf_2 9 rfl rfl)
theorem dX3_boundOf_59 : decode cX3_boundOf 59 = .ok (.iconst 1, 1) := dk_4 (dk_at dksX3_boundOf_2 12 rfl rfl)
theorem dX3_boundOf_60 : decode cX3_boundOf 60 = .ok (.iadd, 1) := dk_96 (dk_at dksX3_boundOf_2 13 rfl rfl)
theorem dX3_boundOf_61 : decode cX3_boundOf 61 = .ok (.ireturn, 1) := dk_172 (dk_at dksX3_boundOf_2 14 rfl rfl)
theorem dX3_boundOf_62 : decode cX3_boundOf 62 = .ok (.aload_n 0, 1) := dk_42 (dk_at dksX3_boundOf_2 15 rfl rfl)
theorem dX3_boundOf_63 : decode cX3_boundOf 63 = .ok (.iload_n 3, 1) := dk_29 (dk_at dksX3_boundOf_2 16 rfl rfl)
theorem dX3_boundOf_64 : decode cX3_boundOf 64 = .ok (.invokevirtual 140, 3) := dk_182 0 140 (dk_at dksX3_boundOf_2 17 rfl rfl)
theorem dX3_boundOf_67 : decode cX3_boundOf 67 = .ok (.iconst 1, 1) := dk_4 (dk_at dksX3_boundOf_2 20 rfl rfl)
theorem dX3_boundOf_68 : decode cX3_boundOf 68 = .ok (.if_icmp .ne 28, 3) := dk_160 0 28 (dk_at dksX3_boundOf_2 21 rfl rfl)
theorem dX3_boundOf_71 : decode cX3_boundOf 71 = .ok (.aload_n 0, 1) := dk_42 (dk_at dksX3_boundOf_3 0 rfl rfl)
theorem dX3_boundOf_72 : decode cX3_boundOf 72 = .ok (.iload_n 3, 1) := dk_29 (dk_at dksX3_boundOf_3 1 rfl rfl)
theorem dX3_boundOf_73 : decode cX3_boundOf 73 = .ok (.invokevirtual 158, 3) := dk_182 0 158 (dk_at dksX3_boundOf_3 2 rfl rfl)
theorem dX3_boundOf_76 : decode cX3_boundOf 76 = .ok (.iload_n 2, 1) := dk_28 (dk_at dksX3_boundOf_3 5 rfl rfl)
theorem dX3_boundOf_77 : decode cX3_boundOf 77 = .ok (.if_icmp .ne 19, 3) := dk_160 0 19 (dk_at dksX3_boundOf_3 6 rfl rfl)
theorem dX3_boundOf_80 : decode cX3_boundOf 80 = .ok (.aload_n 0, 1) := dk_42 (dk_at dksX3_boundOf_3 9 rfl rfl)
theorem dX3_boundOf_81 : decode cX3_boundOf 81 = .ok (.aload_n 0, 1) := dk_42 (dk_at dksX3_boundOf_3 10 rfl rfl)
theorem dX3_boundOf_82 : decode cX3_boundOf 82 = .ok (.iload_n 3, 1) := dk_29 (dk_at dksX3_boundOf_3 11 rfl rfl)
theorem dX3_boundOf_83 : decode cX3_boundOf 83 = .ok (.invokevirtual 137, 3) := dk_182 0 137 (dk_at dksX3_boundOf_3 12 rfl rfl)
theorem dX3_boundOf_86 : decode cX3_boundOf 86 = .ok (.putfield 192, 3) := dk_181 0 192 (dk_at dksX3_boundOf_3 15 rfl rfl)
theorem dX3_boundOf_89 : decode cX3_boundOf 89 = .ok (.aload_n 0, 1) := dk_42 (dk_at dksX3_boundOf_3 18 rfl rfl)
theorem dX3_boundOf_90 : decode cX3_boundOf 90 = .ok (.getfield 192, 3) := dk_180 0 192 (dk_at dksX3_boundOf_3 19 rfl rfl)
theorem dX3_boundOf_93 : decode cX3_boundOf 93 = .ok (.iconst 1, 1) := dk_4 (dk_at dksX3_boundOf_3 22 rfl rfl)
theorem dX3_boundOf_94 : decode cX3_boundOf 94 = .ok (.iadd, 1) := dk_96 (dk_at dksX3_boundOf_3 23 rfl rfl)
theorem dX3_boundOf_95 : decode cX3_boundOf 95 = .ok (.ireturn, 1) := dk_172 (dk_at dksX3_boundOf_4 0 rfl rfl)
theorem dX3_boundOf_96 : decode cX3_boundOf 96 = .ok (.aload_n 0, 1) := dk_42 (dk_at dksX3_boundOf_4 1 rfl rfl)
theorem dX3_boundOf_97 : decode cX3_boundOf 97 = .ok (.iload_n 3, 1) := dk_29 (dk_at dksX3_boundOf_4 2 rfl rfl)
theorem dX3_boundOf_98 : decode cX3_boundOf 98 = .ok (.invokevirtual 140, 3) := dk_182 0 140 (dk_at dksX3_boundOf_4 3 rfl rfl)
theorem dX3_boundOf_101 : decode cX3_boundOf 101 = .ok (.bipush 6, 2) := dk_16 6 (dk_at dksX3_boundOf_4 6 rfl rfl)
theorem dX3_boundOf_103 : decode cX3_boundOf 103 = .ok (.if_icmp .ne 42, 3) := dk_160 0 42 (dk_at dksX3_boundOf_4 8 rfl rfl)
theorem dX3_boundOf_106 : decode cX3_boundOf 106 = .ok (.aload_n 0, 1) := dk_42 (dk_at dksX3_boundOf_4 11 rfl rfl)
theorem dX3_boundOf_107 : decode cX3_boundOf 107 = .ok (.iload_n 3, 1) := dk_29 (dk_at dksX3_boundOf_4 12 rfl rfl)
theorem dX3_boundOf_108 : decode cX3_boundOf 108 = .ok (.invokevirtual 195, 3) := dk_182 0 195 (dk_at dksX3_boundOf_4 13 rfl rfl)
theorem dX3_boundOf_111 : decode cX3_boundOf 111 = .ok (.istore 5, 2) := dk_54 5 (dk_at dksX3_boundOf_4 16 rfl rfl)
theorem dX3_boundOf_113 : decode cX3_boundOf 113 = .ok (.iload 5, 2) := dk_21 5 (dk_at dksX3_boundOf_4 18 rfl rfl)
theorem dX3_boundOf_115 : decode cX3_boundOf 115 = .ok (.ifCond .lt 30, 3) := dk_155 0 30 (dk_at dksX3_boundOf_4 20 rfl rfl)
theorem dX3_boundOf_118 : decode cX3_boundOf 118 = .ok (.aload_n 0, 1) := dk_42 (dk_at dksX3_boundOf_4 23 rfl rfl)
theorem dX3_boundOf_119 : decode cX3_boundOf 119 = .ok (.iload 5, 2) := dk_21 5 (dk_at dksX3_boundOf_5 0 rfl rfl)
theorem dX3_boundOf_121 : decode cX3_boundOf 121 = .ok (.invokevirtual 140, 3) := dk_182 0 140 (dk_at dksX3_boundOf_5 2 rfl rfl)
theorem dX3_boundOf_124 : decode cX3_boundOf 124 = .ok (.iconst 3, 1) := dk_6 (dk_at dksX3_boundOf_5 5 rfl rfl)
theorem dX3_boundOf_125 : decode cX3_boundOf 125 = .ok (.if_icmp .ne 20, 3) := dk_160 0 20 (dk_at dksX3_boundOf_5 6 rfl rfl)
theorem dX3_boundOf_128 : decode cX3_boundOf 128 = .ok (.aload_n 0, 1) := dk_42 (dk_at dksX3_boundOf_5 9 rfl rfl)
theorem dX3_boundOf_129 : decode cX3_boundOf 129 = .ok (.iload 5, 2) := dk_21 5 (dk_at dksX3_boundOf_5 10 rfl rfl)
theorem dX3_boundOf_131 : decode cX3_boundOf 131 = .ok (.invokevirtual 158, 3) := dk_182 0 158 (dk_at dksX3_boundOf_5 12 rfl rfl)
theorem dX3_boundOf_134 : decode cX3_boundOf 134 = .ok (.iload_n 2, 1) := dk_28 (dk_at dksX3_boundOf_5 15 rfl rfl)
theorem dX3_boundOf_135 : decode cX3_boundOf 135 = .ok (.if_icmp .ne 10, 3) := dk_160 0 10 (dk_at dksX3_boundOf_5 16 rfl rfl)
theorem dX3_boundOf_138 : decode cX3_boundOf 138 = .ok (.aload_n 0, 1) := dk_42 (dk_at dksX3_boundOf_5 19 rfl rfl)
theorem dX3_boundOf_139 : decode cX3_boundOf 139 = .ok (.iload 5, 2) := dk_21 5 (dk_at dksX3_boundOf_5 20 rfl rfl)
theorem dX3_boundOf_141 : decode cX3_boundOf 141 = .ok (.invokevirtual 137, 3) := dk_182 0 137 (dk_at dksX3_boundOf_6 0 rfl rfl)
theorem dX3_boundOf_144 : decode cX3_boundOf 144 = .ok (.ireturn, 1) := dk_172 (dk_at dksX3_boundOf_6 3 rfl rfl)
theorem dX3_boundOf_145 : decode cX3_boundOf 145 = .ok (.aload_n 0, 1) := dk_42 (dk_at dksX3_boundOf_6 4 rfl rfl)
theorem dX3_boundOf_146 : decode cX3_boundOf 146 = .ok (.iload_n 3, 1) := dk_29 (dk_at dksX3_boundOf_6 5 rfl rfl)
theorem dX3_boundOf_147 : decode cX3_boundOf 147 = .ok (.iload_n 2, 1) := dk_28 (dk_at dksX3_boundOf_6 6 rfl rfl)
theorem dX3_boundOf_148 : decode cX3_boundOf 148 = .ok (.invokevirtual 198, 3) := dk_182 0 198 (dk_at dksX3_boundOf_6 7 rfl rfl)
theorem dX3_boundOf_151 : decode cX3_boundOf 151 = .ok (.ifCond .eq 5, 3) := dk_153 0 5 (dk_at dksX3_boundOf_6 10 rfl rfl)
theorem dX3_boundOf_154 : decode cX3_boundOf 154 = .ok (.iconst (-1), 1) := dk_2 (dk_at dksX3_boundOf_6 13 rfl rfl)
theorem dX3_boundOf_155 : decode cX3_boundOf 155 = .ok (.ireturn, 1) := dk_172 (dk_at dksX3_boundOf_6 14 rfl rfl)
theorem dX3_boundOf_156 : decode cX3_boundOf 156 = .ok (.iinc 4 1, 3) := dk_132 4 1 (dk_at dksX3_boundOf_6 15 rfl rfl)
theorem dX3_boundOf_159 : decode cX3_boundOf 159 = .ok (.goto (-143), 3) := dk_167 255 113 (dk_at dksX3_boundOf_6 18 rfl rfl)
theorem dX3_boundOf_162 : decode cX3_boundOf 162 = .ok (.iconst (-1), 1) := dk_2 (dk_at dksX3_boundOf_6 21 rfl rfl)
theorem dX3_boundOf_163 : decode cX3_boundOf 163 = .ok (.ireturn, 1) := dk_172 (dk_at dksX3_boundOf_6 22 rfl rfl)
abbrev cX3_ahead : ByteArray := prog_12_method_37_code
def yX3_ahead : MethodName := ⟨RX3, "ahead", "(I)I"⟩
def dkwX3_ahead_1 : List UInt8 := [180, 0, 32, 28, 46, 96, 27, 160, 0, 15, 42, 28, 182, 0, 152, 154, 0, 7, 28, 167, 0, 4, 2, 172]
abbrev dktX3_ahead_1 : List UInt8 := dkwX3_ahead_1 ++ []
def dkwX3_ahead_0 : List UInt8 := [27, 158, 0, 14, 42, 180, 0, 35, 27, 4, 100, 46, 167, 0, 4, 2, 61, 28, 155, 0, 27, 28, 42]
abbrev dktX3_ahead_0 : List UInt8 := dkwX3_ahead_0 ++ dktX3_ahead_1
theorem dksX3_ahead_0 : cX3_ahead.data.toList.drop 0 = dktX3_ahead_0 := by decide +kernel
theorem dksX3_ahead_1 : cX3_ahead.data.toList.drop 23 = dktX3_ahead_1 := dk_seg dksX3_ahead_0 23 rfl rfl
theorem dX3_ahead_0 : decode cX3_ahead 0 = .ok (.iload_n 1, 1) := dk_27 (dk_at dksX3_ahead_0 0 rfl rfl)
theorem dX3_ahead_1 : decode cX3_ahead 1 = .ok (.ifCond .le 14, 3) := dk_158 0 14 (dk_at dksX3_ahead_0 1 rfl rfl)
theorem dX3_ahead_4 : decode cX3_ahead 4 = .ok (.aload_n 0, 1) := dk_42 (dk_at dksX3_ahead_0 4 rfl rfl)
theorem dX3_ahead_5 : decode cX3_ahead 5 = .ok (.getfield 35, 3) := dk_180 0 35 (dk_at dksX3_ahead_0 5 rfl rfl)
theorem dX3_ahead_8 : decode cX3_ahead 8 = .ok (.iload_n 1, 1) := dk_27 (dk_at dksX3_ahead_0 8 rfl rfl)
theorem dX3_ahead_9 : decode cX3_ahead 9 = .ok (.iconst 1, 1) := dk_4 (dk_at dksX3_ahead_0 9 rfl rfl)
theorem dX3_ahead_10 : decode cX3_ahead 10 = .ok (.isub, 1) := dk_100 (dk_at dksX3_ahead_0 10 rfl rfl)
theorem dX3_ahead_11 : decode cX3_ahead 11 = .ok (.iaload, 1) := dk_46 (dk_at dksX3_ahead_0 11 rfl rfl)
theorem dX3_ahead_12 : decode cX3_ahead 12 = .ok (.goto 4, 3) := dk_167 0 4 (dk_at dksX3_ahead_0 12 rfl rfl)
theorem dX3_ahead_15 : decode cX3_ahead 15 = .ok (.iconst (-1), 1) := dk_2 (dk_at dksX3_ahead_0 15 rfl rfl)
theorem dX3_ahead_16 : decode cX3_ahead 16 = .ok (.istore_n 2, 1) := dk_61 (dk_at dksX3_ahead_0 16 rfl rfl)
theorem dX3_ahead_17 : decode cX3_ahead 17 = .ok (.iload_n 2, 1) := dk_28 (dk_at dksX3_ahead_0 17 rfl rfl)
theorem dX3_ahead_18 : decode cX3_ahead 18 = .ok (.ifCond .lt 27, 3) := dk_155 0 27 (dk_at dksX3_ahead_0 18 rfl rfl)
theorem dX3_ahead_21 : decode cX3_ahead 21 = .ok (.iload_n 2, 1) := dk_28 (dk_at dksX3_ahead_0 21 rfl rfl)
theorem dX3_ahead_22 : decode cX3_ahead 22 = .ok (.aload_n 0, 1) := dk_42 (dk_at dksX3_ahead_0 22 rfl rfl)
theorem dX3_ahead_23 : decode cX3_ahead 23 = .ok (.getfield 32, 3) := dk_180 0 32 (dk_at dksX3_ahead_1 0 rfl rfl)
theorem dX3_ahead_26 : decode cX3_ahead 26 = .ok (.iload_n 2, 1) := dk_28 (dk_at dksX3_ahead_1 3 rfl rfl)
theorem dX3_ahead_27 : decode cX3_ahead 27 = .ok (.iaload, 1) := dk_46 (dk_at dksX3_ahead_1 4 rfl rfl)
theorem dX3_ahead_28 : decode cX3_ahead 28 = .ok (.iadd, 1) := dk_96 (dk_at dksX3_ahead_1 5 rfl rfl)
theorem dX3_ahead_29 : decode cX3_ahead 29 = .ok (.iload_n 1, 1) := dk_27 (dk_at dksX3_ahead_1 6 rfl rfl)
theorem dX3_ahead_30 : decode cX3_ahead 30 = .ok (.if_icmp .ne 15, 3) := dk_160 0 15 (dk_at dksX3_ahead_1 7 rfl rfl)
theorem dX3_ahead_33 : decode cX3_ahead 33 = .ok (.aload_n 0, 1) := dk_42 (dk_at dksX3_ahead_1 10 rfl rfl)
theorem dX3_ahead_34 : decode cX3_ahead 34 = .ok (.iload_n 2, 1) := dk_28 (dk_at dksX3_ahead_1 11 rfl rfl)
theorem dX3_ahead_35 : decode cX3_ahead 35 = .ok (.invokevirtual 152, 3) := dk_182 0 152 (dk_at dksX3_ahead_1 12 rfl rfl)
theorem dX3_ahead_38 : decode cX3_ahead 38 = .ok (.ifCond .ne 7, 3) := dk_154 0 7 (dk_at dksX3_ahead_1 15 rfl rfl)
theorem dX3_ahead_41 : decode cX3_ahead 41 = .ok (.iload_n 2, 1) := dk_28 (dk_at dksX3_ahead_1 18 rfl rfl)
theorem dX3_ahead_42 : decode cX3_ahead 42 = .ok (.goto 4, 3) := dk_167 0 4 (dk_at dksX3_ahead_1 19 rfl rfl)
theorem dX3_ahead_45 : decode cX3_ahead 45 = .ok (.iconst (-1), 1) := dk_2 (dk_at dksX3_ahead_1 22 rfl rfl)
theorem dX3_ahead_46 : decode cX3_ahead 46 = .ok (.ireturn, 1) := dk_172 (dk_at dksX3_ahead_1 23 rfl rfl)
abbrev cX3_endsFlow : ByteArray := prog_12_method_27_code
def yX3_endsFlow : MethodName := ⟨RX3, "endsFlow", "(I)Z"⟩
def dkwX3_endsFlow_1 : List UInt8 := [16, 9, 159, 0, 13, 42, 27, 182, 0, 140, 16, 13, 160, 0, 7, 4, 167, 0, 4, 3, 172]
abbrev dktX3_endsFlow_1 : List UInt8 := dkwX3_endsFlow_1 ++ []
def dkwX3_endsFlow_0 : List UInt8 := [42, 27, 182, 0, 140, 7, 159, 0, 33, 42, 27, 182, 0, 140, 16, 8, 159, 0, 23, 42, 27, 182, 0, 140]
abbrev dktX3_endsFlow_0 : List UInt8 := dkwX3_endsFlow_0 ++ dktX3_endsFlow_1
theorem dksX3_endsFlow_0 : cX3_endsFlow.data.toList.drop 0 = dktX3_endsFlow_0 := by decide +kernel
theorem dksX3_endsFlow_1 : cX3_endsFlow.data.toList.drop 24 = dktX3_endsFlow_1 := dk_seg dksX3_endsFlow_0 24 rfl rfl
theorem dX3_endsFlow_0 : decode cX3_endsFlow 0 = .ok (.aload_n 0, 1) := dk_42 (dk_at dksX3_endsFlow_0 0 rfl rfl)
theorem dX3_endsFlow_1 : decode cX3_endsFlow 1 = .ok (.iload_n 1, 1) := dk_27 (dk_at dksX3_endsFlow_0 1 rfl rfl)
theorem dX3_endsFlow_2 : decode cX3_endsFlow 2 = .ok (.invokevirtual 140, 3) := dk_182 0 140 (dk_at dksX3_endsFlow_0 2 rfl rfl)
theorem dX3_endsFlow_5 : decode cX3_endsFlow 5 = .ok (.iconst 4, 1) := dk_7 (dk_at dksX3_endsFlow_0 5 rfl rfl)
theorem dX3_endsFlow_6 : decode cX3_endsFlow 6 = .ok (.if_icmp .eq 33, 3) := dk_159 0 33 (dk_at dksX3_endsFlow_0 6 rfl rfl)
theorem dX3_endsFlow_9 : decode cX3_endsFlow 9 = .ok (.aload_n 0, 1) := dk_42 (dk_at dksX3_endsFlow_0 9 rfl rfl)
theorem dX3_endsFlow_10 : decode cX3_endsFlow 10 = .ok (.iload_n 1, 1) := dk_27 (dk_at dksX3_endsFlow_0 10 rfl rfl)
theorem dX3_endsFlow_11 : decode cX3_endsFlow 11 = .ok (.invokevirtual 140, 3) := dk_182 0 140 (dk_at dksX3_endsFlow_0 11 rfl rfl)
theorem dX3_endsFlow_14 : decode cX3_endsFlow 14 = .ok (.bipush 8, 2) := dk_16 8 (dk_at dksX3_endsFlow_0 14 rfl rfl)
theorem dX3_endsFlow_16 : decode cX3_endsFlow 16 = .ok (.if_icmp .eq 23, 3) := dk_159 0 23 (dk_at dksX3_endsFlow_0 16 rfl rfl)
theorem dX3_endsFlow_19 : decode cX3_endsFlow 19 = .ok (.aload_n 0, 1) := dk_42 (dk_at dksX3_endsFlow_0 19 rfl rfl)
theorem dX3_endsFlow_20 : decode cX3_endsFlow 20 = .ok (.iload_n 1, 1) := dk_27 (dk_at dksX3_endsFlow_0 20 rfl rfl)
theorem dX3_endsFlow_21 : decode cX3_endsFlow 21 = .ok (.invokevirtual 140, 3) := dk_182 0 140 (dk_at dksX3_endsFlow_0 21 rfl rfl)
theorem dX3_endsFlow_24 : decode cX3_endsFlow 24 = .ok (.bipush 9, 2) := dk_16 9 (dk_at dksX3_endsFlow_1 0 rfl rfl)
theorem dX3_endsFlow_26 : decode cX3_endsFlow 26 = .ok (.if_icmp .eq 13, 3) := dk_159 0 13 (dk_at dksX3_endsFlow_1 2 rfl rfl)
theorem dX3_endsFlow_29 : decode cX3_endsFlow 29 = .ok (.aload_n 0, 1) := dk_42 (dk_at dksX3_endsFlow_1 5 rfl rfl)
theorem dX3_endsFlow_30 : decode cX3_endsFlow 30 = .ok (.iload_n 1, 1) := dk_27 (dk_at dksX3_endsFlow_1 6 rfl rfl)
theorem dX3_endsFlow_31 : decode cX3_endsFlow 31 = .ok (.invokevirtual 140, 3) := dk_182 0 140 (dk_at dksX3_endsFlow_1 7 rfl rfl)
theorem dX3_endsFlow_34 : decode cX3_endsFlow 34 = .ok (.bipush 13, 2) := dk_16 13 (dk_at dksX3_endsFlow_1 10 rfl rfl)
theorem dX3_endsFlow_36 : decode cX3_endsFlow 36 = .ok (.if_icmp .ne 7, 3) := dk_160 0 7 (dk_at dksX3_endsFlow_1 12 rfl rfl)
theorem dX3_endsFlow_39 : decode cX3_endsFlow 39 = .ok (.iconst 1, 1) := dk_4 (dk_at dksX3_endsFlow_1 15 rfl rfl)
theorem dX3_endsFlow_40 : decode cX3_endsFlow 40 = .ok (.goto 4, 3) := dk_167 0 4 (dk_at dksX3_endsFlow_1 16 rfl rfl)
theorem dX3_endsFlow_43 : decode cX3_endsFlow 43 = .ok (.iconst 0, 1) := dk_3 (dk_at dksX3_endsFlow_1 19 rfl rfl)
theorem dX3_endsFlow_44 : decode cX3_endsFlow 44 = .ok (.ireturn, 1) := dk_172 (dk_at dksX3_endsFlow_1 20 rfl rfl)
abbrev cX3_sets : ByteArray := prog_12_method_38_code
def yX3_sets : MethodName := ⟨RX3, "sets", "(II)Z"⟩
def dkwX3_sets_2 : List UInt8 := [3, 172]
abbrev dktX3_sets_2 : List UInt8 := dkwX3_sets_2 ++ []
def dkwX3_sets_1 : List UInt8 := [16, 11, 159, 0, 9, 29, 16, 12, 160, 0, 16, 42, 27, 182, 0, 158, 28, 160, 0, 7, 4, 167, 0, 4]
abbrev dktX3_sets_1 : List UInt8 := dkwX3_sets_1 ++ dktX3_sets_2
def dkwX3_sets_0 : List UInt8 := [42, 27, 182, 0, 140, 62, 29, 4, 159, 0, 26, 29, 5, 159, 0, 21, 29, 16, 10, 159, 0, 15, 29]
abbrev dktX3_sets_0 : List UInt8 := dkwX3_sets_0 ++ dktX3_sets_1
theorem dksX3_sets_0 : cX3_sets.data.toList.drop 0 = dktX3_sets_0 := by decide +kernel
theorem dksX3_sets_1 : cX3_sets.data.toList.drop 23 = dktX3_sets_1 := dk_seg dksX3_sets_0 23 rfl rfl
theorem dksX3_sets_2 : cX3_sets.data.toList.drop 47 = dktX3_sets_2 := dk_seg dksX3_sets_1 24 rfl rfl
theorem dX3_sets_0 : decode cX3_sets 0 = .ok (.aload_n 0, 1) := dk_42 (dk_at dksX3_sets_0 0 rfl rfl)
theorem dX3_sets_1 : decode cX3_sets 1 = .ok (.iload_n 1, 1) := dk_27 (dk_at dksX3_sets_0 1 rfl rfl)
theorem dX3_sets_2 : decode cX3_sets 2 = .ok (.invokevirtual 140, 3) := dk_182 0 140 (dk_at dksX3_sets_0 2 rfl rfl)
theorem dX3_sets_5 : decode cX3_sets 5 = .ok (.istore_n 3, 1) := dk_62 (dk_at dksX3_sets_0 5 rfl rfl)
theorem dX3_sets_6 : decode cX3_sets 6 = .ok (.iload_n 3, 1) := dk_29 (dk_at dksX3_sets_0 6 rfl rfl)
theorem dX3_sets_7 : decode cX3_sets 7 = .ok (.iconst 1, 1) := dk_4 (dk_at dksX3_sets_0 7 rfl rfl)
theorem dX3_sets_8 : decode cX3_sets 8 = .ok (.if_icmp .eq 26, 3) := dk_159 0 26 (dk_at dksX3_sets_0 8 rfl rfl)
theorem dX3_sets_11 : decode cX3_sets 11 = .ok (.iload_n 3, 1) := dk_29 (dk_at dksX3_sets_0 11 rfl rfl)
theorem dX3_sets_12 : decode cX3_sets 12 = .ok (.iconst 2, 1) := dk_5 (dk_at dksX3_sets_0 12 rfl rfl)
theorem dX3_sets_13 : decode cX3_sets 13 = .ok (.if_icmp .eq 21, 3) := dk_159 0 21 (dk_at dksX3_sets_0 13 rfl rfl)
theorem dX3_sets_16 : decode cX3_sets 16 = .ok (.iload_n 3, 1) := dk_29 (dk_at dksX3_sets_0 16 rfl rfl)
theorem dX3_sets_17 : decode cX3_sets 17 = .ok (.bipush 10, 2) := dk_16 10 (dk_at dksX3_sets_0 17 rfl rfl)
theorem dX3_sets_19 : decode cX3_sets 19 = .ok (.if_icmp .eq 15, 3) := dk_159 0 15 (dk_at dksX3_sets_0 19 rfl rfl)
theorem dX3_sets_22 : decode cX3_sets 22 = .ok (.iload_n 3, 1) := dk_29 (dk_at dksX3_sets_0 22 rfl rfl)
theorem dX3_sets_23 : decode cX3_sets 23 = .ok (.bipush 11, 2) := dk_16 11 (dk_at dksX3_sets_1 0 rfl rfl)
theorem dX3_sets_25 : decode cX3_sets 25 = .ok (.if_icmp .eq 9, 3) := dk_159 0 9 (dk_at dksX3_sets_1 2 rfl rfl)
theorem dX3_sets_28 : decode cX3_sets 28 = .ok (.iload_n 3, 1) := dk_29 (dk_at dksX3_sets_1 5 rfl rfl)
theorem dX3_sets_29 : decode cX3_sets 29 = .ok (.bipush 12, 2) := dk_16 12 (dk_at dksX3_sets_1 6 rfl rfl)
theorem dX3_sets_31 : decode cX3_sets 31 = .ok (.if_icmp .ne 16, 3) := dk_160 0 16 (dk_at dksX3_sets_1 8 rfl rfl)
theorem dX3_sets_34 : decode cX3_sets 34 = .ok (.aload_n 0, 1) := dk_42 (dk_at dksX3_sets_1 11 rfl rfl)
theorem dX3_sets_35 : decode cX3_sets 35 = .ok (.iload_n 1, 1) := dk_27 (dk_at dksX3_sets_1 12 rfl rfl)
theorem dX3_sets_36 : decode cX3_sets 36 = .ok (.invokevirtual 158, 3) := dk_182 0 158 (dk_at dksX3_sets_1 13 rfl rfl)
theorem dX3_sets_39 : decode cX3_sets 39 = .ok (.iload_n 2, 1) := dk_28 (dk_at dksX3_sets_1 16 rfl rfl)
theorem dX3_sets_40 : decode cX3_sets 40 = .ok (.if_icmp .ne 7, 3) := dk_160 0 7 (dk_at dksX3_sets_1 17 rfl rfl)
theorem dX3_sets_43 : decode cX3_sets 43 = .ok (.iconst 1, 1) := dk_4 (dk_at dksX3_sets_1 20 rfl rfl)
theorem dX3_sets_44 : decode cX3_sets 44 = .ok (.goto 4, 3) := dk_167 0 4 (dk_at dksX3_sets_1 21 rfl rfl)
theorem dX3_sets_47 : decode cX3_sets 47 = .ok (.iconst 0, 1) := dk_3 (dk_at dksX3_sets_2 0 rfl rfl)
theorem dX3_sets_48 : decode cX3_sets 48 = .ok (.ireturn, 1) := dk_172 (dk_at dksX3_sets_2 1 rfl rfl)
abbrev cX3_entersTable : ByteArray := prog_12_method_40_code
def yX3_entersTable : MethodName := ⟨RX3, "entersTable", "(I)V"⟩
def dkwX3_entersTable_2 : List UInt8 := [180, 0, 202, 92, 46, 4, 96, 79, 177]
abbrev dktX3_entersTable_2 : List UInt8 := dkwX3_entersTable_2 ++ []
def dkwX3_entersTable_1 : List UInt8 := [42, 180, 0, 202, 104, 42, 180, 0, 66, 42, 180, 0, 202, 46, 96, 27, 79, 42, 180, 0, 66, 42]
abbrev dktX3_entersTable_1 : List UInt8 := dkwX3_entersTable_1 ++ dktX3_entersTable_2
def dkwX3_entersTable_0 : List UInt8 := [42, 27, 182, 0, 127, 153, 0, 12, 42, 180, 0, 35, 27, 46, 155, 0, 4, 177, 42, 180, 0, 69, 16, 16]
abbrev dktX3_entersTable_0 : List UInt8 := dkwX3_entersTable_0 ++ dktX3_entersTable_1
theorem dksX3_entersTable_0 : cX3_entersTable.data.toList.drop 0 = dktX3_entersTable_0 := by decide +kernel
theorem dksX3_entersTable_1 : cX3_entersTable.data.toList.drop 24 = dktX3_entersTable_1 := dk_seg dksX3_entersTable_0 24 rfl rfl
theorem dksX3_entersTable_2 : cX3_entersTable.data.toList.drop 46 = dktX3_entersTable_2 := dk_seg dksX3_entersTable_1 22 rfl rfl
theorem dX3_entersTable_0 : decode cX3_entersTable 0 = .ok (.aload_n 0, 1) := dk_42 (dk_at dksX3_entersTable_0 0 rfl rfl)
theorem dX3_entersTable_1 : decode cX3_entersTable 1 = .ok (.iload_n 1, 1) := dk_27 (dk_at dksX3_entersTable_0 1 rfl rfl)
theorem dX3_entersTable_2 : decode cX3_entersTable 2 = .ok (.invokevirtual 127, 3) := dk_182 0 127 (dk_at dksX3_entersTable_0 2 rfl rfl)
theorem dX3_entersTable_5 : decode cX3_entersTable 5 = .ok (.ifCond .eq 12, 3) := dk_153 0 12 (dk_at dksX3_entersTable_0 5 rfl rfl)
theorem dX3_entersTable_8 : decode cX3_entersTable 8 = .ok (.aload_n 0, 1) := dk_42 (dk_at dksX3_entersTable_0 8 rfl rfl)
theorem dX3_entersTable_9 : decode cX3_entersTable 9 = .ok (.getfield 35, 3) := dk_180 0 35 (dk_at dksX3_entersTable_0 9 rfl rfl)
theorem dX3_entersTable_12 : decode cX3_entersTable 12 = .ok (.iload_n 1, 1) := dk_27 (dk_at dksX3_entersTable_0 12 rfl rfl)
theorem dX3_entersTable_13 : decode cX3_entersTable 13 = .ok (.iaload, 1) := dk_46 (dk_at dksX3_entersTable_0 13 rfl rfl)
theorem dX3_entersTable_14 : decode cX3_entersTable 14 = .ok (.ifCond .lt 4, 3) := dk_155 0 4 (dk_at dksX3_entersTable_0 14 rfl rfl)
theorem dX3_entersTable_17 : decode cX3_entersTable 17 = .ok (.return_, 1) := dk_177 (dk_at dksX3_entersTable_0 17 rfl rfl)
theorem dX3_entersTable_18 : decode cX3_entersTable 18 = .ok (.aload_n 0, 1) := dk_42 (dk_at dksX3_entersTable_0 18 rfl rfl)
theorem dX3_entersTable_19 : decode cX3_entersTable 19 = .ok (.getfield 69, 3) := dk_180 0 69 (dk_at dksX3_entersTable_0 19 rfl rfl)
theorem dX3_entersTable_22 : decode cX3_entersTable 22 = .ok (.bipush 16, 2) := dk_16 16 (dk_at dksX3_entersTable_0 22 rfl rfl)
theorem dX3_entersTable_24 : decode cX3_entersTable 24 = .ok (.aload_n 0, 1) := dk_42 (dk_at dksX3_entersTable_1 0 rfl rfl)
theorem dX3_entersTable_25 : decode cX3_entersTable 25 = .ok (.getfield 202, 3) := dk_180 0 202 (dk_at dksX3_entersTable_1 1 rfl rfl)
theorem dX3_entersTable_28 : decode cX3_entersTable 28 = .ok (.imul, 1) := dk_104 (dk_at dksX3_entersTable_1 4 rfl rfl)
theorem dX3_entersTable_29 : decode cX3_entersTable 29 = .ok (.aload_n 0, 1) := dk_42 (dk_at dksX3_entersTable_1 5 rfl rfl)
theorem dX3_entersTable_30 : decode cX3_entersTable 30 = .ok (.getfield 66, 3) := dk_180 0 66 (dk_at dksX3_entersTable_1 6 rfl rfl)
theorem dX3_entersTable_33 : decode cX3_entersTable 33 = .ok (.aload_n 0, 1) := dk_42 (dk_at dksX3_entersTable_1 9 rfl rfl)
theorem dX3_entersTable_34 : decode cX3_entersTable 34 = .ok (.getfield 202, 3) := dk_180 0 202 (dk_at dksX3_entersTable_1 10 rfl rfl)
theorem dX3_entersTable_37 : decode cX3_entersTable 37 = .ok (.iaload, 1) := dk_46 (dk_at dksX3_entersTable_1 13 rfl rfl)
theorem dX3_entersTable_38 : decode cX3_entersTable 38 = .ok (.iadd, 1) := dk_96 (dk_at dksX3_entersTable_1 14 rfl rfl)
theorem dX3_entersTable_39 : decode cX3_entersTable 39 = .ok (.iload_n 1, 1) := dk_27 (dk_at dksX3_entersTable_1 15 rfl rfl)
theorem dX3_entersTable_40 : decode cX3_entersTable 40 = .ok (.iastore, 1) := dk_79 (dk_at dksX3_entersTable_1 16 rfl rfl)
theorem dX3_entersTable_41 : decode cX3_entersTable 41 = .ok (.aload_n 0, 1) := dk_42 (dk_at dksX3_entersTable_1 17 rfl rfl)
theorem dX3_entersTable_42 : decode cX3_entersTable 42 = .ok (.getfield 66, 3) := dk_180 0 66 (dk_at dksX3_entersTable_1 18 rfl rfl)
theorem dX3_entersTable_45 : decode cX3_entersTable 45 = .ok (.aload_n 0, 1) := dk_42 (dk_at dksX3_entersTable_1 21 rfl rfl)
theorem dX3_entersTable_46 : decode cX3_entersTable 46 = .ok (.getfield 202, 3) := dk_180 0 202 (dk_at dksX3_entersTable_2 0 rfl rfl)
theorem dX3_entersTable_49 : decode cX3_entersTable 49 = .ok (.dup2, 1) := dk_92 (dk_at dksX3_entersTable_2 3 rfl rfl)
theorem dX3_entersTable_50 : decode cX3_entersTable 50 = .ok (.iaload, 1) := dk_46 (dk_at dksX3_entersTable_2 4 rfl rfl)
theorem dX3_entersTable_51 : decode cX3_entersTable 51 = .ok (.iconst 1, 1) := dk_4 (dk_at dksX3_entersTable_2 5 rfl rfl)
theorem dX3_entersTable_52 : decode cX3_entersTable 52 = .ok (.iadd, 1) := dk_96 (dk_at dksX3_entersTable_2 6 rfl rfl)
theorem dX3_entersTable_53 : decode cX3_entersTable 53 = .ok (.iastore, 1) := dk_79 (dk_at dksX3_entersTable_2 7 rfl rfl)
theorem dX3_entersTable_54 : decode cX3_entersTable 54 = .ok (.return_, 1) := dk_177 (dk_at dksX3_entersTable_2 8 rfl rfl)
abbrev cX3_looksAtGaps : ByteArray := prog_12_method_47_code
def yX3_looksAtGaps : MethodName := ⟨RX3, "looksAtGaps", "()V"⟩
def dkwX3_looksAtGaps_5 : List UInt8 := [161, 0, 13, 42, 42, 180, 0, 72, 28, 46, 182, 0, 230, 132, 2, 1, 167, 255, 222, 177]
abbrev dktX3_looksAtGaps_5 : List UInt8 := dkwX3_looksAtGaps_5 ++ []
def dkwX3_looksAtGaps_4 : List UInt8 := [167, 255, 168, 3, 61, 28, 42, 180, 0, 223, 162, 0, 32, 42, 180, 0, 78, 28, 46, 42, 180, 0, 22]
abbrev dktX3_looksAtGaps_4 : List UInt8 := dkwX3_looksAtGaps_4 ++ dktX3_looksAtGaps_5
def dkwX3_looksAtGaps_3 : List UInt8 := [180, 0, 223, 42, 27, 28, 182, 0, 226, 79, 42, 89, 180, 0, 223, 4, 96, 181, 0, 223, 28, 4, 96, 60]
abbrev dktX3_looksAtGaps_3 : List UInt8 := dkwX3_looksAtGaps_3 ++ dktX3_looksAtGaps_4
def dkwX3_looksAtGaps_2 : List UInt8 := [180, 0, 223, 27, 79, 42, 180, 0, 75, 42, 180, 0, 223, 28, 27, 100, 79, 42, 180, 0, 78, 42]
abbrev dktX3_looksAtGaps_2 : List UInt8 := dkwX3_looksAtGaps_2 ++ dktX3_looksAtGaps_3
def dkwX3_looksAtGaps_1 : List UInt8 := [182, 0, 220, 154, 0, 9, 132, 2, 1, 167, 255, 237, 28, 27, 164, 0, 50, 42, 180, 0, 72, 42]
abbrev dktX3_looksAtGaps_1 : List UInt8 := dkwX3_looksAtGaps_1 ++ dktX3_looksAtGaps_2
def dkwX3_looksAtGaps_0 : List UInt8 := [3, 60, 27, 42, 180, 0, 99, 162, 0, 86, 27, 61, 28, 42, 180, 0, 99, 162, 0, 17, 42, 28]
abbrev dktX3_looksAtGaps_0 : List UInt8 := dkwX3_looksAtGaps_0 ++ dktX3_looksAtGaps_1
theorem dksX3_looksAtGaps_0 : cX3_looksAtGaps.data.toList.drop 0 = dktX3_looksAtGaps_0 := by decide +kernel
theorem dksX3_looksAtGaps_1 : cX3_looksAtGaps.data.toList.drop 22 = dktX3_looksAtGaps_1 := dk_seg dksX3_looksAtGaps_0 22 rfl rfl
theorem dksX3_looksAtGaps_2 : cX3_looksAtGaps.data.toList.drop 44 = dktX3_looksAtGaps_2 := dk_seg dksX3_looksAtGaps_1 22 rfl rfl
theorem dksX3_looksAtGaps_3 : cX3_looksAtGaps.data.toList.drop 66 = dktX3_looksAtGaps_3 := dk_seg dksX3_looksAtGaps_2 22 rfl rfl
theorem dksX3_looksAtGaps_4 : cX3_looksAtGaps.data.toList.drop 90 = dktX3_looksAtGaps_4 := dk_seg dksX3_looksAtGaps_3 24 rfl rfl
theorem dksX3_looksAtGaps_5 : cX3_looksAtGaps.data.toList.drop 113 = dktX3_looksAtGaps_5 := dk_seg dksX3_looksAtGaps_4 23 rfl rfl
theorem dX3_looksAtGaps_0 : decode cX3_looksAtGaps 0 = .ok (.iconst 0, 1) := dk_3 (dk_at dksX3_looksAtGaps_0 0 rfl rfl)
theorem dX3_looksAtGaps_1 : decode cX3_looksAtGaps 1 = .ok (.istore_n 1, 1) := dk_60 (dk_at dksX3_looksAtGaps_0 1 rfl rfl)
theorem dX3_looksAtGaps_2 : decode cX3_looksAtGaps 2 = .ok (.iload_n 1, 1) := dk_27 (dk_at dksX3_looksAtGaps_0 2 rfl rfl)
theorem dX3_looksAtGaps_3 : decode cX3_looksAtGaps 3 = .ok (.aload_n 0, 1) := dk_42 (dk_at dksX3_looksAtGaps_0 3 rfl rfl)
theorem dX3_looksAtGaps_4 : decode cX3_looksAtGaps 4 = .ok (.getfield 99, 3) := dk_180 0 99 (dk_at dksX3_looksAtGaps_0 4 rfl rfl)
theorem dX3_looksAtGaps_7 : decode cX3_looksAtGaps 7 = .ok (.if_icmp .ge 86, 3) := dk_162 0 86 (dk_at dksX3_looksAtGaps_0 7 rfl rfl)
theorem dX3_looksAtGaps_10 : decode cX3_looksAtGaps 10 = .ok (.iload_n 1, 1) := dk_27 (dk_at dksX3_looksAtGaps_0 10 rfl rfl)
theorem dX3_looksAtGaps_11 : decode cX3_looksAtGaps 11 = .ok (.istore_n 2, 1) := dk_61 (dk_at dksX3_looksAtGaps_0 11 rfl rfl)
theorem dX3_looksAtGaps_12 : decode cX3_looksAtGaps 12 = .ok (.iload_n 2, 1) := dk_28 (dk_at dksX3_looksAtGaps_0 12 rfl rfl)
theorem dX3_looksAtGaps_13 : decode cX3_looksAtGaps 13 = .ok (.aload_n 0, 1) := dk_42 (dk_at dksX3_looksAtGaps_0 13 rfl rfl)
theorem dX3_looksAtGaps_14 : decode cX3_looksAtGaps 14 = .ok (.getfield 99, 3) := dk_180 0 99 (dk_at dksX3_looksAtGaps_0 14 rfl rfl)
theorem dX3_looksAtGaps_17 : decode cX3_looksAtGaps 17 = .ok (.if_icmp .ge 17, 3) := dk_162 0 17 (dk_at dksX3_looksAtGaps_0 17 rfl rfl)
theorem dX3_looksAtGaps_20 : decode cX3_looksAtGaps 20 = .ok (.aload_n 0, 1) := dk_42 (dk_at dksX3_looksAtGaps_0 20 rfl rfl)
theorem dX3_looksAtGaps_21 : decode cX3_looksAtGaps 21 = .ok (.iload_n 2, 1) := dk_28 (dk_at dksX3_looksAtGaps_0 21 rfl rfl)
theorem dX3_looksAtGaps_22 : decode cX3_looksAtGaps 22 = .ok (.invokevirtual 220, 3) := dk_182 0 220 (dk_at dksX3_looksAtGaps_1 0 rfl rfl)
theorem dX3_looksAtGaps_25 : decode cX3_looksAtGaps 25 = .ok (.ifCond .ne 9, 3) := dk_154 0 9 (dk_at dksX3_looksAtGaps_1 3 rfl rfl)
theorem dX3_looksAtGaps_28 : decode cX3_looksAtGaps 28 = .ok (.iinc 2 1, 3) := dk_132 2 1 (dk_at dksX3_looksAtGaps_1 6 rfl rfl)
theorem dX3_looksAtGaps_31 : decode cX3_looksAtGaps 31 = .ok (.goto (-19), 3) := dk_167 255 237 (dk_at dksX3_looksAtGaps_1 9 rfl rfl)
theorem dX3_looksAtGaps_34 : decode cX3_looksAtGaps 34 = .ok (.iload_n 2, 1) := dk_28 (dk_at dksX3_looksAtGaps_1 12 rfl rfl)
theorem dX3_looksAtGaps_35 : decode cX3_looksAtGaps 35 = .ok (.iload_n 1, 1) := dk_27 (dk_at dksX3_looksAtGaps_1 13 rfl rfl)
theorem dX3_looksAtGaps_36 : decode cX3_looksAtGaps 36 = .ok (.if_icmp .le 50, 3) := dk_164 0 50 (dk_at dksX3_looksAtGaps_1 14 rfl rfl)
theorem dX3_looksAtGaps_39 : decode cX3_looksAtGaps 39 = .ok (.aload_n 0, 1) := dk_42 (dk_at dksX3_looksAtGaps_1 17 rfl rfl)
theorem dX3_looksAtGaps_40 : decode cX3_looksAtGaps 40 = .ok (.getfield 72, 3) := dk_180 0 72 (dk_at dksX3_looksAtGaps_1 18 rfl rfl)
theorem dX3_looksAtGaps_43 : decode cX3_looksAtGaps 43 = .ok (.aload_n 0, 1) := dk_42 (dk_at dksX3_looksAtGaps_1 21 rfl rfl)
theorem dX3_looksAtGaps_44 : decode cX3_looksAtGaps 44 = .ok (.getfield 223, 3) := dk_180 0 223 (dk_at dksX3_looksAtGaps_2 0 rfl rfl)
theorem dX3_looksAtGaps_47 : decode cX3_looksAtGaps 47 = .ok (.iload_n 1, 1) := dk_27 (dk_at dksX3_looksAtGaps_2 3 rfl rfl)
theorem dX3_looksAtGaps_48 : decode cX3_looksAtGaps 48 = .ok (.iastore, 1) := dk_79 (dk_at dksX3_looksAtGaps_2 4 rfl rfl)
theorem dX3_looksAtGaps_49 : decode cX3_looksAtGaps 49 = .ok (.aload_n 0, 1) := dk_42 (dk_at dksX3_looksAtGaps_2 5 rfl rfl)
theorem dX3_looksAtGaps_50 : decode cX3_looksAtGaps 50 = .ok (.getfield 75, 3) := dk_180 0 75 (dk_at dksX3_looksAtGaps_2 6 rfl rfl)
theorem dX3_looksAtGaps_53 : decode cX3_looksAtGaps 53 = .ok (.aload_n 0, 1) := dk_42 (dk_at dksX3_looksAtGaps_2 9 rfl rfl)
theorem dX3_looksAtGaps_54 : decode cX3_looksAtGaps 54 = .ok (.getfield 223, 3) := dk_180 0 223 (dk_at dksX3_looksAtGaps_2 10 rfl rfl)
theorem dX3_looksAtGaps_57 : decode cX3_looksAtGaps 57 = .ok (.iload_n 2, 1) := dk_28 (dk_at dksX3_looksAtGaps_2 13 rfl rfl)
theorem dX3_looksAtGaps_58 : decode cX3_looksAtGaps 58 = .ok (.iload_n 1, 1) := dk_27 (dk_at dksX3_looksAtGaps_2 14 rfl rfl)
theorem dX3_looksAtGaps_59 : decode cX3_looksAtGaps 59 = .ok (.isub, 1) := dk_100 (dk_at dksX3_looksAtGaps_2 15 rfl rfl)
theorem dX3_looksAtGaps_60 : decode cX3_looksAtGaps 60 = .ok (.iastore, 1) := dk_79 (dk_at dksX3_looksAtGaps_2 16 rfl rfl)
theorem dX3_looksAtGaps_61 : decode cX3_looksAtGaps 61 = .ok (.aload_n 0, 1) := dk_42 (dk_at dksX3_looksAtGaps_2 17 rfl rfl)
theorem dX3_looksAtGaps_62 : decode cX3_looksAtGaps 62 = .ok (.getfield 78, 3) := dk_180 0 78 (dk_at dksX3_looksAtGaps_2 18 rfl rfl)
theorem dX3_looksAtGaps_65 : decode cX3_looksAtGaps 65 = .ok (.aload_n 0, 1) := dk_42 (dk_at dksX3_looksAtGaps_2 21 rfl rfl)
theorem dX3_looksAtGaps_66 : decode cX3_looksAtGaps 66 = .ok (.getfield 223, 3) := dk_180 0 223 (dk_at dksX3_looksAtGaps_3 0 rfl rfl)
theorem dX3_looksAtGaps_69 : decode cX3_looksAtGaps 69 = .ok (.aload_n 0, 1) := dk_42 (dk_at dksX3_looksAtGaps_3 3 rfl rfl)
theorem dX3_looksAtGaps_70 : decode cX3_looksAtGaps 70 = .ok (.iload_n 1, 1) := dk_27 (dk_at dksX3_looksAtGaps_3 4 rfl rfl)
theorem dX3_looksAtGaps_71 : decode cX3_looksAtGaps 71 = .ok (.iload_n 2, 1) := dk_28 (dk_at dksX3_looksAtGaps_3 5 rfl rfl)
theorem dX3_looksAtGaps_72 : decode cX3_looksAtGaps 72 = .ok (.invokevirtual 226, 3) := dk_182 0 226 (dk_at dksX3_looksAtGaps_3 6 rfl rfl)
theorem dX3_looksAtGaps_75 : decode cX3_looksAtGaps 75 = .ok (.iastore, 1) := dk_79 (dk_at dksX3_looksAtGaps_3 9 rfl rfl)
theorem dX3_looksAtGaps_76 : decode cX3_looksAtGaps 76 = .ok (.aload_n 0, 1) := dk_42 (dk_at dksX3_looksAtGaps_3 10 rfl rfl)
theorem dX3_looksAtGaps_77 : decode cX3_looksAtGaps 77 = .ok (.dup, 1) := dk_89 (dk_at dksX3_looksAtGaps_3 11 rfl rfl)
theorem dX3_looksAtGaps_78 : decode cX3_looksAtGaps 78 = .ok (.getfield 223, 3) := dk_180 0 223 (dk_at dksX3_looksAtGaps_3 12 rfl rfl)
theorem dX3_looksAtGaps_81 : decode cX3_looksAtGaps 81 = .ok (.iconst 1, 1) := dk_4 (dk_at dksX3_looksAtGaps_3 15 rfl rfl)
theorem dX3_looksAtGaps_82 : decode cX3_looksAtGaps 82 = .ok (.iadd, 1) := dk_96 (dk_at dksX3_looksAtGaps_3 16 rfl rfl)
theorem dX3_looksAtGaps_83 : decode cX3_looksAtGaps 83 = .ok (.putfield 223, 3) := dk_181 0 223 (dk_at dksX3_looksAtGaps_3 17 rfl rfl)
theorem dX3_looksAtGaps_86 : decode cX3_looksAtGaps 86 = .ok (.iload_n 2, 1) := dk_28 (dk_at dksX3_looksAtGaps_3 20 rfl rfl)
theorem dX3_looksAtGaps_87 : decode cX3_looksAtGaps 87 = .ok (.iconst 1, 1) := dk_4 (dk_at dksX3_looksAtGaps_3 21 rfl rfl)
theorem dX3_looksAtGaps_88 : decode cX3_looksAtGaps 88 = .ok (.iadd, 1) := dk_96 (dk_at dksX3_looksAtGaps_3 22 rfl rfl)
theorem dX3_looksAtGaps_89 : decode cX3_looksAtGaps 89 = .ok (.istore_n 1, 1) := dk_60 (dk_at dksX3_looksAtGaps_3 23 rfl rfl)
theorem dX3_looksAtGaps_90 : decode cX3_looksAtGaps 90 = .ok (.goto (-88), 3) := dk_167 255 168 (dk_at dksX3_looksAtGaps_4 0 rfl rfl)
theorem dX3_looksAtGaps_93 : decode cX3_looksAtGaps 93 = .ok (.iconst 0, 1) := dk_3 (dk_at dksX3_looksAtGaps_4 3 rfl rfl)
theorem dX3_looksAtGaps_94 : decode cX3_looksAtGaps 94 = .ok (.istore_n 2, 1) := dk_61 (dk_at dksX3_looksAtGaps_4 4 rfl rfl)
theorem dX3_looksAtGaps_95 : decode cX3_looksAtGaps 95 = .ok (.iload_n 2, 1) := dk_28 (dk_at dksX3_looksAtGaps_4 5 rfl rfl)
theorem dX3_looksAtGaps_96 : decode cX3_looksAtGaps 96 = .ok (.aload_n 0, 1) := dk_42 (dk_at dksX3_looksAtGaps_4 6 rfl rfl)
theorem dX3_looksAtGaps_97 : decode cX3_looksAtGaps 97 = .ok (.getfield 223, 3) := dk_180 0 223 (dk_at dksX3_looksAtGaps_4 7 rfl rfl)
theorem dX3_looksAtGaps_100 : decode cX3_looksAtGaps 100 = .ok (.if_icmp .ge 32, 3) := dk_162 0 32 (dk_at dksX3_looksAtGaps_4 10 rfl rfl)
theorem dX3_looksAtGaps_103 : decode cX3_looksAtGaps 103 = .ok (.aload_n 0, 1) := dk_42 (dk_at dksX3_looksAtGaps_4 13 rfl rfl)
theorem dX3_looksAtGaps_104 : decode cX3_looksAtGaps 104 = .ok (.getfield 78, 3) := dk_180 0 78 (dk_at dksX3_looksAtGaps_4 14 rfl rfl)
theorem dX3_looksAtGaps_107 : decode cX3_looksAtGaps 107 = .ok (.iload_n 2, 1) := dk_28 (dk_at dksX3_looksAtGaps_4 17 rfl rfl)
theorem dX3_looksAtGaps_108 : decode cX3_looksAtGaps 108 = .ok (.iaload, 1) := dk_46 (dk_at dksX3_looksAtGaps_4 18 rfl rfl)
theorem dX3_looksAtGaps_109 : decode cX3_looksAtGaps 109 = .ok (.aload_n 0, 1) := dk_42 (dk_at dksX3_looksAtGaps_4 19 rfl rfl)
theorem dX3_looksAtGaps_110 : decode cX3_looksAtGaps 110 = .ok (.getfield 22, 3) := dk_180 0 22 (dk_at dksX3_looksAtGaps_4 20 rfl rfl)
theorem dX3_looksAtGaps_113 : decode cX3_looksAtGaps 113 = .ok (.if_icmp .lt 13, 3) := dk_161 0 13 (dk_at dksX3_looksAtGaps_5 0 rfl rfl)
theorem dX3_looksAtGaps_116 : decode cX3_looksAtGaps 116 = .ok (.aload_n 0, 1) := dk_42 (dk_at dksX3_looksAtGaps_5 3 rfl rfl)
theorem dX3_looksAtGaps_117 : decode cX3_looksAtGaps 117 = .ok (.aload_n 0, 1) := dk_42 (dk_at dksX3_looksAtGaps_5 4 rfl rfl)
theorem dX3_looksAtGaps_118 : decode cX3_looksAtGaps 118 = .ok (.getfield 72, 3) := dk_180 0 72 (dk_at dksX3_looksAtGaps_5 5 rfl rfl)
theorem dX3_looksAtGaps_121 : decode cX3_looksAtGaps 121 = .ok (.iload_n 2, 1) := dk_28 (dk_at dksX3_looksAtGaps_5 8 rfl rfl)
theorem dX3_looksAtGaps_122 : decode cX3_looksAtGaps 122 = .ok (.iaload, 1) := dk_46 (dk_at dksX3_looksAtGaps_5 9 rfl rfl)
theorem dX3_looksAtGaps_123 : decode cX3_looksAtGaps 123 = .ok (.invokevirtual 230, 3) := dk_182 0 230 (dk_at dksX3_looksAtGaps_5 10 rfl rfl)
theorem dX3_looksAtGaps_126 : decode cX3_looksAtGaps 126 = .ok (.iinc 2 1, 3) := dk_132 2 1 (dk_at dksX3_looksAtGaps_5 13 rfl rfl)
theorem dX3_looksAtGaps_129 : decode cX3_looksAtGaps 129 = .ok (.goto (-34), 3) := dk_167 255 222 (dk_at dksX3_looksAtGaps_5 16 rfl rfl)
theorem dX3_looksAtGaps_132 : decode cX3_looksAtGaps 132 = .ok (.return_, 1) := dk_177 (dk_at dksX3_looksAtGaps_5 19 rfl rfl)
abbrev cX3_isUsed : ByteArray := prog_12_method_46_code
def yX3_isUsed : MethodName := ⟨RX3, "isUsed", "(I)Z"⟩
def dkwX3_isUsed_0 : List UInt8 := [42, 180, 0, 35, 27, 46, 156, 0, 12, 42, 180, 0, 44, 27, 51, 153, 0, 7, 4, 167, 0, 4, 3, 172]
abbrev dktX3_isUsed_0 : List UInt8 := dkwX3_isUsed_0 ++ []
theorem dksX3_isUsed_0 : cX3_isUsed.data.toList.drop 0 = dktX3_isUsed_0 := by decide +kernel
theorem dX3_isUsed_0 : decode cX3_isUsed 0 = .ok (.aload_n 0, 1) := dk_42 (dk_at dksX3_isUsed_0 0 rfl rfl)
theorem dX3_isUsed_1 : decode cX3_isUsed 1 = .ok (.getfield 35, 3) := dk_180 0 35 (dk_at dksX3_isUsed_0 1 rfl rfl)
theorem dX3_isUsed_4 : decode cX3_isUsed 4 = .ok (.iload_n 1, 1) := dk_27 (dk_at dksX3_isUsed_0 4 rfl rfl)
theorem dX3_isUsed_5 : decode cX3_isUsed 5 = .ok (.iaload, 1) := dk_46 (dk_at dksX3_isUsed_0 5 rfl rfl)
theorem dX3_isUsed_6 : decode cX3_isUsed 6 = .ok (.ifCond .ge 12, 3) := dk_156 0 12 (dk_at dksX3_isUsed_0 6 rfl rfl)
theorem dX3_isUsed_9 : decode cX3_isUsed 9 = .ok (.aload_n 0, 1) := dk_42 (dk_at dksX3_isUsed_0 9 rfl rfl)
theorem dX3_isUsed_10 : decode cX3_isUsed 10 = .ok (.getfield 44, 3) := dk_180 0 44 (dk_at dksX3_isUsed_0 10 rfl rfl)
theorem dX3_isUsed_13 : decode cX3_isUsed 13 = .ok (.iload_n 1, 1) := dk_27 (dk_at dksX3_isUsed_0 13 rfl rfl)
theorem dX3_isUsed_14 : decode cX3_isUsed 14 = .ok (.baload, 1) := dk_51 (dk_at dksX3_isUsed_0 14 rfl rfl)
theorem dX3_isUsed_15 : decode cX3_isUsed 15 = .ok (.ifCond .eq 7, 3) := dk_153 0 7 (dk_at dksX3_isUsed_0 15 rfl rfl)
theorem dX3_isUsed_18 : decode cX3_isUsed 18 = .ok (.iconst 1, 1) := dk_4 (dk_at dksX3_isUsed_0 18 rfl rfl)
theorem dX3_isUsed_19 : decode cX3_isUsed 19 = .ok (.goto 4, 3) := dk_167 0 4 (dk_at dksX3_isUsed_0 19 rfl rfl)
theorem dX3_isUsed_22 : decode cX3_isUsed 22 = .ok (.iconst 0, 1) := dk_3 (dk_at dksX3_isUsed_0 22 rfl rfl)
theorem dX3_isUsed_23 : decode cX3_isUsed 23 = .ok (.ireturn, 1) := dk_172 (dk_at dksX3_isUsed_0 23 rfl rfl)
abbrev cX3_tested : ByteArray := prog_12_method_43_code
def yX3_tested : MethodName := ⟨RX3, "tested", "(II)I"⟩
def dkwX3_tested_6 : List UInt8 := [21, 5, 42, 21, 5, 182, 0, 140, 184, 0, 143, 96, 54, 5, 167, 255, 154, 21, 4, 172]
abbrev dktX3_tested_6 : List UInt8 := dkwX3_tested_6 ++ []
def dkwX3_tested_5 : List UInt8 := [21, 5, 182, 0, 140, 7, 16, 6, 184, 0, 102, 153, 0, 7, 5, 167, 0, 4, 3, 96, 96, 54, 4]
abbrev dktX3_tested_5 : List UInt8 := dkwX3_tested_5 ++ dktX3_tested_6
def dkwX3_tested_4 : List UInt8 := [154, 0, 5, 3, 172, 21, 4, 4, 42, 21, 5, 182, 0, 140, 16, 7, 160, 0, 7, 6, 167, 0, 23, 42]
abbrev dktX3_tested_4 : List UInt8 := dkwX3_tested_4 ++ dktX3_tested_5
def dkwX3_tested_3 : List UInt8 := [42, 21, 5, 182, 0, 149, 46, 154, 0, 20, 42, 27, 29, 42, 21, 5, 182, 0, 149, 182, 0, 214]
abbrev dktX3_tested_3 : List UInt8 := dkwX3_tested_3 ++ dktX3_tested_4
def dkwX3_tested_2 : List UInt8 := [54, 4, 27, 54, 5, 21, 5, 29, 163, 0, 102, 42, 21, 5, 182, 0, 146, 153, 0, 34, 42, 180, 0, 32]
abbrev dktX3_tested_2 : List UInt8 := dkwX3_tested_2 ++ dktX3_tested_3
def dkwX3_tested_1 : List UInt8 := [182, 0, 140, 184, 0, 143, 96, 62, 167, 255, 228, 42, 29, 28, 182, 0, 211, 154, 0, 5, 3, 172, 3]
abbrev dktX3_tested_1 : List UInt8 := dkwX3_tested_1 ++ dktX3_tested_2
def dkwX3_tested_0 : List UInt8 := [27, 62, 42, 29, 28, 182, 0, 211, 153, 0, 25, 42, 29, 182, 0, 152, 154, 0, 17, 29, 42, 29]
abbrev dktX3_tested_0 : List UInt8 := dkwX3_tested_0 ++ dktX3_tested_1
theorem dksX3_tested_0 : cX3_tested.data.toList.drop 0 = dktX3_tested_0 := by decide +kernel
theorem dksX3_tested_1 : cX3_tested.data.toList.drop 22 = dktX3_tested_1 := dk_seg dksX3_tested_0 22 rfl rfl
theorem dksX3_tested_2 : cX3_tested.data.toList.drop 45 = dktX3_tested_2 := dk_seg dksX3_tested_1 23 rfl rfl
theorem dksX3_tested_3 : cX3_tested.data.toList.drop 69 = dktX3_tested_3 := dk_seg dksX3_tested_2 24 rfl rfl
theorem dksX3_tested_4 : cX3_tested.data.toList.drop 91 = dktX3_tested_4 := dk_seg dksX3_tested_3 22 rfl rfl
theorem dksX3_tested_5 : cX3_tested.data.toList.drop 115 = dktX3_tested_5 := dk_seg dksX3_tested_4 24 rfl rfl
theorem dksX3_tested_6 : cX3_tested.data.toList.drop 138 = dktX3_tested_6 := dk_seg dksX3_tested_5 23 rfl rfl
theorem dX3_tested_0 : decode cX3_tested 0 = .ok (.iload_n 1, 1) := dk_27 (dk_at dksX3_tested_0 0 rfl rfl)
theorem dX3_tested_1 : decode cX3_tested 1 = .ok (.istore_n 3, 1) := dk_62 (dk_at dksX3_tested_0 1 rfl rfl)
theorem dX3_tested_2 : decode cX3_tested 2 = .ok (.aload_n 0, 1) := dk_42 (dk_at dksX3_tested_0 2 rfl rfl)
theorem dX3_tested_3 : decode cX3_tested 3 = .ok (.iload_n 3, 1) := dk_29 (dk_at dksX3_tested_0 3 rfl rfl)
theorem dX3_tested_4 : decode cX3_tested 4 = .ok (.iload_n 2, 1) := dk_28 (dk_at dksX3_tested_0 4 rfl rfl)
theorem dX3_tested_5 : decode cX3_tested 5 = .ok (.invokevirtual 211, 3) := dk_182 0 211 (dk_at dksX3_tested_0 5 rfl rfl)
theorem dX3_tested_8 : decode cX3_tested 8 = .ok (.ifCond .eq 25, 3) := dk_153 0 25 (dk_at dksX3_tested_0 8 rfl rfl)
theorem dX3_tested_11 : decode cX3_tested 11 = .ok (.aload_n 0, 1) := dk_42 (dk_at dksX3_tested_0 11 rfl rfl)
theorem dX3_tested_12 : decode cX3_tested 12 = .ok (.iload_n 3, 1) := dk_29 (dk_at dksX3_tested_0 12 rfl rfl)
theorem dX3_tested_13 : decode cX3_tested 13 = .ok (.invokevirtual 152, 3) := dk_182 0 152 (dk_at dksX3_tested_0 13 rfl rfl)
theorem dX3_tested_16 : decode cX3_tested 16 = .ok (.ifCond .ne 17, 3) := dk_154 0 17 (dk_at dksX3_tested_0 16 rfl rfl)
theorem dX3_tested_19 : decode cX3_tested 19 = .ok (.iload_n 3, 1) := dk_29 (dk_at dksX3_tested_0 19 rfl rfl)
theorem dX3_tested_20 : decode cX3_tested 20 = .ok (.aload_n 0, 1) := dk_42 (dk_at dksX3_tested_0 20 rfl rfl)
theorem dX3_tested_21 : decode cX3_tested 21 = .ok (.iload_n 3, 1) := dk_29 (dk_at dksX3_tested_0 21 rfl rfl)
theorem dX3_tested_22 : decode cX3_tested 22 = .ok (.invokevirtual 140, 3) := dk_182 0 140 (dk_at dksX3_tested_1 0 rfl rfl)
theorem dX3_tested_25 : decode cX3_tested 25 = .ok (.invokestatic 143, 3) := dk_184 0 143 (dk_at dksX3_tested_1 3 rfl rfl)
theorem dX3_tested_28 : decode cX3_tested 28 = .ok (.iadd, 1) := dk_96 (dk_at dksX3_tested_1 6 rfl rfl)
theorem dX3_tested_29 : decode cX3_tested 29 = .ok (.istore_n 3, 1) := dk_62 (dk_at dksX3_tested_1 7 rfl rfl)
theorem dX3_tested_30 : decode cX3_tested 30 = .ok (.goto (-28), 3) := dk_167 255 228 (dk_at dksX3_tested_1 8 rfl rfl)
theorem dX3_tested_33 : decode cX3_tested 33 = .ok (.aload_n 0, 1) := dk_42 (dk_at dksX3_tested_1 11 rfl rfl)
theorem dX3_tested_34 : decode cX3_tested 34 = .ok (.iload_n 3, 1) := dk_29 (dk_at dksX3_tested_1 12 rfl rfl)
theorem dX3_tested_35 : decode cX3_tested 35 = .ok (.iload_n 2, 1) := dk_28 (dk_at dksX3_tested_1 13 rfl rfl)
theorem dX3_tested_36 : decode cX3_tested 36 = .ok (.invokevirtual 211, 3) := dk_182 0 211 (dk_at dksX3_tested_1 14 rfl rfl)
theorem dX3_tested_39 : decode cX3_tested 39 = .ok (.ifCond .ne 5, 3) := dk_154 0 5 (dk_at dksX3_tested_1 17 rfl rfl)
theorem dX3_tested_42 : decode cX3_tested 42 = .ok (.iconst 0, 1) := dk_3 (dk_at dksX3_tested_1 20 rfl rfl)
theorem dX3_tested_43 : decode cX3_tested 43 = .ok (.ireturn, 1) := dk_172 (dk_at dksX3_tested_1 21 rfl rfl)
theorem dX3_tested_44 : decode cX3_tested 44 = .ok (.iconst 0, 1) := dk_3 (dk_at dksX3_tested_1 22 rfl rfl)
theorem dX3_tested_45 : decode cX3_tested 45 = .ok (.istore 4, 2) := dk_54 4 (dk_at dksX3_tested_2 0 rfl rfl)
theorem dX3_tested_47 : decode cX3_tested 47 = .ok (.iload_n 1, 1) := dk_27 (dk_at dksX3_tested_2 2 rfl rfl)
theorem dX3_tested_48 : decode cX3_tested 48 = .ok (.istore 5, 2) := dk_54 5 (dk_at dksX3_tested_2 3 rfl rfl)
theorem dX3_tested_50 : decode cX3_tested 50 = .ok (.iload 5, 2) := dk_21 5 (dk_at dksX3_tested_2 5 rfl rfl)
theorem dX3_tested_52 : decode cX3_tested 52 = .ok (.iload_n 3, 1) := dk_29 (dk_at dksX3_tested_2 7 rfl rfl)
theorem dX3_tested_53 : decode cX3_tested 53 = .ok (.if_icmp .gt 102, 3) := dk_163 0 102 (dk_at dksX3_tested_2 8 rfl rfl)
theorem dX3_tested_56 : decode cX3_tested 56 = .ok (.aload_n 0, 1) := dk_42 (dk_at dksX3_tested_2 11 rfl rfl)
theorem dX3_tested_57 : decode cX3_tested 57 = .ok (.iload 5, 2) := dk_21 5 (dk_at dksX3_tested_2 12 rfl rfl)
theorem dX3_tested_59 : decode cX3_tested 59 = .ok (.invokevirtual 146, 3) := dk_182 0 146 (dk_at dksX3_tested_2 14 rfl rfl)
theorem dX3_tested_62 : decode cX3_tested 62 = .ok (.ifCond .eq 34, 3) := dk_153 0 34 (dk_at dksX3_tested_2 17 rfl rfl)
theorem dX3_tested_65 : decode cX3_tested 65 = .ok (.aload_n 0, 1) := dk_42 (dk_at dksX3_tested_2 20 rfl rfl)
theorem dX3_tested_66 : decode cX3_tested 66 = .ok (.getfield 32, 3) := dk_180 0 32 (dk_at dksX3_tested_2 21 rfl rfl)
theorem dX3_tested_69 : decode cX3_tested 69 = .ok (.aload_n 0, 1) := dk_42 (dk_at dksX3_tested_3 0 rfl rfl)
theorem dX3_tested_70 : decode cX3_tested 70 = .ok (.iload 5, 2) := dk_21 5 (dk_at dksX3_tested_3 1 rfl rfl)
theorem dX3_tested_72 : decode cX3_tested 72 = .ok (.invokevirtual 149, 3) := dk_182 0 149 (dk_at dksX3_tested_3 3 rfl rfl)
theorem dX3_tested_75 : decode cX3_tested 75 = .ok (.iaload, 1) := dk_46 (dk_at dksX3_tested_3 6 rfl rfl)
theorem dX3_tested_76 : decode cX3_tested 76 = .ok (.ifCond .ne 20, 3) := dk_154 0 20 (dk_at dksX3_tested_3 7 rfl rfl)
theorem dX3_tested_79 : decode cX3_tested 79 = .ok (.aload_n 0, 1) := dk_42 (dk_at dksX3_tested_3 10 rfl rfl)
theorem dX3_tested_80 : decode cX3_tested 80 = .ok (.iload_n 1, 1) := dk_27 (dk_at dksX3_tested_3 11 rfl rfl)
theorem dX3_tested_81 : decode cX3_tested 81 = .ok (.iload_n 3, 1) := dk_29 (dk_at dksX3_tested_3 12 rfl rfl)
theorem dX3_tested_82 : decode cX3_tested 82 = .ok (.aload_n 0, 1) := dk_42 (dk_at dksX3_tested_3 13 rfl rfl)
theorem dX3_tested_83 : decode cX3_tested 83 = .ok (.iload 5, 2) := dk_21 5 (dk_at dksX3_tested_3 14 rfl rfl)
theorem dX3_tested_85 : decode cX3_tested 85 = .ok (.invokevirtual 149, 3) := dk_182 0 149 (dk_at dksX3_tested_3 16 rfl rfl)
theorem dX3_tested_88 : decode cX3_tested 88 = .ok (.invokevirtual 214, 3) := dk_182 0 214 (dk_at dksX3_tested_3 19 rfl rfl)
theorem dX3_tested_91 : decode cX3_tested 91 = .ok (.ifCond .ne 5, 3) := dk_154 0 5 (dk_at dksX3_tested_4 0 rfl rfl)
theorem dX3_tested_94 : decode cX3_tested 94 = .ok (.iconst 0, 1) := dk_3 (dk_at dksX3_tested_4 3 rfl rfl)
theorem dX3_tested_95 : decode cX3_tested 95 = .ok (.ireturn, 1) := dk_172 (dk_at dksX3_tested_4 4 rfl rfl)
theorem dX3_tested_96 : decode cX3_tested 96 = .ok (.iload 4, 2) := dk_21 4 (dk_at dksX3_tested_4 5 rfl rfl)
theorem dX3_tested_98 : decode cX3_tested 98 = .ok (.iconst 1, 1) := dk_4 (dk_at dksX3_tested_4 7 rfl rfl)
theorem dX3_tested_99 : decode cX3_tested 99 = .ok (.aload_n 0, 1) := dk_42 (dk_at dksX3_tested_4 8 rfl rfl)
theorem dX3_tested_100 : decode cX3_tested 100 = .ok (.iload 5, 2) := dk_21 5 (dk_at dksX3_tested_4 9 rfl rfl)
theorem dX3_tested_102 : decode cX3_tested 102 = .ok (.invokevirtual 140, 3) := dk_182 0 140 (dk_at dksX3_tested_4 11 rfl rfl)
theorem dX3_tested_105 : decode cX3_tested 105 = .ok (.bipush 7, 2) := dk_16 7 (dk_at dksX3_tested_4 14 rfl rfl)
theorem dX3_tested_107 : decode cX3_tested 107 = .ok (.if_icmp .ne 7, 3) := dk_160 0 7 (dk_at dksX3_tested_4 16 rfl rfl)
theorem dX3_tested_110 : decode cX3_tested 110 = .ok (.iconst 3, 1) := dk_6 (dk_at dksX3_tested_4 19 rfl rfl)
theorem dX3_tested_111 : decode cX3_tested 111 = .ok (.goto 23, 3) := dk_167 0 23 (dk_at dksX3_tested_4 20 rfl rfl)
theorem dX3_tested_114 : decode cX3_tested 114 = .ok (.aload_n 0, 1) := dk_42 (dk_at dksX3_tested_4 23 rfl rfl)
theorem dX3_tested_115 : decode cX3_tested 115 = .ok (.iload 5, 2) := dk_21 5 (dk_at dksX3_tested_5 0 rfl rfl)
theorem dX3_tested_117 : decode cX3_tested 117 = .ok (.invokevirtual 140, 3) := dk_182 0 140 (dk_at dksX3_tested_5 2 rfl rfl)
theorem dX3_tested_120 : decode cX3_tested 120 = .ok (.iconst 4, 1) := dk_7 (dk_at dksX3_tested_5 5 rfl rfl)
theorem dX3_tested_121 : decode cX3_tested 121 = .ok (.bipush 6, 2) := dk_16 6 (dk_at dksX3_tested_5 6 rfl rfl)
theorem dX3_tested_123 : decode cX3_tested 123 = .ok (.invokestatic 102, 3) := dk_184 0 102 (dk_at dksX3_tested_5 8 rfl rfl)
theorem dX3_tested_126 : decode cX3_tested 126 = .ok (.ifCond .eq 7, 3) := dk_153 0 7 (dk_at dksX3_tested_5 11 rfl rfl)
theorem dX3_tested_129 : decode cX3_tested 129 = .ok (.iconst 2, 1) := dk_5 (dk_at dksX3_tested_5 14 rfl rfl)
theorem dX3_tested_130 : decode cX3_tested 130 = .ok (.goto 4, 3) := dk_167 0 4 (dk_at dksX3_tested_5 15 rfl rfl)
theorem dX3_tested_133 : decode cX3_tested 133 = .ok (.iconst 0, 1) := dk_3 (dk_at dksX3_tested_5 18 rfl rfl)
theorem dX3_tested_134 : decode cX3_tested 134 = .ok (.iadd, 1) := dk_96 (dk_at dksX3_tested_5 19 rfl rfl)
theorem dX3_tested_135 : decode cX3_tested 135 = .ok (.iadd, 1) := dk_96 (dk_at dksX3_tested_5 20 rfl rfl)
theorem dX3_tested_136 : decode cX3_tested 136 = .ok (.istore 4, 2) := dk_54 4 (dk_at dksX3_tested_5 21 rfl rfl)
theorem dX3_tested_138 : decode cX3_tested 138 = .ok (.iload 5, 2) := dk_21 5 (dk_at dksX3_tested_6 0 rfl rfl)
theorem dX3_tested_140 : decode cX3_tested 140 = .ok (.aload_n 0, 1) := dk_42 (dk_at dksX3_tested_6 2 rfl rfl)
theorem dX3_tested_141 : decode cX3_tested 141 = .ok (.iload 5, 2) := dk_21 5 (dk_at dksX3_tested_6 3 rfl rfl)
theorem dX3_tested_143 : decode cX3_tested 143 = .ok (.invokevirtual 140, 3) := dk_182 0 140 (dk_at dksX3_tested_6 5 rfl rfl)
theorem dX3_tested_146 : decode cX3_tested 146 = .ok (.invokestatic 143, 3) := dk_184 0 143 (dk_at dksX3_tested_6 8 rfl rfl)
theorem dX3_tested_149 : decode cX3_tested 149 = .ok (.iadd, 1) := dk_96 (dk_at dksX3_tested_6 11 rfl rfl)
theorem dX3_tested_150 : decode cX3_tested 150 = .ok (.istore 5, 2) := dk_54 5 (dk_at dksX3_tested_6 12 rfl rfl)
theorem dX3_tested_152 : decode cX3_tested 152 = .ok (.goto (-102), 3) := dk_167 255 154 (dk_at dksX3_tested_6 14 rfl rfl)
theorem dX3_tested_155 : decode cX3_tested 155 = .ok (.iload 4, 2) := dk_21 4 (dk_at dksX3_tested_6 17 rfl rfl)
theorem dX3_tested_157 : decode cX3_tested 157 = .ok (.ireturn, 1) := dk_172 (dk_at dksX3_tested_6 19 rfl rfl)
abbrev cX3_isInGap : ByteArray := prog_12_method_42_code
def yX3_isInGap : MethodName := ⟨RX3, "isInGap", "(II)Z"⟩
def dkwX3_isInGap_1 : List UInt8 := [167, 0, 4, 3, 172]
abbrev dktX3_isInGap_1 : List UInt8 := dkwX3_isInGap_1 ++ []
def dkwX3_isInGap_0 : List UInt8 := [42, 27, 182, 0, 155, 153, 0, 21, 27, 42, 27, 182, 0, 140, 184, 0, 143, 96, 28, 163, 0, 7, 4]
abbrev dktX3_isInGap_0 : List UInt8 := dkwX3_isInGap_0 ++ dktX3_isInGap_1
theorem dksX3_isInGap_0 : cX3_isInGap.data.toList.drop 0 = dktX3_isInGap_0 := by decide +kernel
theorem dksX3_isInGap_1 : cX3_isInGap.data.toList.drop 23 = dktX3_isInGap_1 := dk_seg dksX3_isInGap_0 23 rfl rfl
theorem dX3_isInGap_0 : decode cX3_isInGap 0 = .ok (.aload_n 0, 1) := dk_42 (dk_at dksX3_isInGap_0 0 rfl rfl)
theorem dX3_isInGap_1 : decode cX3_isInGap 1 = .ok (.iload_n 1, 1) := dk_27 (dk_at dksX3_isInGap_0 1 rfl rfl)
theorem dX3_isInGap_2 : decode cX3_isInGap 2 = .ok (.invokevirtual 155, 3) := dk_182 0 155 (dk_at dksX3_isInGap_0 2 rfl rfl)
theorem dX3_isInGap_5 : decode cX3_isInGap 5 = .ok (.ifCond .eq 21, 3) := dk_153 0 21 (dk_at dksX3_isInGap_0 5 rfl rfl)
theorem dX3_isInGap_8 : decode cX3_isInGap 8 = .ok (.iload_n 1, 1) := dk_27 (dk_at dksX3_isInGap_0 8 rfl rfl)
theorem dX3_isInGap_9 : decode cX3_isInGap 9 = .ok (.aload_n 0, 1) := dk_42 (dk_at dksX3_isInGap_0 9 rfl rfl)
theorem dX3_isInGap_10 : decode cX3_isInGap 10 = .ok (.iload_n 1, 1) := dk_27 (dk_at dksX3_isInGap_0 10 rfl rfl)
theorem dX3_isInGap_11 : decode cX3_isInGap 11 = .ok (.invokevirtual 140, 3) := dk_182 0 140 (dk_at dksX3_isInGap_0 11 rfl rfl)
theorem dX3_isInGap_14 : decode cX3_isInGap 14 = .ok (.invokestatic 143, 3) := dk_184 0 143 (dk_at dksX3_isInGap_0 14 rfl rfl)
theorem dX3_isInGap_17 : decode cX3_isInGap 17 = .ok (.iadd, 1) := dk_96 (dk_at dksX3_isInGap_0 17 rfl rfl)
theorem dX3_isInGap_18 : decode cX3_isInGap 18 = .ok (.iload_n 2, 1) := dk_28 (dk_at dksX3_isInGap_0 18 rfl rfl)
theorem dX3_isInGap_19 : decode cX3_isInGap 19 = .ok (.if_icmp .gt 7, 3) := dk_163 0 7 (dk_at dksX3_isInGap_0 19 rfl rfl)
theorem dX3_isInGap_22 : decode cX3_isInGap 22 = .ok (.iconst 1, 1) := dk_4 (dk_at dksX3_isInGap_0 22 rfl rfl)
theorem dX3_isInGap_23 : decode cX3_isInGap 23 = .ok (.goto 4, 3) := dk_167 0 4 (dk_at dksX3_isInGap_1 0 rfl rfl)
theorem dX3_isInGap_26 : decode cX3_isInGap 26 = .ok (.iconst 0, 1) := dk_3 (dk_at dksX3_isInGap_1 3 rfl rfl)
theorem dX3_isInGap_27 : decode cX3_isInGap 27 = .ok (.ireturn, 1) := dk_172 (dk_at dksX3_isInGap_1 4 rfl rfl)
abbrev cX3_isTestBegin : ByteArray := prog_12_method_44_code
def yX3_isTestBegin : MethodName := ⟨RX3, "isTestBegin", "(III)Z"⟩
def dkwX3_isTestBegin_2 : List UInt8 := [21, 4, 172]
abbrev dktX3_isTestBegin_2 : List UInt8 := dkwX3_isTestBegin_2 ++ []
def dkwX3_isTestBegin_1 : List UInt8 := [167, 0, 4, 3, 54, 4, 21, 5, 42, 21, 5, 182, 0, 140, 184, 0, 143, 96, 54, 5, 167, 255, 218]
abbrev dktX3_isTestBegin_1 : List UInt8 := dkwX3_isTestBegin_1 ++ dktX3_isTestBegin_2
def dkwX3_isTestBegin_0 : List UInt8 := [3, 54, 4, 27, 54, 5, 21, 5, 28, 163, 0, 38, 21, 4, 154, 0, 9, 21, 5, 29, 160, 0, 7, 4]
abbrev dktX3_isTestBegin_0 : List UInt8 := dkwX3_isTestBegin_0 ++ dktX3_isTestBegin_1
theorem dksX3_isTestBegin_0 : cX3_isTestBegin.data.toList.drop 0 = dktX3_isTestBegin_0 := by decide +kernel
theorem dksX3_isTestBegin_1 : cX3_isTestBegin.data.toList.drop 24 = dktX3_isTestBegin_1 := dk_seg dksX3_isTestBegin_0 24 rfl rfl
theorem dksX3_isTestBegin_2 : cX3_isTestBegin.data.toList.drop 47 = dktX3_isTestBegin_2 := dk_seg dksX3_isTestBegin_1 23 rfl rfl
theorem dX3_isTestBegin_0 : decode cX3_isTestBegin 0 = .ok (.iconst 0, 1) := dk_3 (dk_at dksX3_isTestBegin_0 0 rfl rfl)
theorem dX3_isTestBegin_1 : decode cX3_isTestBegin 1 = .ok (.istore 4, 2) := dk_54 4 (dk_at dksX3_isTestBegin_0 1 rfl rfl)
theorem dX3_isTestBegin_3 : decode cX3_isTestBegin 3 = .ok (.iload_n 1, 1) := dk_27 (dk_at dksX3_isTestBegin_0 3 rfl rfl)
theorem dX3_isTestBegin_4 : decode cX3_isTestBegin 4 = .ok (.istore 5, 2) := dk_54 5 (dk_at dksX3_isTestBegin_0 4 rfl rfl)
theorem dX3_isTestBegin_6 : decode cX3_isTestBegin 6 = .ok (.iload 5, 2) := dk_21 5 (dk_at dksX3_isTestBegin_0 6 rfl rfl)
theorem dX3_isTestBegin_8 : decode cX3_isTestBegin 8 = .ok (.iload_n 2, 1) := dk_28 (dk_at dksX3_isTestBegin_0 8 rfl rfl)
theorem dX3_isTestBegin_9 : decode cX3_isTestBegin 9 = .ok (.if_icmp .gt 38, 3) := dk_163 0 38 (dk_at dksX3_isTestBegin_0 9 rfl rfl)
theorem dX3_isTestBegin_12 : decode cX3_isTestBegin 12 = .ok (.iload 4, 2) := dk_21 4 (dk_at dksX3_isTestBegin_0 12 rfl rfl)
theorem dX3_isTestBegin_14 : decode cX3_isTestBegin 14 = .ok (.ifCond .ne 9, 3) := dk_154 0 9 (dk_at dksX3_isTestBegin_0 14 rfl rfl)
theorem dX3_isTestBegin_17 : decode cX3_isTestBegin 17 = .ok (.iload 5, 2) := dk_21 5 (dk_at dksX3_isTestBegin_0 17 rfl rfl)
theorem dX3_isTestBegin_19 : decode cX3_isTestBegin 19 = .ok (.iload_n 3, 1) := dk_29 (dk_at dksX3_isTestBegin_0 19 rfl rfl)
theorem dX3_isTestBegin_20 : decode cX3_isTestBegin 20 = .ok (.if_icmp .ne 7, 3) := dk_160 0 7 (dk_at dksX3_isTestBegin_0 20 rfl rfl)
theorem dX3_isTestBegin_23 : decode cX3_isTestBegin 23 = .ok (.iconst 1, 1) := dk_4 (dk_at dksX3_isTestBegin_0 23 rfl rfl)
theorem dX3_isTestBegin_24 : decode cX3_isTestBegin 24 = .ok (.goto 4, 3) := dk_167 0 4 (dk_at dksX3_isTestBegin_1 0 rfl rfl)
theorem dX3_isTestBegin_27 : decode cX3_isTestBegin 27 = .ok (.iconst 0, 1) := dk_3 (dk_at dksX3_isTestBegin_1 3 rfl rfl)
theorem dX3_isTestBegin_28 : decode cX3_isTestBegin 28 = .ok (.istore 4, 2) := dk_54 4 (dk_at dksX3_isTestBegin_1 4 rfl rfl)
theorem dX3_isTestBegin_30 : decode cX3_isTestBegin 30 = .ok (.iload 5, 2) := dk_21 5 (dk_at dksX3_isTestBegin_1 6 rfl rfl)
theorem dX3_isTestBegin_32 : decode cX3_isTestBegin 32 = .ok (.aload_n 0, 1) := dk_42 (dk_at dksX3_isTestBegin_1 8 rfl rfl)
theorem dX3_isTestBegin_33 : decode cX3_isTestBegin 33 = .ok (.iload 5, 2) := dk_21 5 (dk_at dksX3_isTestBegin_1 9 rfl rfl)
theorem dX3_isTestBegin_35 : decode cX3_isTestBegin 35 = .ok (.invokevirtual 140, 3) := dk_182 0 140 (dk_at dksX3_isTestBegin_1 11 rfl rfl)
theorem dX3_isTestBegin_38 : decode cX3_isTestBegin 38 = .ok (.invokestatic 143, 3) := dk_184 0 143 (dk_at dksX3_isTestBegin_1 14 rfl rfl)
theorem dX3_isTestBegin_41 : decode cX3_isTestBegin 41 = .ok (.iadd, 1) := dk_96 (dk_at dksX3_isTestBegin_1 17 rfl rfl)
theorem dX3_isTestBegin_42 : decode cX3_isTestBegin 42 = .ok (.istore 5, 2) := dk_54 5 (dk_at dksX3_isTestBegin_1 18 rfl rfl)
theorem dX3_isTestBegin_44 : decode cX3_isTestBegin 44 = .ok (.goto (-38), 3) := dk_167 255 218 (dk_at dksX3_isTestBegin_1 20 rfl rfl)
theorem dX3_isTestBegin_47 : decode cX3_isTestBegin 47 = .ok (.iload 4, 2) := dk_21 4 (dk_at dksX3_isTestBegin_2 0 rfl rfl)
theorem dX3_isTestBegin_49 : decode cX3_isTestBegin 49 = .ok (.ireturn, 1) := dk_172 (dk_at dksX3_isTestBegin_2 2 rfl rfl)
abbrev cX3_speculates : ByteArray := prog_12_method_45_code
def yX3_speculates : MethodName := ⟨RX3, "speculates", "(I)V"⟩
def dkwX3_speculates_3 : List UInt8 := [4, 167, 0, 4, 3, 62, 28, 21, 4, 96, 61, 167, 255, 179, 177]
abbrev dktX3_speculates_3 : List UInt8 := dkwX3_speculates_3 ++ []
def dkwX3_speculates_2 : List UInt8 := [132, 5, 1, 167, 255, 236, 42, 89, 180, 0, 217, 4, 96, 181, 0, 217, 42, 28, 182, 0, 152, 154, 0, 7]
abbrev dktX3_speculates_2 : List UInt8 := dkwX3_speculates_2 ++ dktX3_speculates_3
def dkwX3_speculates_1 : List UInt8 := [21, 4, 79, 28, 54, 5, 21, 5, 28, 21, 4, 96, 162, 0, 17, 42, 180, 0, 41, 21, 5, 28, 79]
abbrev dktX3_speculates_1 : List UInt8 := dkwX3_speculates_1 ++ dktX3_speculates_2
def dkwX3_speculates_0 : List UInt8 := [27, 61, 4, 62, 29, 153, 0, 79, 42, 28, 182, 0, 140, 184, 0, 143, 54, 4, 42, 180, 0, 38, 28]
abbrev dktX3_speculates_0 : List UInt8 := dkwX3_speculates_0 ++ dktX3_speculates_1
theorem dksX3_speculates_0 : cX3_speculates.data.toList.drop 0 = dktX3_speculates_0 := by decide +kernel
theorem dksX3_speculates_1 : cX3_speculates.data.toList.drop 23 = dktX3_speculates_1 := dk_seg dksX3_speculates_0 23 rfl rfl
theorem dksX3_speculates_2 : cX3_speculates.data.toList.drop 46 = dktX3_speculates_2 := dk_seg dksX3_speculates_1 23 rfl rfl
theorem dksX3_speculates_3 : cX3_speculates.data.toList.drop 70 = dktX3_speculates_3 := dk_seg dksX3_speculates_2 24 rfl rfl
theorem dX3_speculates_0 : decode cX3_speculates 0 = .ok (.iload_n 1, 1) := dk_27 (dk_at dksX3_speculates_0 0 rfl rfl)
theorem dX3_speculates_1 : decode cX3_speculates 1 = .ok (.istore_n 2, 1) := dk_61 (dk_at dksX3_speculates_0 1 rfl rfl)
theorem dX3_speculates_2 : decode cX3_speculates 2 = .ok (.iconst 1, 1) := dk_4 (dk_at dksX3_speculates_0 2 rfl rfl)
theorem dX3_speculates_3 : decode cX3_speculates 3 = .ok (.istore_n 3, 1) := dk_62 (dk_at dksX3_speculates_0 3 rfl rfl)
theorem dX3_speculates_4 : decode cX3_speculates 4 = .ok (.iload_n 3, 1) := dk_29 (dk_at dksX3_speculates_0 4 rfl rfl)
theorem dX3_speculates_5 : decode cX3_speculates 5 = .ok (.ifCond .eq 79, 3) := dk_153 0 79 (dk_at dksX3_speculates_0 5 rfl rfl)
theorem dX3_speculates_8 : decode cX3_speculates 8 = .ok (.aload_n 0, 1) := dk_42 (dk_at dksX3_speculates_0 8 rfl rfl)
theorem dX3_speculates_9 : decode cX3_speculates 9 = .ok (.iload_n 2, 1) := dk_28 (dk_at dksX3_speculates_0 9 rfl rfl)
theorem dX3_speculates_10 : decode cX3_speculates 10 = .ok (.invokevirtual 140, 3) := dk_182 0 140 (dk_at dksX3_speculates_0 10 rfl rfl)
theorem dX3_speculates_13 : decode cX3_speculates 13 = .ok (.invokestatic 143, 3) := dk_184 0 143 (dk_at dksX3_speculates_0 13 rfl rfl)
theorem dX3_speculates_16 : decode cX3_speculates 16 = .ok (.istore 4, 2) := dk_54 4 (dk_at dksX3_speculates_0 16 rfl rfl)
theorem dX3_speculates_18 : decode cX3_speculates 18 = .ok (.aload_n 0, 1) := dk_42 (dk_at dksX3_speculates_0 18 rfl rfl)
theorem dX3_speculates_19 : decode cX3_speculates 19 = .ok (.getfield 38, 3) := dk_180 0 38 (dk_at dksX3_speculates_0 19 rfl rfl)
theorem dX3_speculates_22 : decode cX3_speculates 22 = .ok (.iload_n 2, 1) := dk_28 (dk_at dksX3_speculates_0 22 rfl rfl)
theorem dX3_speculates_23 : decode cX3_speculates 23 = .ok (.iload 4, 2) := dk_21 4 (dk_at dksX3_speculates_1 0 rfl rfl)
theorem dX3_speculates_25 : decode cX3_speculates 25 = .ok (.iastore, 1) := dk_79 (dk_at dksX3_speculates_1 2 rfl rfl)
theorem dX3_speculates_26 : decode cX3_speculates 26 = .ok (.iload_n 2, 1) := dk_28 (dk_at dksX3_speculates_1 3 rfl rfl)
theorem dX3_speculates_27 : decode cX3_speculates 27 = .ok (.istore 5, 2) := dk_54 5 (dk_at dksX3_speculates_1 4 rfl rfl)
theorem dX3_speculates_29 : decode cX3_speculates 29 = .ok (.iload 5, 2) := dk_21 5 (dk_at dksX3_speculates_1 6 rfl rfl)
theorem dX3_speculates_31 : decode cX3_speculates 31 = .ok (.iload_n 2, 1) := dk_28 (dk_at dksX3_speculates_1 8 rfl rfl)
theorem dX3_speculates_32 : decode cX3_speculates 32 = .ok (.iload 4, 2) := dk_21 4 (dk_at dksX3_speculates_1 9 rfl rfl)
theorem dX3_speculates_34 : decode cX3_speculates 34 = .ok (.iadd, 1) := dk_96 (dk_at dksX3_speculates_1 11 rfl rfl)
theorem dX3_speculates_35 : decode cX3_speculates 35 = .ok (.if_icmp .ge 17, 3) := dk_162 0 17 (dk_at dksX3_speculates_1 12 rfl rfl)
theorem dX3_speculates_38 : decode cX3_speculates 38 = .ok (.aload_n 0, 1) := dk_42 (dk_at dksX3_speculates_1 15 rfl rfl)
theorem dX3_speculates_39 : decode cX3_speculates 39 = .ok (.getfield 41, 3) := dk_180 0 41 (dk_at dksX3_speculates_1 16 rfl rfl)
theorem dX3_speculates_42 : decode cX3_speculates 42 = .ok (.iload 5, 2) := dk_21 5 (dk_at dksX3_speculates_1 19 rfl rfl)
theorem dX3_speculates_44 : decode cX3_speculates 44 = .ok (.iload_n 2, 1) := dk_28 (dk_at dksX3_speculates_1 21 rfl rfl)
theorem dX3_speculates_45 : decode cX3_speculates 45 = .ok (.iastore, 1) := dk_79 (dk_at dksX3_speculates_1 22 rfl rfl)
theorem dX3_speculates_46 : decode cX3_speculates 46 = .ok (.iinc 5 1, 3) := dk_132 5 1 (dk_at dksX3_speculates_2 0 rfl rfl)
theorem dX3_speculates_49 : decode cX3_speculates 49 = .ok (.goto (-20), 3) := dk_167 255 236 (dk_at dksX3_speculates_2 3 rfl rfl)
theorem dX3_speculates_52 : decode cX3_speculates 52 = .ok (.aload_n 0, 1) := dk_42 (dk_at dksX3_speculates_2 6 rfl rfl)
theorem dX3_speculates_53 : decode cX3_speculates 53 = .ok (.dup, 1) := dk_89 (dk_at dksX3_speculates_2 7 rfl rfl)
theorem dX3_speculates_54 : decode cX3_speculates 54 = .ok (.getfield 217, 3) := dk_180 0 217 (dk_at dksX3_speculates_2 8 rfl rfl)
theorem dX3_speculates_57 : decode cX3_speculates 57 = .ok (.iconst 1, 1) := dk_4 (dk_at dksX3_speculates_2 11 rfl rfl)
theorem dX3_speculates_58 : decode cX3_speculates 58 = .ok (.iadd, 1) := dk_96 (dk_at dksX3_speculates_2 12 rfl rfl)
theorem dX3_speculates_59 : decode cX3_speculates 59 = .ok (.putfield 217, 3) := dk_181 0 217 (dk_at dksX3_speculates_2 13 rfl rfl)
theorem dX3_speculates_62 : decode cX3_speculates 62 = .ok (.aload_n 0, 1) := dk_42 (dk_at dksX3_speculates_2 16 rfl rfl)
theorem dX3_speculates_63 : decode cX3_speculates 63 = .ok (.iload_n 2, 1) := dk_28 (dk_at dksX3_speculates_2 17 rfl rfl)
theorem dX3_speculates_64 : decode cX3_speculates 64 = .ok (.invokevirtual 152, 3) := dk_182 0 152 (dk_at dksX3_speculates_2 18 rfl rfl)
theorem dX3_speculates_67 : decode cX3_speculates 67 = .ok (.ifCond .ne 7, 3) := dk_154 0 7 (dk_at dksX3_speculates_2 21 rfl rfl)
theorem dX3_speculates_70 : decode cX3_speculates 70 = .ok (.iconst 1, 1) := dk_4 (dk_at dksX3_speculates_3 0 rfl rfl)
theorem dX3_speculates_71 : decode cX3_speculates 71 = .ok (.goto 4, 3) := dk_167 0 4 (dk_at dksX3_speculates_3 1 rfl rfl)
theorem dX3_speculates_74 : decode cX3_speculates 74 = .ok (.iconst 0, 1) := dk_3 (dk_at dksX3_speculates_3 4 rfl rfl)
theorem dX3_speculates_75 : decode cX3_speculates 75 = .ok (.istore_n 3, 1) := dk_62 (dk_at dksX3_speculates_3 5 rfl rfl)
theorem dX3_speculates_76 : decode cX3_speculates 76 = .ok (.iload_n 2, 1) := dk_28 (dk_at dksX3_speculates_3 6 rfl rfl)
theorem dX3_speculates_77 : decode cX3_speculates 77 = .ok (.iload 4, 2) := dk_21 4 (dk_at dksX3_speculates_3 7 rfl rfl)
theorem dX3_speculates_79 : decode cX3_speculates 79 = .ok (.iadd, 1) := dk_96 (dk_at dksX3_speculates_3 9 rfl rfl)
theorem dX3_speculates_80 : decode cX3_speculates 80 = .ok (.istore_n 2, 1) := dk_61 (dk_at dksX3_speculates_3 10 rfl rfl)
theorem dX3_speculates_81 : decode cX3_speculates 81 = .ok (.goto (-77), 3) := dk_167 255 179 (dk_at dksX3_speculates_3 11 rfl rfl)
theorem dX3_speculates_84 : decode cX3_speculates 84 = .ok (.return_, 1) := dk_177 (dk_at dksX3_speculates_3 14 rfl rfl)
abbrev cX3_accepted : ByteArray := prog_12_method_51_code
def yX3_accepted : MethodName := ⟨RX3, "accepted", "()I"⟩
def dkwX3_accepted_0 : List UInt8 := [42, 42, 180, 0, 170, 182, 0, 238, 172]
abbrev dktX3_accepted_0 : List UInt8 := dkwX3_accepted_0 ++ []
theorem dksX3_accepted_0 : cX3_accepted.data.toList.drop 0 = dktX3_accepted_0 := by decide +kernel
theorem dX3_accepted_0 : decode cX3_accepted 0 = .ok (.aload_n 0, 1) := dk_42 (dk_at dksX3_accepted_0 0 rfl rfl)
theorem dX3_accepted_1 : decode cX3_accepted 1 = .ok (.aload_n 0, 1) := dk_42 (dk_at dksX3_accepted_0 1 rfl rfl)
theorem dX3_accepted_2 : decode cX3_accepted 2 = .ok (.getfield 170, 3) := dk_180 0 170 (dk_at dksX3_accepted_0 2 rfl rfl)
theorem dX3_accepted_5 : decode cX3_accepted 5 = .ok (.invokevirtual 238, 3) := dk_182 0 238 (dk_at dksX3_accepted_0 5 rfl rfl)
theorem dX3_accepted_8 : decode cX3_accepted 8 = .ok (.ireturn, 1) := dk_172 (dk_at dksX3_accepted_0 8 rfl rfl)
abbrev cX3_ofRecovery : ByteArray := prog_12_method_49_code
def yX3_ofRecovery : MethodName := ⟨RX3, "ofRecovery", "(I)I"⟩
def dkwX3_ofRecovery_1 : List UInt8 := [167, 0, 4, 3, 172]
abbrev dktX3_ofRecovery_1 : List UInt8 := dkwX3_ofRecovery_1 ++ []
def dkwX3_ofRecovery_0 : List UInt8 := [42, 42, 180, 0, 106, 153, 0, 7, 3, 167, 0, 4, 4, 181, 0, 96, 42, 180, 0, 106, 153, 0, 7, 27]
abbrev dktX3_ofRecovery_0 : List UInt8 := dkwX3_ofRecovery_0 ++ dktX3_ofRecovery_1
theorem dksX3_ofRecovery_0 : cX3_ofRecovery.data.toList.drop 0 = dktX3_ofRecovery_0 := by decide +kernel
theorem dksX3_ofRecovery_1 : cX3_ofRecovery.data.toList.drop 24 = dktX3_ofRecovery_1 := dk_seg dksX3_ofRecovery_0 24 rfl rfl
theorem dX3_ofRecovery_0 : decode cX3_ofRecovery 0 = .ok (.aload_n 0, 1) := dk_42 (dk_at dksX3_ofRecovery_0 0 rfl rfl)
theorem dX3_ofRecovery_1 : decode cX3_ofRecovery 1 = .ok (.aload_n 0, 1) := dk_42 (dk_at dksX3_ofRecovery_0 1 rfl rfl)
theorem dX3_ofRecovery_2 : decode cX3_ofRecovery 2 = .ok (.getfield 106, 3) := dk_180 0 106 (dk_at dksX3_ofRecovery_0 2 rfl rfl)
theorem dX3_ofRecovery_5 : decode cX3_ofRecovery 5 = .ok (.ifCond .eq 7, 3) := dk_153 0 7 (dk_at dksX3_ofRecovery_0 5 rfl rfl)
theorem dX3_ofRecovery_8 : decode cX3_ofRecovery 8 = .ok (.iconst 0, 1) := dk_3 (dk_at dksX3_ofRecovery_0 8 rfl rfl)
theorem dX3_ofRecovery_9 : decode cX3_ofRecovery 9 = .ok (.goto 4, 3) := dk_167 0 4 (dk_at dksX3_ofRecovery_0 9 rfl rfl)
theorem dX3_ofRecovery_12 : decode cX3_ofRecovery 12 = .ok (.iconst 1, 1) := dk_4 (dk_at dksX3_ofRecovery_0 12 rfl rfl)
theorem dX3_ofRecovery_13 : decode cX3_ofRecovery 13 = .ok (.putfield 96, 3) := dk_181 0 96 (dk_at dksX3_ofRecovery_0 13 rfl rfl)
theorem dX3_ofRecovery_16 : decode cX3_ofRecovery 16 = .ok (.aload_n 0, 1) := dk_42 (dk_at dksX3_ofRecovery_0 16 rfl rfl)
theorem dX3_ofRecovery_17 : decode cX3_ofRecovery 17 = .ok (.getfield 106, 3) := dk_180 0 106 (dk_at dksX3_ofRecovery_0 17 rfl rfl)
theorem dX3_ofRecovery_20 : decode cX3_ofRecovery 20 = .ok (.ifCond .eq 7, 3) := dk_153 0 7 (dk_at dksX3_ofRecovery_0 20 rfl rfl)
theorem dX3_ofRecovery_23 : decode cX3_ofRecovery 23 = .ok (.iload_n 1, 1) := dk_27 (dk_at dksX3_ofRecovery_0 23 rfl rfl)
theorem dX3_ofRecovery_24 : decode cX3_ofRecovery 24 = .ok (.goto 4, 3) := dk_167 0 4 (dk_at dksX3_ofRecovery_1 0 rfl rfl)
theorem dX3_ofRecovery_27 : decode cX3_ofRecovery 27 = .ok (.iconst 0, 1) := dk_3 (dk_at dksX3_ofRecovery_1 3 rfl rfl)
theorem dX3_ofRecovery_28 : decode cX3_ofRecovery 28 = .ok (.ireturn, 1) := dk_172 (dk_at dksX3_ofRecovery_1 4 rfl rfl)
abbrev cX3_acceptedAt : ByteArray := prog_12_method_52_code
def yX3_acceptedAt : MethodName := ⟨RX3, "acceptedAt", "(I)I"⟩
def dkwX3_acceptedAt_2 : List UInt8 := [167, 0, 4, 3, 100, 61, 132, 3, 1, 167, 255, 223, 29, 172]
abbrev dktX3_acceptedAt_2 : List UInt8 := dkwX3_acceptedAt_2 ++ []
def dkwX3_acceptedAt_1 : List UInt8 := [42, 180, 0, 32, 29, 46, 153, 0, 7, 28, 158, 0, 26, 28, 42, 180, 0, 32, 29, 46, 158, 0, 7, 4]
abbrev dktX3_acceptedAt_1 : List UInt8 := dkwX3_acceptedAt_1 ++ dktX3_acceptedAt_2
def dkwX3_acceptedAt_0 : List UInt8 := [42, 27, 3, 42, 180, 0, 170, 4, 100, 184, 0, 102, 182, 0, 241, 158, 0, 5, 3, 172, 27, 61, 3, 62]
abbrev dktX3_acceptedAt_0 : List UInt8 := dkwX3_acceptedAt_0 ++ dktX3_acceptedAt_1
theorem dksX3_acceptedAt_0 : cX3_acceptedAt.data.toList.drop 0 = dktX3_acceptedAt_0 := by decide +kernel
theorem dksX3_acceptedAt_1 : cX3_acceptedAt.data.toList.drop 24 = dktX3_acceptedAt_1 := dk_seg dksX3_acceptedAt_0 24 rfl rfl
theorem dksX3_acceptedAt_2 : cX3_acceptedAt.data.toList.drop 48 = dktX3_acceptedAt_2 := dk_seg dksX3_acceptedAt_1 24 rfl rfl
theorem dX3_acceptedAt_0 : decode cX3_acceptedAt 0 = .ok (.aload_n 0, 1) := dk_42 (dk_at dksX3_acceptedAt_0 0 rfl rfl)
theorem dX3_acceptedAt_1 : decode cX3_acceptedAt 1 = .ok (.iload_n 1, 1) := dk_27 (dk_at dksX3_acceptedAt_0 1 rfl rfl)
theorem dX3_acceptedAt_2 : decode cX3_acceptedAt 2 = .ok (.iconst 0, 1) := dk_3 (dk_at dksX3_acceptedAt_0 2 rfl rfl)
theorem dX3_acceptedAt_3 : decode cX3_acceptedAt 3 = .ok (.aload_n 0, 1) := dk_42 (dk_at dksX3_acceptedAt_0 3 rfl rfl)
theorem dX3_acceptedAt_4 : decode cX3_acceptedAt 4 = .ok (.getfield 170, 3) := dk_180 0 170 (dk_at dksX3_acceptedAt_0 4 rfl rfl)
theorem dX3_acceptedAt_7 : decode cX3_acceptedAt 7 = .ok (.iconst 1, 1) := dk_4 (dk_at dksX3_acceptedAt_0 7 rfl rfl)
theorem dX3_acceptedAt_8 : decode cX3_acceptedAt 8 = .ok (.isub, 1) := dk_100 (dk_at dksX3_acceptedAt_0 8 rfl rfl)
theorem dX3_acceptedAt_9 : decode cX3_acceptedAt 9 = .ok (.invokestatic 102, 3) := dk_184 0 102 (dk_at dksX3_acceptedAt_0 9 rfl rfl)
theorem dX3_acceptedAt_12 : decode cX3_acceptedAt 12 = .ok (.invokevirtual 241, 3) := dk_182 0 241 (dk_at dksX3_acceptedAt_0 12 rfl rfl)
theorem dX3_acceptedAt_15 : decode cX3_acceptedAt 15 = .ok (.ifCond .le 5, 3) := dk_158 0 5 (dk_at dksX3_acceptedAt_0 15 rfl rfl)
theorem dX3_acceptedAt_18 : decode cX3_acceptedAt 18 = .ok (.iconst 0, 1) := dk_3 (dk_at dksX3_acceptedAt_0 18 rfl rfl)
theorem dX3_acceptedAt_19 : decode cX3_acceptedAt 19 = .ok (.ireturn, 1) := dk_172 (dk_at dksX3_acceptedAt_0 19 rfl rfl)
theorem dX3_acceptedAt_20 : decode cX3_acceptedAt 20 = .ok (.iload_n 1, 1) := dk_27 (dk_at dksX3_acceptedAt_0 20 rfl rfl)
theorem dX3_acceptedAt_21 : decode cX3_acceptedAt 21 = .ok (.istore_n 2, 1) := dk_61 (dk_at dksX3_acceptedAt_0 21 rfl rfl)
theorem dX3_acceptedAt_22 : decode cX3_acceptedAt 22 = .ok (.iconst 0, 1) := dk_3 (dk_at dksX3_acceptedAt_0 22 rfl rfl)
theorem dX3_acceptedAt_23 : decode cX3_acceptedAt 23 = .ok (.istore_n 3, 1) := dk_62 (dk_at dksX3_acceptedAt_0 23 rfl rfl)
theorem dX3_acceptedAt_24 : decode cX3_acceptedAt 24 = .ok (.aload_n 0, 1) := dk_42 (dk_at dksX3_acceptedAt_1 0 rfl rfl)
theorem dX3_acceptedAt_25 : decode cX3_acceptedAt 25 = .ok (.getfield 32, 3) := dk_180 0 32 (dk_at dksX3_acceptedAt_1 1 rfl rfl)
theorem dX3_acceptedAt_28 : decode cX3_acceptedAt 28 = .ok (.iload_n 3, 1) := dk_29 (dk_at dksX3_acceptedAt_1 4 rfl rfl)
theorem dX3_acceptedAt_29 : decode cX3_acceptedAt 29 = .ok (.iaload, 1) := dk_46 (dk_at dksX3_acceptedAt_1 5 rfl rfl)
theorem dX3_acceptedAt_30 : decode cX3_acceptedAt 30 = .ok (.ifCond .eq 7, 3) := dk_153 0 7 (dk_at dksX3_acceptedAt_1 6 rfl rfl)
theorem dX3_acceptedAt_33 : decode cX3_acceptedAt 33 = .ok (.iload_n 2, 1) := dk_28 (dk_at dksX3_acceptedAt_1 9 rfl rfl)
theorem dX3_acceptedAt_34 : decode cX3_acceptedAt 34 = .ok (.ifCond .le 26, 3) := dk_158 0 26 (dk_at dksX3_acceptedAt_1 10 rfl rfl)
theorem dX3_acceptedAt_37 : decode cX3_acceptedAt 37 = .ok (.iload_n 2, 1) := dk_28 (dk_at dksX3_acceptedAt_1 13 rfl rfl)
theorem dX3_acceptedAt_38 : decode cX3_acceptedAt 38 = .ok (.aload_n 0, 1) := dk_42 (dk_at dksX3_acceptedAt_1 14 rfl rfl)
theorem dX3_acceptedAt_39 : decode cX3_acceptedAt 39 = .ok (.getfield 32, 3) := dk_180 0 32 (dk_at dksX3_acceptedAt_1 15 rfl rfl)
theorem dX3_acceptedAt_42 : decode cX3_acceptedAt 42 = .ok (.iload_n 3, 1) := dk_29 (dk_at dksX3_acceptedAt_1 18 rfl rfl)
theorem dX3_acceptedAt_43 : decode cX3_acceptedAt 43 = .ok (.iaload, 1) := dk_46 (dk_at dksX3_acceptedAt_1 19 rfl rfl)
theorem dX3_acceptedAt_44 : decode cX3_acceptedAt 44 = .ok (.ifCond .le 7, 3) := dk_158 0 7 (dk_at dksX3_acceptedAt_1 20 rfl rfl)
theorem dX3_acceptedAt_47 : decode cX3_acceptedAt 47 = .ok (.iconst 1, 1) := dk_4 (dk_at dksX3_acceptedAt_1 23 rfl rfl)
theorem dX3_acceptedAt_48 : decode cX3_acceptedAt 48 = .ok (.goto 4, 3) := dk_167 0 4 (dk_at dksX3_acceptedAt_2 0 rfl rfl)
theorem dX3_acceptedAt_51 : decode cX3_acceptedAt 51 = .ok (.iconst 0, 1) := dk_3 (dk_at dksX3_acceptedAt_2 3 rfl rfl)
theorem dX3_acceptedAt_52 : decode cX3_acceptedAt 52 = .ok (.isub, 1) := dk_100 (dk_at dksX3_acceptedAt_2 4 rfl rfl)
theorem dX3_acceptedAt_53 : decode cX3_acceptedAt 53 = .ok (.istore_n 2, 1) := dk_61 (dk_at dksX3_acceptedAt_2 5 rfl rfl)
theorem dX3_acceptedAt_54 : decode cX3_acceptedAt 54 = .ok (.iinc 3 1, 3) := dk_132 3 1 (dk_at dksX3_acceptedAt_2 6 rfl rfl)
theorem dX3_acceptedAt_57 : decode cX3_acceptedAt 57 = .ok (.goto (-33), 3) := dk_167 255 223 (dk_at dksX3_acceptedAt_2 9 rfl rfl)
theorem dX3_acceptedAt_60 : decode cX3_acceptedAt 60 = .ok (.iload_n 3, 1) := dk_29 (dk_at dksX3_acceptedAt_2 12 rfl rfl)
theorem dX3_acceptedAt_61 : decode cX3_acceptedAt 61 = .ok (.ireturn, 1) := dk_172 (dk_at dksX3_acceptedAt_2 13 rfl rfl)
abbrev cX3_refusal : ByteArray := prog_12_method_50_code
def yX3_refusal : MethodName := ⟨RX3, "refusal", "(Z)I"⟩
def dkwX3_refusal_1 : List UInt8 := [42, 180, 0, 96, 172]
abbrev dktX3_refusal_1 : List UInt8 := dkwX3_refusal_1 ++ []
def dkwX3_refusal_0 : List UInt8 := [42, 42, 180, 0, 106, 153, 0, 15, 27, 153, 0, 7, 3, 167, 0, 8, 5, 167, 0, 4, 4, 181, 0, 96]
abbrev dktX3_refusal_0 : List UInt8 := dkwX3_refusal_0 ++ dktX3_refusal_1
theorem dksX3_refusal_0 : cX3_refusal.data.toList.drop 0 = dktX3_refusal_0 := by decide +kernel
theorem dksX3_refusal_1 : cX3_refusal.data.toList.drop 24 = dktX3_refusal_1 := dk_seg dksX3_refusal_0 24 rfl rfl
theorem dX3_refusal_0 : decode cX3_refusal 0 = .ok (.aload_n 0, 1) := dk_42 (dk_at dksX3_refusal_0 0 rfl rfl)
theorem dX3_refusal_1 : decode cX3_refusal 1 = .ok (.aload_n 0, 1) := dk_42 (dk_at dksX3_refusal_0 1 rfl rfl)
theorem dX3_refusal_2 : decode cX3_refusal 2 = .ok (.getfield 106, 3) := dk_180 0 106 (dk_at dksX3_refusal_0 2 rfl rfl)
theorem dX3_refusal_5 : decode cX3_refusal 5 = .ok (.ifCond .eq 15, 3) := dk_153 0 15 (dk_at dksX3_refusal_0 5 rfl rfl)
theorem dX3_refusal_8 : decode cX3_refusal 8 = .ok (.iload_n 1, 1) := dk_27 (dk_at dksX3_refusal_0 8 rfl rfl)
theorem dX3_refusal_9 : decode cX3_refusal 9 = .ok (.ifCond .eq 7, 3) := dk_153 0 7 (dk_at dksX3_refusal_0 9 rfl rfl)
theorem dX3_refusal_12 : decode cX3_refusal 12 = .ok (.iconst 0, 1) := dk_3 (dk_at dksX3_refusal_0 12 rfl rfl)
theorem dX3_refusal_13 : decode cX3_refusal 13 = .ok (.goto 8, 3) := dk_167 0 8 (dk_at dksX3_refusal_0 13 rfl rfl)
theorem dX3_refusal_16 : decode cX3_refusal 16 = .ok (.iconst 2, 1) := dk_5 (dk_at dksX3_refusal_0 16 rfl rfl)
theorem dX3_refusal_17 : decode cX3_refusal 17 = .ok (.goto 4, 3) := dk_167 0 4 (dk_at dksX3_refusal_0 17 rfl rfl)
theorem dX3_refusal_20 : decode cX3_refusal 20 = .ok (.iconst 1, 1) := dk_4 (dk_at dksX3_refusal_0 20 rfl rfl)
theorem dX3_refusal_21 : decode cX3_refusal 21 = .ok (.putfield 96, 3) := dk_181 0 96 (dk_at dksX3_refusal_0 21 rfl rfl)
theorem dX3_refusal_24 : decode cX3_refusal 24 = .ok (.aload_n 0, 1) := dk_42 (dk_at dksX3_refusal_1 0 rfl rfl)
theorem dX3_refusal_25 : decode cX3_refusal 25 = .ok (.getfield 96, 3) := dk_180 0 96 (dk_at dksX3_refusal_1 1 rfl rfl)
theorem dX3_refusal_28 : decode cX3_refusal 28 = .ok (.ireturn, 1) := dk_172 (dk_at dksX3_refusal_1 4 rfl rfl)
abbrev cX3_use : ByteArray := prog_12_method_53_code
def yX3_use : MethodName := ⟨RX3, "use", "(I)I"⟩
def dkwX3_use_3 : List UInt8 := [167, 0, 4, 3, 172]
abbrev dktX3_use_3 : List UInt8 := dkwX3_use_3 ++ []
def dkwX3_use_2 : List UInt8 := [180, 0, 38, 27, 46, 158, 0, 7, 7, 167, 0, 17, 42, 180, 0, 41, 27, 46, 155, 0, 7, 8]
abbrev dktX3_use_2 : List UInt8 := dkwX3_use_2 ++ dktX3_use_3
def dkwX3_use_1 : List UInt8 := [172, 42, 180, 0, 35, 27, 46, 155, 0, 5, 5, 172, 42, 180, 0, 44, 27, 51, 153, 0, 5, 6, 172, 42]
abbrev dktX3_use_1 : List UInt8 := dkwX3_use_1 ++ dktX3_use_2
def dkwX3_use_0 : List UInt8 := [42, 42, 27, 182, 0, 127, 182, 0, 241, 158, 0, 5, 3, 172, 42, 180, 0, 32, 27, 46, 158, 0, 5, 4]
abbrev dktX3_use_0 : List UInt8 := dkwX3_use_0 ++ dktX3_use_1
theorem dksX3_use_0 : cX3_use.data.toList.drop 0 = dktX3_use_0 := by decide +kernel
theorem dksX3_use_1 : cX3_use.data.toList.drop 24 = dktX3_use_1 := dk_seg dksX3_use_0 24 rfl rfl
theorem dksX3_use_2 : cX3_use.data.toList.drop 48 = dktX3_use_2 := dk_seg dksX3_use_1 24 rfl rfl
theorem dksX3_use_3 : cX3_use.data.toList.drop 70 = dktX3_use_3 := dk_seg dksX3_use_2 22 rfl rfl
theorem dX3_use_0 : decode cX3_use 0 = .ok (.aload_n 0, 1) := dk_42 (dk_at dksX3_use_0 0 rfl rfl)
theorem dX3_use_1 : decode cX3_use 1 = .ok (.aload_n 0, 1) := dk_42 (dk_at dksX3_use_0 1 rfl rfl)
theorem dX3_use_2 : decode cX3_use 2 = .ok (.iload_n 1, 1) := dk_27 (dk_at dksX3_use_0 2 rfl rfl)
theorem dX3_use_3 : decode cX3_use 3 = .ok (.invokevirtual 127, 3) := dk_182 0 127 (dk_at dksX3_use_0 3 rfl rfl)
theorem dX3_use_6 : decode cX3_use 6 = .ok (.invokevirtual 241, 3) := dk_182 0 241 (dk_at dksX3_use_0 6 rfl rfl)
theorem dX3_use_9 : decode cX3_use 9 = .ok (.ifCond .le 5, 3) := dk_158 0 5 (dk_at dksX3_use_0 9 rfl rfl)
theorem dX3_use_12 : decode cX3_use 12 = .ok (.iconst 0, 1) := dk_3 (dk_at dksX3_use_0 12 rfl rfl)
theorem dX3_use_13 : decode cX3_use 13 = .ok (.ireturn, 1) := dk_172 (dk_at dksX3_use_0 13 rfl rfl)
theorem dX3_use_14 : decode cX3_use 14 = .ok (.aload_n 0, 1) := dk_42 (dk_at dksX3_use_0 14 rfl rfl)
theorem dX3_use_15 : decode cX3_use 15 = .ok (.getfield 32, 3) := dk_180 0 32 (dk_at dksX3_use_0 15 rfl rfl)
theorem dX3_use_18 : decode cX3_use 18 = .ok (.iload_n 1, 1) := dk_27 (dk_at dksX3_use_0 18 rfl rfl)
theorem dX3_use_19 : decode cX3_use 19 = .ok (.iaload, 1) := dk_46 (dk_at dksX3_use_0 19 rfl rfl)
theorem dX3_use_20 : decode cX3_use 20 = .ok (.ifCond .le 5, 3) := dk_158 0 5 (dk_at dksX3_use_0 20 rfl rfl)
theorem dX3_use_23 : decode cX3_use 23 = .ok (.iconst 1, 1) := dk_4 (dk_at dksX3_use_0 23 rfl rfl)
theorem dX3_use_24 : decode cX3_use 24 = .ok (.ireturn, 1) := dk_172 (dk_at dksX3_use_1 0 rfl rfl)
theorem dX3_use_25 : decode cX3_use 25 = .ok (.aload_n 0, 1) := dk_42 (dk_at dksX3_use_1 1 rfl rfl)
theorem dX3_use_26 : decode cX3_use 26 = .ok (.getfield 35, 3) := dk_180 0 35 (dk_at dksX3_use_1 2 rfl rfl)
theorem dX3_use_29 : decode cX3_use 29 = .ok (.iload_n 1, 1) := dk_27 (dk_at dksX3_use_1 5 rfl rfl)
theorem dX3_use_30 : decode cX3_use 30 = .ok (.iaload, 1) := dk_46 (dk_at dksX3_use_1 6 rfl rfl)
theorem dX3_use_31 : decode cX3_use 31 = .ok (.ifCond .lt 5, 3) := dk_155 0 5 (dk_at dksX3_use_1 7 rfl rfl)
theorem dX3_use_34 : decode cX3_use 34 = .ok (.iconst 2, 1) := dk_5 (dk_at dksX3_use_1 10 rfl rfl)
theorem dX3_use_35 : decode cX3_use 35 = .ok (.ireturn, 1) := dk_172 (dk_at dksX3_use_1 11 rfl rfl)
theorem dX3_use_36 : decode cX3_use 36 = .ok (.aload_n 0, 1) := dk_42 (dk_at dksX3_use_1 12 rfl rfl)
theorem dX3_use_37 : decode cX3_use 37 = .ok (.getfield 44, 3) := dk_180 0 44 (dk_at dksX3_use_1 13 rfl rfl)
theorem dX3_use_40 : decode cX3_use 40 = .ok (.iload_n 1, 1) := dk_27 (dk_at dksX3_use_1 16 rfl rfl)
theorem dX3_use_41 : decode cX3_use 41 = .ok (.baload, 1) := dk_51 (dk_at dksX3_use_1 17 rfl rfl)
theorem dX3_use_42 : decode cX3_use 42 = .ok (.ifCond .eq 5, 3) := dk_153 0 5 (dk_at dksX3_use_1 18 rfl rfl)
theorem dX3_use_45 : decode cX3_use 45 = .ok (.iconst 3, 1) := dk_6 (dk_at dksX3_use_1 21 rfl rfl)
theorem dX3_use_46 : decode cX3_use 46 = .ok (.ireturn, 1) := dk_172 (dk_at dksX3_use_1 22 rfl rfl)
theorem dX3_use_47 : decode cX3_use 47 = .ok (.aload_n 0, 1) := dk_42 (dk_at dksX3_use_1 23 rfl rfl)
theorem dX3_use_48 : decode cX3_use 48 = .ok (.getfield 38, 3) := dk_180 0 38 (dk_at dksX3_use_2 0 rfl rfl)
theorem dX3_use_51 : decode cX3_use 51 = .ok (.iload_n 1, 1) := dk_27 (dk_at dksX3_use_2 3 rfl rfl)
theorem dX3_use_52 : decode cX3_use 52 = .ok (.iaload, 1) := dk_46 (dk_at dksX3_use_2 4 rfl rfl)
theorem dX3_use_53 : decode cX3_use 53 = .ok (.ifCond .le 7, 3) := dk_158 0 7 (dk_at dksX3_use_2 5 rfl rfl)
theorem dX3_use_56 : decode cX3_use 56 = .ok (.iconst 4, 1) := dk_7 (dk_at dksX3_use_2 8 rfl rfl)
theorem dX3_use_57 : decode cX3_use 57 = .ok (.goto 17, 3) := dk_167 0 17 (dk_at dksX3_use_2 9 rfl rfl)
theorem dX3_use_60 : decode cX3_use 60 = .ok (.aload_n 0, 1) := dk_42 (dk_at dksX3_use_2 12 rfl rfl)
theorem dX3_use_61 : decode cX3_use 61 = .ok (.getfield 41, 3) := dk_180 0 41 (dk_at dksX3_use_2 13 rfl rfl)
theorem dX3_use_64 : decode cX3_use 64 = .ok (.iload_n 1, 1) := dk_27 (dk_at dksX3_use_2 16 rfl rfl)
theorem dX3_use_65 : decode cX3_use 65 = .ok (.iaload, 1) := dk_46 (dk_at dksX3_use_2 17 rfl rfl)
theorem dX3_use_66 : decode cX3_use 66 = .ok (.ifCond .lt 7, 3) := dk_155 0 7 (dk_at dksX3_use_2 18 rfl rfl)
theorem dX3_use_69 : decode cX3_use 69 = .ok (.iconst 5, 1) := dk_8 (dk_at dksX3_use_2 21 rfl rfl)
theorem dX3_use_70 : decode cX3_use 70 = .ok (.goto 4, 3) := dk_167 0 4 (dk_at dksX3_use_3 0 rfl rfl)
theorem dX3_use_73 : decode cX3_use 73 = .ok (.iconst 0, 1) := dk_3 (dk_at dksX3_use_3 3 rfl rfl)
theorem dX3_use_74 : decode cX3_use 74 = .ok (.ireturn, 1) := dk_172 (dk_at dksX3_use_3 4 rfl rfl)
abbrev cX3_conflictCount : ByteArray := prog_12_method_54_code
def yX3_conflictCount : MethodName := ⟨RX3, "conflictCount", "()I"⟩
def dkwX3_conflictCount_0 : List UInt8 := [42, 42, 180, 0, 167, 182, 0, 238, 172]
abbrev dktX3_conflictCount_0 : List UInt8 := dkwX3_conflictCount_0 ++ []
theorem dksX3_conflictCount_0 : cX3_conflictCount.data.toList.drop 0 = dktX3_conflictCount_0 := by decide +kernel
theorem dX3_conflictCount_0 : decode cX3_conflictCount 0 = .ok (.aload_n 0, 1) := dk_42 (dk_at dksX3_conflictCount_0 0 rfl rfl)
theorem dX3_conflictCount_1 : decode cX3_conflictCount 1 = .ok (.aload_n 0, 1) := dk_42 (dk_at dksX3_conflictCount_0 1 rfl rfl)
theorem dX3_conflictCount_2 : decode cX3_conflictCount 2 = .ok (.getfield 167, 3) := dk_180 0 167 (dk_at dksX3_conflictCount_0 2 rfl rfl)
theorem dX3_conflictCount_5 : decode cX3_conflictCount 5 = .ok (.invokevirtual 238, 3) := dk_182 0 238 (dk_at dksX3_conflictCount_0 5 rfl rfl)
theorem dX3_conflictCount_8 : decode cX3_conflictCount 8 = .ok (.ireturn, 1) := dk_172 (dk_at dksX3_conflictCount_0 8 rfl rfl)
abbrev cX3_conflict : ByteArray := prog_12_method_55_code
def yX3_conflict : MethodName := ⟨RX3, "conflict", "(I)I"⟩
def dkwX3_conflict_1 : List UInt8 := [180, 0, 54, 27, 46, 172]
abbrev dktX3_conflict_1 : List UInt8 := dkwX3_conflict_1 ++ []
def dkwX3_conflict_0 : List UInt8 := [42, 27, 3, 42, 180, 0, 167, 4, 100, 184, 0, 102, 182, 0, 241, 158, 0, 7, 3, 167, 0, 9, 42]
abbrev dktX3_conflict_0 : List UInt8 := dkwX3_conflict_0 ++ dktX3_conflict_1
theorem dksX3_conflict_0 : cX3_conflict.data.toList.drop 0 = dktX3_conflict_0 := by decide +kernel
theorem dksX3_conflict_1 : cX3_conflict.data.toList.drop 23 = dktX3_conflict_1 := dk_seg dksX3_conflict_0 23 rfl rfl
theorem dX3_conflict_0 : decode cX3_conflict 0 = .ok (.aload_n 0, 1) := dk_42 (dk_at dksX3_conflict_0 0 rfl rfl)
theorem dX3_conflict_1 : decode cX3_conflict 1 = .ok (.iload_n 1, 1) := dk_27 (dk_at dksX3_conflict_0 1 rfl rfl)
theorem dX3_conflict_2 : decode cX3_conflict 2 = .ok (.iconst 0, 1) := dk_3 (dk_at dksX3_conflict_0 2 rfl rfl)
theorem dX3_conflict_3 : decode cX3_conflict 3 = .ok (.aload_n 0, 1) := dk_42 (dk_at dksX3_conflict_0 3 rfl rfl)
theorem dX3_conflict_4 : decode cX3_conflict 4 = .ok (.getfield 167, 3) := dk_180 0 167 (dk_at dksX3_conflict_0 4 rfl rfl)
theorem dX3_conflict_7 : decode cX3_conflict 7 = .ok (.iconst 1, 1) := dk_4 (dk_at dksX3_conflict_0 7 rfl rfl)
theorem dX3_conflict_8 : decode cX3_conflict 8 = .ok (.isub, 1) := dk_100 (dk_at dksX3_conflict_0 8 rfl rfl)
theorem dX3_conflict_9 : decode cX3_conflict 9 = .ok (.invokestatic 102, 3) := dk_184 0 102 (dk_at dksX3_conflict_0 9 rfl rfl)
theorem dX3_conflict_12 : decode cX3_conflict 12 = .ok (.invokevirtual 241, 3) := dk_182 0 241 (dk_at dksX3_conflict_0 12 rfl rfl)
theorem dX3_conflict_15 : decode cX3_conflict 15 = .ok (.ifCond .le 7, 3) := dk_158 0 7 (dk_at dksX3_conflict_0 15 rfl rfl)
theorem dX3_conflict_18 : decode cX3_conflict 18 = .ok (.iconst 0, 1) := dk_3 (dk_at dksX3_conflict_0 18 rfl rfl)
theorem dX3_conflict_19 : decode cX3_conflict 19 = .ok (.goto 9, 3) := dk_167 0 9 (dk_at dksX3_conflict_0 19 rfl rfl)
theorem dX3_conflict_22 : decode cX3_conflict 22 = .ok (.aload_n 0, 1) := dk_42 (dk_at dksX3_conflict_0 22 rfl rfl)
theorem dX3_conflict_23 : decode cX3_conflict 23 = .ok (.getfield 54, 3) := dk_180 0 54 (dk_at dksX3_conflict_1 0 rfl rfl)
theorem dX3_conflict_26 : decode cX3_conflict 26 = .ok (.iload_n 1, 1) := dk_27 (dk_at dksX3_conflict_1 3 rfl rfl)
theorem dX3_conflict_27 : decode cX3_conflict 27 = .ok (.iaload, 1) := dk_46 (dk_at dksX3_conflict_1 4 rfl rfl)
theorem dX3_conflict_28 : decode cX3_conflict 28 = .ok (.ireturn, 1) := dk_172 (dk_at dksX3_conflict_1 5 rfl rfl)
abbrev cX3_badTargets : ByteArray := prog_12_method_56_code
def yX3_badTargets : MethodName := ⟨RX3, "badTargets", "()I"⟩
def dkwX3_badTargets_0 : List UInt8 := [42, 42, 180, 0, 164, 182, 0, 238, 172]
abbrev dktX3_badTargets_0 : List UInt8 := dkwX3_badTargets_0 ++ []
theorem dksX3_badTargets_0 : cX3_badTargets.data.toList.drop 0 = dktX3_badTargets_0 := by decide +kernel
theorem dX3_badTargets_0 : decode cX3_badTargets 0 = .ok (.aload_n 0, 1) := dk_42 (dk_at dksX3_badTargets_0 0 rfl rfl)
theorem dX3_badTargets_1 : decode cX3_badTargets 1 = .ok (.aload_n 0, 1) := dk_42 (dk_at dksX3_badTargets_0 1 rfl rfl)
theorem dX3_badTargets_2 : decode cX3_badTargets 2 = .ok (.getfield 164, 3) := dk_180 0 164 (dk_at dksX3_badTargets_0 2 rfl rfl)
theorem dX3_badTargets_5 : decode cX3_badTargets 5 = .ok (.invokevirtual 238, 3) := dk_182 0 238 (dk_at dksX3_badTargets_0 5 rfl rfl)
theorem dX3_badTargets_8 : decode cX3_badTargets 8 = .ok (.ireturn, 1) := dk_172 (dk_at dksX3_badTargets_0 8 rfl rfl)
abbrev cX3_tableCount : ByteArray := prog_12_method_57_code
def yX3_tableCount : MethodName := ⟨RX3, "tableCount", "()I"⟩
def dkwX3_tableCount_0 : List UInt8 := [42, 42, 180, 0, 202, 182, 0, 238, 172]
abbrev dktX3_tableCount_0 : List UInt8 := dkwX3_tableCount_0 ++ []
theorem dksX3_tableCount_0 : cX3_tableCount.data.toList.drop 0 = dktX3_tableCount_0 := by decide +kernel
theorem dX3_tableCount_0 : decode cX3_tableCount 0 = .ok (.aload_n 0, 1) := dk_42 (dk_at dksX3_tableCount_0 0 rfl rfl)
theorem dX3_tableCount_1 : decode cX3_tableCount 1 = .ok (.aload_n 0, 1) := dk_42 (dk_at dksX3_tableCount_0 1 rfl rfl)
theorem dX3_tableCount_2 : decode cX3_tableCount 2 = .ok (.getfield 202, 3) := dk_180 0 202 (dk_at dksX3_tableCount_0 2 rfl rfl)
theorem dX3_tableCount_5 : decode cX3_tableCount 5 = .ok (.invokevirtual 238, 3) := dk_182 0 238 (dk_at dksX3_tableCount_0 5 rfl rfl)
theorem dX3_tableCount_8 : decode cX3_tableCount 8 = .ok (.ireturn, 1) := dk_172 (dk_at dksX3_tableCount_0 8 rfl rfl)
abbrev cX3_table : ByteArray := prog_12_method_58_code
def yX3_table : MethodName := ⟨RX3, "table", "(II)I"⟩
def dkwX3_table_3 : List UInt8 := [180, 0, 66, 27, 46, 172, 42, 6, 182, 0, 113, 172]
abbrev dktX3_table_3 : List UInt8 := dkwX3_table_3 ++ []
def dkwX3_table_2 : List UInt8 := [42, 180, 0, 57, 27, 46, 172, 42, 180, 0, 60, 27, 46, 172, 42, 180, 0, 63, 27, 46, 172, 42]
abbrev dktX3_table_2 : List UInt8 := dkwX3_table_2 ++ dktX3_table_3
def dkwX3_table_1 : List UInt8 := [170, 0, 0, 0, 0, 0, 59, 0, 0, 0, 0, 0, 0, 0, 3, 0, 0, 0, 31, 0, 0, 0, 38, 0, 0, 0, 45, 0, 0, 0, 52]
abbrev dktX3_table_1 : List UInt8 := dkwX3_table_1 ++ dktX3_table_2
def dkwX3_table_0 : List UInt8 := [42, 27, 3, 42, 180, 0, 202, 4, 100, 184, 0, 102, 182, 0, 241, 158, 0, 5, 3, 172, 28]
abbrev dktX3_table_0 : List UInt8 := dkwX3_table_0 ++ dktX3_table_1
theorem dksX3_table_0 : cX3_table.data.toList.drop 0 = dktX3_table_0 := by decide +kernel
theorem dksX3_table_1 : cX3_table.data.toList.drop 21 = dktX3_table_1 := dk_seg dksX3_table_0 21 rfl rfl
theorem dksX3_table_2 : cX3_table.data.toList.drop 52 = dktX3_table_2 := dk_seg dksX3_table_1 31 rfl rfl
theorem dksX3_table_3 : cX3_table.data.toList.drop 74 = dktX3_table_3 := dk_seg dksX3_table_2 22 rfl rfl
theorem dX3_table_0 : decode cX3_table 0 = .ok (.aload_n 0, 1) := dk_42 (dk_at dksX3_table_0 0 rfl rfl)
theorem dX3_table_1 : decode cX3_table 1 = .ok (.iload_n 1, 1) := dk_27 (dk_at dksX3_table_0 1 rfl rfl)
theorem dX3_table_2 : decode cX3_table 2 = .ok (.iconst 0, 1) := dk_3 (dk_at dksX3_table_0 2 rfl rfl)
theorem dX3_table_3 : decode cX3_table 3 = .ok (.aload_n 0, 1) := dk_42 (dk_at dksX3_table_0 3 rfl rfl)
theorem dX3_table_4 : decode cX3_table 4 = .ok (.getfield 202, 3) := dk_180 0 202 (dk_at dksX3_table_0 4 rfl rfl)
theorem dX3_table_7 : decode cX3_table 7 = .ok (.iconst 1, 1) := dk_4 (dk_at dksX3_table_0 7 rfl rfl)
theorem dX3_table_8 : decode cX3_table 8 = .ok (.isub, 1) := dk_100 (dk_at dksX3_table_0 8 rfl rfl)
theorem dX3_table_9 : decode cX3_table 9 = .ok (.invokestatic 102, 3) := dk_184 0 102 (dk_at dksX3_table_0 9 rfl rfl)
theorem dX3_table_12 : decode cX3_table 12 = .ok (.invokevirtual 241, 3) := dk_182 0 241 (dk_at dksX3_table_0 12 rfl rfl)
theorem dX3_table_15 : decode cX3_table 15 = .ok (.ifCond .le 5, 3) := dk_158 0 5 (dk_at dksX3_table_0 15 rfl rfl)
theorem dX3_table_18 : decode cX3_table 18 = .ok (.iconst 0, 1) := dk_3 (dk_at dksX3_table_0 18 rfl rfl)
theorem dX3_table_19 : decode cX3_table 19 = .ok (.ireturn, 1) := dk_172 (dk_at dksX3_table_0 19 rfl rfl)
theorem dX3_table_20 : decode cX3_table 20 = .ok (.iload_n 2, 1) := dk_28 (dk_at dksX3_table_0 20 rfl rfl)
theorem dX3_table_21 : decode cX3_table 21 = .ok (.tableswitch 59 0 3 #[31, 38, 45, 52], 31) := by decide +kernel
theorem dX3_table_52 : decode cX3_table 52 = .ok (.aload_n 0, 1) := dk_42 (dk_at dksX3_table_2 0 rfl rfl)
theorem dX3_table_53 : decode cX3_table 53 = .ok (.getfield 57, 3) := dk_180 0 57 (dk_at dksX3_table_2 1 rfl rfl)
theorem dX3_table_56 : decode cX3_table 56 = .ok (.iload_n 1, 1) := dk_27 (dk_at dksX3_table_2 4 rfl rfl)
theorem dX3_table_57 : decode cX3_table 57 = .ok (.iaload, 1) := dk_46 (dk_at dksX3_table_2 5 rfl rfl)
theorem dX3_table_58 : decode cX3_table 58 = .ok (.ireturn, 1) := dk_172 (dk_at dksX3_table_2 6 rfl rfl)
theorem dX3_table_59 : decode cX3_table 59 = .ok (.aload_n 0, 1) := dk_42 (dk_at dksX3_table_2 7 rfl rfl)
theorem dX3_table_60 : decode cX3_table 60 = .ok (.getfield 60, 3) := dk_180 0 60 (dk_at dksX3_table_2 8 rfl rfl)
theorem dX3_table_63 : decode cX3_table 63 = .ok (.iload_n 1, 1) := dk_27 (dk_at dksX3_table_2 11 rfl rfl)
theorem dX3_table_64 : decode cX3_table 64 = .ok (.iaload, 1) := dk_46 (dk_at dksX3_table_2 12 rfl rfl)
theorem dX3_table_65 : decode cX3_table 65 = .ok (.ireturn, 1) := dk_172 (dk_at dksX3_table_2 13 rfl rfl)
theorem dX3_table_66 : decode cX3_table 66 = .ok (.aload_n 0, 1) := dk_42 (dk_at dksX3_table_2 14 rfl rfl)
theorem dX3_table_67 : decode cX3_table 67 = .ok (.getfield 63, 3) := dk_180 0 63 (dk_at dksX3_table_2 15 rfl rfl)
theorem dX3_table_70 : decode cX3_table 70 = .ok (.iload_n 1, 1) := dk_27 (dk_at dksX3_table_2 18 rfl rfl)
theorem dX3_table_71 : decode cX3_table 71 = .ok (.iaload, 1) := dk_46 (dk_at dksX3_table_2 19 rfl rfl)
theorem dX3_table_72 : decode cX3_table 72 = .ok (.ireturn, 1) := dk_172 (dk_at dksX3_table_2 20 rfl rfl)
theorem dX3_table_73 : decode cX3_table 73 = .ok (.aload_n 0, 1) := dk_42 (dk_at dksX3_table_2 21 rfl rfl)
theorem dX3_table_74 : decode cX3_table 74 = .ok (.getfield 66, 3) := dk_180 0 66 (dk_at dksX3_table_3 0 rfl rfl)
theorem dX3_table_77 : decode cX3_table 77 = .ok (.iload_n 1, 1) := dk_27 (dk_at dksX3_table_3 3 rfl rfl)
theorem dX3_table_78 : decode cX3_table 78 = .ok (.iaload, 1) := dk_46 (dk_at dksX3_table_3 4 rfl rfl)
theorem dX3_table_79 : decode cX3_table 79 = .ok (.ireturn, 1) := dk_172 (dk_at dksX3_table_3 5 rfl rfl)
theorem dX3_table_80 : decode cX3_table 80 = .ok (.aload_n 0, 1) := dk_42 (dk_at dksX3_table_3 6 rfl rfl)
theorem dX3_table_81 : decode cX3_table 81 = .ok (.iconst 3, 1) := dk_6 (dk_at dksX3_table_3 7 rfl rfl)
theorem dX3_table_82 : decode cX3_table 82 = .ok (.invokevirtual 113, 3) := dk_182 0 113 (dk_at dksX3_table_3 8 rfl rfl)
theorem dX3_table_85 : decode cX3_table 85 = .ok (.ireturn, 1) := dk_172 (dk_at dksX3_table_3 11 rfl rfl)
abbrev cX3_tableEntry : ByteArray := prog_12_method_59_code
def yX3_tableEntry : MethodName := ⟨RX3, "tableEntry", "(II)I"⟩
def dkwX3_tableEntry_2 : List UInt8 := [42, 180, 0, 9, 42, 180, 0, 69, 16, 16, 27, 104, 28, 96, 46, 46, 172]
abbrev dktX3_tableEntry_2 : List UInt8 := dkwX3_tableEntry_2 ++ []
def dkwX3_tableEntry_1 : List UInt8 := [184, 0, 102, 153, 0, 7, 4, 167, 0, 4, 3, 62, 42, 29, 182, 0, 241, 158, 0, 7, 3, 167, 0, 19]
abbrev dktX3_tableEntry_1 : List UInt8 := dkwX3_tableEntry_1 ++ dktX3_tableEntry_2
def dkwX3_tableEntry_0 : List UInt8 := [27, 3, 42, 180, 0, 202, 4, 100, 184, 0, 102, 153, 0, 23, 28, 3, 42, 180, 0, 66, 27, 46, 4, 100]
abbrev dktX3_tableEntry_0 : List UInt8 := dkwX3_tableEntry_0 ++ dktX3_tableEntry_1
theorem dksX3_tableEntry_0 : cX3_tableEntry.data.toList.drop 0 = dktX3_tableEntry_0 := by decide +kernel
theorem dksX3_tableEntry_1 : cX3_tableEntry.data.toList.drop 24 = dktX3_tableEntry_1 := dk_seg dksX3_tableEntry_0 24 rfl rfl
theorem dksX3_tableEntry_2 : cX3_tableEntry.data.toList.drop 48 = dktX3_tableEntry_2 := dk_seg dksX3_tableEntry_1 24 rfl rfl
theorem dX3_tableEntry_0 : decode cX3_tableEntry 0 = .ok (.iload_n 1, 1) := dk_27 (dk_at dksX3_tableEntry_0 0 rfl rfl)
theorem dX3_tableEntry_1 : decode cX3_tableEntry 1 = .ok (.iconst 0, 1) := dk_3 (dk_at dksX3_tableEntry_0 1 rfl rfl)
theorem dX3_tableEntry_2 : decode cX3_tableEntry 2 = .ok (.aload_n 0, 1) := dk_42 (dk_at dksX3_tableEntry_0 2 rfl rfl)
theorem dX3_tableEntry_3 : decode cX3_tableEntry 3 = .ok (.getfield 202, 3) := dk_180 0 202 (dk_at dksX3_tableEntry_0 3 rfl rfl)
theorem dX3_tableEntry_6 : decode cX3_tableEntry 6 = .ok (.iconst 1, 1) := dk_4 (dk_at dksX3_tableEntry_0 6 rfl rfl)
theorem dX3_tableEntry_7 : decode cX3_tableEntry 7 = .ok (.isub, 1) := dk_100 (dk_at dksX3_tableEntry_0 7 rfl rfl)
theorem dX3_tableEntry_8 : decode cX3_tableEntry 8 = .ok (.invokestatic 102, 3) := dk_184 0 102 (dk_at dksX3_tableEntry_0 8 rfl rfl)
theorem dX3_tableEntry_11 : decode cX3_tableEntry 11 = .ok (.ifCond .eq 23, 3) := dk_153 0 23 (dk_at dksX3_tableEntry_0 11 rfl rfl)
theorem dX3_tableEntry_14 : decode cX3_tableEntry 14 = .ok (.iload_n 2, 1) := dk_28 (dk_at dksX3_tableEntry_0 14 rfl rfl)
theorem dX3_tableEntry_15 : decode cX3_tableEntry 15 = .ok (.iconst 0, 1) := dk_3 (dk_at dksX3_tableEntry_0 15 rfl rfl)
theorem dX3_tableEntry_16 : decode cX3_tableEntry 16 = .ok (.aload_n 0, 1) := dk_42 (dk_at dksX3_tableEntry_0 16 rfl rfl)
theorem dX3_tableEntry_17 : decode cX3_tableEntry 17 = .ok (.getfield 66, 3) := dk_180 0 66 (dk_at dksX3_tableEntry_0 17 rfl rfl)
theorem dX3_tableEntry_20 : decode cX3_tableEntry 20 = .ok (.iload_n 1, 1) := dk_27 (dk_at dksX3_tableEntry_0 20 rfl rfl)
theorem dX3_tableEntry_21 : decode cX3_tableEntry 21 = .ok (.iaload, 1) := dk_46 (dk_at dksX3_tableEntry_0 21 rfl rfl)
theorem dX3_tableEntry_22 : decode cX3_tableEntry 22 = .ok (.iconst 1, 1) := dk_4 (dk_at dksX3_tableEntry_0 22 rfl rfl)
theorem dX3_tableEntry_23 : decode cX3_tableEntry 23 = .ok (.isub, 1) := dk_100 (dk_at dksX3_tableEntry_0 23 rfl rfl)
theorem dX3_tableEntry_24 : decode cX3_tableEntry 24 = .ok (.invokestatic 102, 3) := dk_184 0 102 (dk_at dksX3_tableEntry_1 0 rfl rfl)
theorem dX3_tableEntry_27 : decode cX3_tableEntry 27 = .ok (.ifCond .eq 7, 3) := dk_153 0 7 (dk_at dksX3_tableEntry_1 3 rfl rfl)
theorem dX3_tableEntry_30 : decode cX3_tableEntry 30 = .ok (.iconst 1, 1) := dk_4 (dk_at dksX3_tableEntry_1 6 rfl rfl)
theorem dX3_tableEntry_31 : decode cX3_tableEntry 31 = .ok (.goto 4, 3) := dk_167 0 4 (dk_at dksX3_tableEntry_1 7 rfl rfl)
theorem dX3_tableEntry_34 : decode cX3_tableEntry 34 = .ok (.iconst 0, 1) := dk_3 (dk_at dksX3_tableEntry_1 10 rfl rfl)
theorem dX3_tableEntry_35 : decode cX3_tableEntry 35 = .ok (.istore_n 3, 1) := dk_62 (dk_at dksX3_tableEntry_1 11 rfl rfl)
theorem dX3_tableEntry_36 : decode cX3_tableEntry 36 = .ok (.aload_n 0, 1) := dk_42 (dk_at dksX3_tableEntry_1 12 rfl rfl)
theorem dX3_tableEntry_37 : decode cX3_tableEntry 37 = .ok (.iload_n 3, 1) := dk_29 (dk_at dksX3_tableEntry_1 13 rfl rfl)
theorem dX3_tableEntry_38 : decode cX3_tableEntry 38 = .ok (.invokevirtual 241, 3) := dk_182 0 241 (dk_at dksX3_tableEntry_1 14 rfl rfl)
theorem dX3_tableEntry_41 : decode cX3_tableEntry 41 = .ok (.ifCond .le 7, 3) := dk_158 0 7 (dk_at dksX3_tableEntry_1 17 rfl rfl)
theorem dX3_tableEntry_44 : decode cX3_tableEntry 44 = .ok (.iconst 0, 1) := dk_3 (dk_at dksX3_tableEntry_1 20 rfl rfl)
theorem dX3_tableEntry_45 : decode cX3_tableEntry 45 = .ok (.goto 19, 3) := dk_167 0 19 (dk_at dksX3_tableEntry_1 21 rfl rfl)
theorem dX3_tableEntry_48 : decode cX3_tableEntry 48 = .ok (.aload_n 0, 1) := dk_42 (dk_at dksX3_tableEntry_2 0 rfl rfl)
theorem dX3_tableEntry_49 : decode cX3_tableEntry 49 = .ok (.getfield 9, 3) := dk_180 0 9 (dk_at dksX3_tableEntry_2 1 rfl rfl)
theorem dX3_tableEntry_52 : decode cX3_tableEntry 52 = .ok (.aload_n 0, 1) := dk_42 (dk_at dksX3_tableEntry_2 4 rfl rfl)
theorem dX3_tableEntry_53 : decode cX3_tableEntry 53 = .ok (.getfield 69, 3) := dk_180 0 69 (dk_at dksX3_tableEntry_2 5 rfl rfl)
theorem dX3_tableEntry_56 : decode cX3_tableEntry 56 = .ok (.bipush 16, 2) := dk_16 16 (dk_at dksX3_tableEntry_2 8 rfl rfl)
theorem dX3_tableEntry_58 : decode cX3_tableEntry 58 = .ok (.iload_n 1, 1) := dk_27 (dk_at dksX3_tableEntry_2 10 rfl rfl)
theorem dX3_tableEntry_59 : decode cX3_tableEntry 59 = .ok (.imul, 1) := dk_104 (dk_at dksX3_tableEntry_2 11 rfl rfl)
theorem dX3_tableEntry_60 : decode cX3_tableEntry 60 = .ok (.iload_n 2, 1) := dk_28 (dk_at dksX3_tableEntry_2 12 rfl rfl)
theorem dX3_tableEntry_61 : decode cX3_tableEntry 61 = .ok (.iadd, 1) := dk_96 (dk_at dksX3_tableEntry_2 13 rfl rfl)
theorem dX3_tableEntry_62 : decode cX3_tableEntry 62 = .ok (.iaload, 1) := dk_46 (dk_at dksX3_tableEntry_2 14 rfl rfl)
theorem dX3_tableEntry_63 : decode cX3_tableEntry 63 = .ok (.iaload, 1) := dk_46 (dk_at dksX3_tableEntry_2 15 rfl rfl)
theorem dX3_tableEntry_64 : decode cX3_tableEntry 64 = .ok (.ireturn, 1) := dk_172 (dk_at dksX3_tableEntry_2 16 rfl rfl)
abbrev cX3_isComplete : ByteArray := prog_12_method_61_code
def yX3_isComplete : MethodName := ⟨RX3, "isComplete", "(I)Z"⟩
def dkwX3_isComplete_3 : List UInt8 := [167, 255, 210, 28, 172]
abbrev dktX3_isComplete_3 : List UInt8 := dkwX3_isComplete_3 ++ []
def dkwX3_isComplete_2 : List UInt8 := [16, 16, 27, 104, 29, 96, 46, 46, 182, 0, 245, 153, 0, 7, 4, 167, 0, 4, 3, 61, 132, 3, 1]
abbrev dktX3_isComplete_2 : List UInt8 := dkwX3_isComplete_2 ++ dktX3_isComplete_3
def dkwX3_isComplete_1 : List UInt8 := [29, 42, 180, 0, 66, 27, 46, 162, 0, 42, 28, 153, 0, 30, 42, 42, 180, 0, 9, 42, 180, 0, 69]
abbrev dktX3_isComplete_1 : List UInt8 := dkwX3_isComplete_1 ++ dktX3_isComplete_2
def dkwX3_isComplete_0 : List UInt8 := [42, 27, 3, 42, 180, 0, 202, 4, 100, 184, 0, 102, 182, 0, 241, 158, 0, 5, 3, 172, 4, 61, 3, 62]
abbrev dktX3_isComplete_0 : List UInt8 := dkwX3_isComplete_0 ++ dktX3_isComplete_1
theorem dksX3_isComplete_0 : cX3_isComplete.data.toList.drop 0 = dktX3_isComplete_0 := by decide +kernel
theorem dksX3_isComplete_1 : cX3_isComplete.data.toList.drop 24 = dktX3_isComplete_1 := dk_seg dksX3_isComplete_0 24 rfl rfl
theorem dksX3_isComplete_2 : cX3_isComplete.data.toList.drop 47 = dktX3_isComplete_2 := dk_seg dksX3_isComplete_1 23 rfl rfl
theorem dksX3_isComplete_3 : cX3_isComplete.data.toList.drop 70 = dktX3_isComplete_3 := dk_seg dksX3_isComplete_2 23 rfl rfl
theorem dX3_isComplete_0 : decode cX3_isComplete 0 = .ok (.aload_n 0, 1) := dk_42 (dk_at dksX3_isComplete_0 0 rfl rfl)
theorem dX3_isComplete_1 : decode cX3_isComplete 1 = .ok (.iload_n 1, 1) := dk_27 (dk_at dksX3_isComplete_0 1 rfl rfl)
theorem dX3_isComplete_2 : decode cX3_isComplete 2 = .ok (.iconst 0, 1) := dk_3 (dk_at dksX3_isComplete_0 2 rfl rfl)
theorem dX3_isComplete_3 : decode cX3_isComplete 3 = .ok (.aload_n 0, 1) := dk_42 (dk_at dksX3_isComplete_0 3 rfl rfl)
theorem dX3_isComplete_4 : decode cX3_isComplete 4 = .ok (.getfield 202, 3) := dk_180 0 202 (dk_at dksX3_isComplete_0 4 rfl rfl)
theorem dX3_isComplete_7 : decode cX3_isComplete 7 = .ok (.iconst 1, 1) := dk_4 (dk_at dksX3_isComplete_0 7 rfl rfl)
theorem dX3_isComplete_8 : decode cX3_isComplete 8 = .ok (.isub, 1) := dk_100 (dk_at dksX3_isComplete_0 8 rfl rfl)
theorem dX3_isComplete_9 : decode cX3_isComplete 9 = .ok (.invokestatic 102, 3) := dk_184 0 102 (dk_at dksX3_isComplete_0 9 rfl rfl)
theorem dX3_isComplete_12 : decode cX3_isComplete 12 = .ok (.invokevirtual 241, 3) := dk_182 0 241 (dk_at dksX3_isComplete_0 12 rfl rfl)
theorem dX3_isComplete_15 : decode cX3_isComplete 15 = .ok (.ifCond .le 5, 3) := dk_158 0 5 (dk_at dksX3_isComplete_0 15 rfl rfl)
theorem dX3_isComplete_18 : decode cX3_isComplete 18 = .ok (.iconst 0, 1) := dk_3 (dk_at dksX3_isComplete_0 18 rfl rfl)
theorem dX3_isComplete_19 : decode cX3_isComplete 19 = .ok (.ireturn, 1) := dk_172 (dk_at dksX3_isComplete_0 19 rfl rfl)
theorem dX3_isComplete_20 : decode cX3_isComplete 20 = .ok (.iconst 1, 1) := dk_4 (dk_at dksX3_isComplete_0 20 rfl rfl)
theorem dX3_isComplete_21 : decode cX3_isComplete 21 = .ok (.istore_n 2, 1) := dk_61 (dk_at dksX3_isComplete_0 21 rfl rfl)
theorem dX3_isComplete_22 : decode cX3_isComplete 22 = .ok (.iconst 0, 1) := dk_3 (dk_at dksX3_isComplete_0 22 rfl rfl)
theorem dX3_isComplete_23 : decode cX3_isComplete 23 = .ok (.istore_n 3, 1) := dk_62 (dk_at dksX3_isComplete_0 23 rfl rfl)
theorem dX3_isComplete_24 : decode cX3_isComplete 24 = .ok (.iload_n 3, 1) := dk_29 (dk_at dksX3_isComplete_1 0 rfl rfl)
theorem dX3_isComplete_25 : decode cX3_isComplete 25 = .ok (.aload_n 0, 1) := dk_42 (dk_at dksX3_isComplete_1 1 rfl rfl)
theorem dX3_isComplete_26 : decode cX3_isComplete 26 = .ok (.getfield 66, 3) := dk_180 0 66 (dk_at dksX3_isComplete_1 2 rfl rfl)
theorem dX3_isComplete_29 : decode cX3_isComplete 29 = .ok (.iload_n 1, 1) := dk_27 (dk_at dksX3_isComplete_1 5 rfl rfl)
theorem dX3_isComplete_30 : decode cX3_isComplete 30 = .ok (.iaload, 1) := dk_46 (dk_at dksX3_isComplete_1 6 rfl rfl)
theorem dX3_isComplete_31 : decode cX3_isComplete 31 = .ok (.if_icmp .ge 42, 3) := dk_162 0 42 (dk_at dksX3_isComplete_1 7 rfl rfl)
theorem dX3_isComplete_34 : decode cX3_isComplete 34 = .ok (.iload_n 2, 1) := dk_28 (dk_at dksX3_isComplete_1 10 rfl rfl)
theorem dX3_isComplete_35 : decode cX3_isComplete 35 = .ok (.ifCond .eq 30, 3) := dk_153 0 30 (dk_at dksX3_isComplete_1 11 rfl rfl)
theorem dX3_isComplete_38 : decode cX3_isComplete 38 = .ok (.aload_n 0, 1) := dk_42 (dk_at dksX3_isComplete_1 14 rfl rfl)
theorem dX3_isComplete_39 : decode cX3_isComplete 39 = .ok (.aload_n 0, 1) := dk_42 (dk_at dksX3_isComplete_1 15 rfl rfl)
theorem dX3_isComplete_40 : decode cX3_isComplete 40 = .ok (.getfield 9, 3) := dk_180 0 9 (dk_at dksX3_isComplete_1 16 rfl rfl)
theorem dX3_isComplete_43 : decode cX3_isComplete 43 = .ok (.aload_n 0, 1) := dk_42 (dk_at dksX3_isComplete_1 19 rfl rfl)
theorem dX3_isComplete_44 : decode cX3_isComplete 44 = .ok (.getfield 69, 3) := dk_180 0 69 (dk_at dksX3_isComplete_1 20 rfl rfl)
theorem dX3_isComplete_47 : decode cX3_isComplete 47 = .ok (.bipush 16, 2) := dk_16 16 (dk_at dksX3_isComplete_2 0 rfl rfl)
theorem dX3_isComplete_49 : decode cX3_isComplete 49 = .ok (.iload_n 1, 1) := dk_27 (dk_at dksX3_isComplete_2 2 rfl rfl)
theorem dX3_isComplete_50 : decode cX3_isComplete 50 = .ok (.imul, 1) := dk_104 (dk_at dksX3_isComplete_2 3 rfl rfl)
theorem dX3_isComplete_51 : decode cX3_isComplete 51 = .ok (.iload_n 3, 1) := dk_29 (dk_at dksX3_isComplete_2 4 rfl rfl)
theorem dX3_isComplete_52 : decode cX3_isComplete 52 = .ok (.iadd, 1) := dk_96 (dk_at dksX3_isComplete_2 5 rfl rfl)
theorem dX3_isComplete_53 : decode cX3_isComplete 53 = .ok (.iaload, 1) := dk_46 (dk_at dksX3_isComplete_2 6 rfl rfl)
theorem dX3_isComplete_54 : decode cX3_isComplete 54 = .ok (.iaload, 1) := dk_46 (dk_at dksX3_isComplete_2 7 rfl rfl)
theorem dX3_isComplete_55 : decode cX3_isComplete 55 = .ok (.invokevirtual 245, 3) := dk_182 0 245 (dk_at dksX3_isComplete_2 8 rfl rfl)
theorem dX3_isComplete_58 : decode cX3_isComplete 58 = .ok (.ifCond .eq 7, 3) := dk_153 0 7 (dk_at dksX3_isComplete_2 11 rfl rfl)
theorem dX3_isComplete_61 : decode cX3_isComplete 61 = .ok (.iconst 1, 1) := dk_4 (dk_at dksX3_isComplete_2 14 rfl rfl)
theorem dX3_isComplete_62 : decode cX3_isComplete 62 = .ok (.goto 4, 3) := dk_167 0 4 (dk_at dksX3_isComplete_2 15 rfl rfl)
theorem dX3_isComplete_65 : decode cX3_isComplete 65 = .ok (.iconst 0, 1) := dk_3 (dk_at dksX3_isComplete_2 18 rfl rfl)
theorem dX3_isComplete_66 : decode cX3_isComplete 66 = .ok (.istore_n 2, 1) := dk_61 (dk_at dksX3_isComplete_2 19 rfl rfl)
theorem dX3_isComplete_67 : decode cX3_isComplete 67 = .ok (.iinc 3 1, 3) := dk_132 3 1 (dk_at dksX3_isComplete_2 20 rfl rfl)
theorem dX3_isComplete_70 : decode cX3_isComplete 70 = .ok (.goto (-46), 3) := dk_167 255 210 (dk_at dksX3_isComplete_3 0 rfl rfl)
theorem dX3_isComplete_73 : decode cX3_isComplete 73 = .ok (.iload_n 2, 1) := dk_28 (dk_at dksX3_isComplete_3 3 rfl rfl)
theorem dX3_isComplete_74 : decode cX3_isComplete 74 = .ok (.ireturn, 1) := dk_172 (dk_at dksX3_isComplete_3 4 rfl rfl)
abbrev cX3_isBegin : ByteArray := prog_12_method_60_code
def yX3_isBegin : MethodName := ⟨RX3, "isBegin", "(I)Z"⟩
def dkwX3_isBegin_0 : List UInt8 := [42, 27, 182, 0, 127, 153, 0, 16, 42, 180, 0, 32, 27, 46, 158, 0, 7, 4, 167, 0, 4, 3, 172]
abbrev dktX3_isBegin_0 : List UInt8 := dkwX3_isBegin_0 ++ []
theorem dksX3_isBegin_0 : cX3_isBegin.data.toList.drop 0 = dktX3_isBegin_0 := by decide +kernel
theorem dX3_isBegin_0 : decode cX3_isBegin 0 = .ok (.aload_n 0, 1) := dk_42 (dk_at dksX3_isBegin_0 0 rfl rfl)
theorem dX3_isBegin_1 : decode cX3_isBegin 1 = .ok (.iload_n 1, 1) := dk_27 (dk_at dksX3_isBegin_0 1 rfl rfl)
theorem dX3_isBegin_2 : decode cX3_isBegin 2 = .ok (.invokevirtual 127, 3) := dk_182 0 127 (dk_at dksX3_isBegin_0 2 rfl rfl)
theorem dX3_isBegin_5 : decode cX3_isBegin 5 = .ok (.ifCond .eq 16, 3) := dk_153 0 16 (dk_at dksX3_isBegin_0 5 rfl rfl)
theorem dX3_isBegin_8 : decode cX3_isBegin 8 = .ok (.aload_n 0, 1) := dk_42 (dk_at dksX3_isBegin_0 8 rfl rfl)
theorem dX3_isBegin_9 : decode cX3_isBegin 9 = .ok (.getfield 32, 3) := dk_180 0 32 (dk_at dksX3_isBegin_0 9 rfl rfl)
theorem dX3_isBegin_12 : decode cX3_isBegin 12 = .ok (.iload_n 1, 1) := dk_27 (dk_at dksX3_isBegin_0 12 rfl rfl)
theorem dX3_isBegin_13 : decode cX3_isBegin 13 = .ok (.iaload, 1) := dk_46 (dk_at dksX3_isBegin_0 13 rfl rfl)
theorem dX3_isBegin_14 : decode cX3_isBegin 14 = .ok (.ifCond .le 7, 3) := dk_158 0 7 (dk_at dksX3_isBegin_0 14 rfl rfl)
theorem dX3_isBegin_17 : decode cX3_isBegin 17 = .ok (.iconst 1, 1) := dk_4 (dk_at dksX3_isBegin_0 17 rfl rfl)
theorem dX3_isBegin_18 : decode cX3_isBegin 18 = .ok (.goto 4, 3) := dk_167 0 4 (dk_at dksX3_isBegin_0 18 rfl rfl)
theorem dX3_isBegin_21 : decode cX3_isBegin 21 = .ok (.iconst 0, 1) := dk_3 (dk_at dksX3_isBegin_0 21 rfl rfl)
theorem dX3_isBegin_22 : decode cX3_isBegin 22 = .ok (.ireturn, 1) := dk_172 (dk_at dksX3_isBegin_0 22 rfl rfl)
abbrev cX3_gapCount : ByteArray := prog_12_method_62_code
def yX3_gapCount : MethodName := ⟨RX3, "gapCount", "()I"⟩
def dkwX3_gapCount_0 : List UInt8 := [42, 42, 180, 0, 223, 182, 0, 238, 172]
abbrev dktX3_gapCount_0 : List UInt8 := dkwX3_gapCount_0 ++ []
theorem dksX3_gapCount_0 : cX3_gapCount.data.toList.drop 0 = dktX3_gapCount_0 := by decide +kernel
theorem dX3_gapCount_0 : decode cX3_gapCount 0 = .ok (.aload_n 0, 1) := dk_42 (dk_at dksX3_gapCount_0 0 rfl rfl)
theorem dX3_gapCount_1 : decode cX3_gapCount 1 = .ok (.aload_n 0, 1) := dk_42 (dk_at dksX3_gapCount_0 1 rfl rfl)
theorem dX3_gapCount_2 : decode cX3_gapCount 2 = .ok (.getfield 223, 3) := dk_180 0 223 (dk_at dksX3_gapCount_0 2 rfl rfl)
theorem dX3_gapCount_5 : decode cX3_gapCount 5 = .ok (.invokevirtual 238, 3) := dk_182 0 238 (dk_at dksX3_gapCount_0 5 rfl rfl)
theorem dX3_gapCount_8 : decode cX3_gapCount 8 = .ok (.ireturn, 1) := dk_172 (dk_at dksX3_gapCount_0 8 rfl rfl)
abbrev cX3_gap : ByteArray := prog_12_method_63_code
def yX3_gap : MethodName := ⟨RX3, "gap", "(II)I"⟩
def dkwX3_gap_2 : List UInt8 := [5, 160, 0, 12, 42, 180, 0, 78, 27, 46, 167, 0, 8, 42, 6, 182, 0, 113, 172]
abbrev dktX3_gap_2 : List UInt8 := dkwX3_gap_2 ++ []
def dkwX3_gap_1 : List UInt8 := [42, 180, 0, 72, 27, 46, 167, 0, 36, 28, 4, 160, 0, 12, 42, 180, 0, 75, 27, 46, 167, 0, 22, 28]
abbrev dktX3_gap_1 : List UInt8 := dkwX3_gap_1 ++ dktX3_gap_2
def dkwX3_gap_0 : List UInt8 := [42, 27, 3, 42, 180, 0, 223, 4, 100, 184, 0, 102, 182, 0, 241, 158, 0, 5, 3, 172, 28, 154, 0, 12]
abbrev dktX3_gap_0 : List UInt8 := dkwX3_gap_0 ++ dktX3_gap_1
theorem dksX3_gap_0 : cX3_gap.data.toList.drop 0 = dktX3_gap_0 := by decide +kernel
theorem dksX3_gap_1 : cX3_gap.data.toList.drop 24 = dktX3_gap_1 := dk_seg dksX3_gap_0 24 rfl rfl
theorem dksX3_gap_2 : cX3_gap.data.toList.drop 48 = dktX3_gap_2 := dk_seg dksX3_gap_1 24 rfl rfl
theorem dX3_gap_0 : decode cX3_gap 0 = .ok (.aload_n 0, 1) := dk_42 (dk_at dksX3_gap_0 0 rfl rfl)
theorem dX3_gap_1 : decode cX3_gap 1 = .ok (.iload_n 1, 1) := dk_27 (dk_at dksX3_gap_0 1 rfl rfl)
theorem dX3_gap_2 : decode cX3_gap 2 = .ok (.iconst 0, 1) := dk_3 (dk_at dksX3_gap_0 2 rfl rfl)
theorem dX3_gap_3 : decode cX3_gap 3 = .ok (.aload_n 0, 1) := dk_42 (dk_at dksX3_gap_0 3 rfl rfl)
theorem dX3_gap_4 : decode cX3_gap 4 = .ok (.getfield 223, 3) := dk_180 0 223 (dk_at dksX3_gap_0 4 rfl rfl)
theorem dX3_gap_7 : decode cX3_gap 7 = .ok (.iconst 1, 1) := dk_4 (dk_at dksX3_gap_0 7 rfl rfl)
theorem dX3_gap_8 : decode cX3_gap 8 = .ok (.isub, 1) := dk_100 (dk_at dksX3_gap_0 8 rfl rfl)
theorem dX3_gap_9 : decode cX3_gap 9 = .ok (.invokestatic 102, 3) := dk_184 0 102 (dk_at dksX3_gap_0 9 rfl rfl)
theorem dX3_gap_12 : decode cX3_gap 12 = .ok (.invokevirtual 241, 3) := dk_182 0 241 (dk_at dksX3_gap_0 12 rfl rfl)
theorem dX3_gap_15 : decode cX3_gap 15 = .ok (.ifCond .le 5, 3) := dk_158 0 5 (dk_at dksX3_gap_0 15 rfl rfl)
theorem dX3_gap_18 : decode cX3_gap 18 = .ok (.iconst 0, 1) := dk_3 (dk_at dksX3_gap_0 18 rfl rfl)
theorem dX3_gap_19 : decode cX3_gap 19 = .ok (.ireturn, 1) := dk_172 (dk_at dksX3_gap_0 19 rfl rfl)
theorem dX3_gap_20 : decode cX3_gap 20 = .ok (.iload_n 2, 1) := dk_28 (dk_at dksX3_gap_0 20 rfl rfl)
theorem dX3_gap_21 : decode cX3_gap 21 = .ok (.ifCond .ne 12, 3) := dk_154 0 12 (dk_at dksX3_gap_0 21 rfl rfl)
theorem dX3_gap_24 : decode cX3_gap 24 = .ok (.aload_n 0, 1) := dk_42 (dk_at dksX3_gap_1 0 rfl rfl)
theorem dX3_gap_25 : decode cX3_gap 25 = .ok (.getfield 72, 3) := dk_180 0 72 (dk_at dksX3_gap_1 1 rfl rfl)
theorem dX3_gap_28 : decode cX3_gap 28 = .ok (.iload_n 1, 1) := dk_27 (dk_at dksX3_gap_1 4 rfl rfl)
theorem dX3_gap_29 : decode cX3_gap 29 = .ok (.iaload, 1) := dk_46 (dk_at dksX3_gap_1 5 rfl rfl)
theorem dX3_gap_30 : decode cX3_gap 30 = .ok (.goto 36, 3) := dk_167 0 36 (dk_at dksX3_gap_1 6 rfl rfl)
theorem dX3_gap_33 : decode cX3_gap 33 = .ok (.iload_n 2, 1) := dk_28 (dk_at dksX3_gap_1 9 rfl rfl)
theorem dX3_gap_34 : decode cX3_gap 34 = .ok (.iconst 1, 1) := dk_4 (dk_at dksX3_gap_1 10 rfl rfl)
theorem dX3_gap_35 : decode cX3_gap 35 = .ok (.if_icmp .ne 12, 3) := dk_160 0 12 (dk_at dksX3_gap_1 11 rfl rfl)
theorem dX3_gap_38 : decode cX3_gap 38 = .ok (.aload_n 0, 1) := dk_42 (dk_at dksX3_gap_1 14 rfl rfl)
theorem dX3_gap_39 : decode cX3_gap 39 = .ok (.getfield 75, 3) := dk_180 0 75 (dk_at dksX3_gap_1 15 rfl rfl)
theorem dX3_gap_42 : decode cX3_gap 42 = .ok (.iload_n 1, 1) := dk_27 (dk_at dksX3_gap_1 18 rfl rfl)
theorem dX3_gap_43 : decode cX3_gap 43 = .ok (.iaload, 1) := dk_46 (dk_at dksX3_gap_1 19 rfl rfl)
theorem dX3_gap_44 : decode cX3_gap 44 = .ok (.goto 22, 3) := dk_167 0 22 (dk_at dksX3_gap_1 20 rfl rfl)
theorem dX3_gap_47 : decode cX3_gap 47 = .ok (.iload_n 2, 1) := dk_28 (dk_at dksX3_gap_1 23 rfl rfl)
theorem dX3_gap_48 : decode cX3_gap 48 = .ok (.iconst 2, 1) := dk_5 (dk_at dksX3_gap_2 0 rfl rfl)
theorem dX3_gap_49 : decode cX3_gap 49 = .ok (.if_icmp .ne 12, 3) := dk_160 0 12 (dk_at dksX3_gap_2 1 rfl rfl)
theorem dX3_gap_52 : decode cX3_gap 52 = .ok (.aload_n 0, 1) := dk_42 (dk_at dksX3_gap_2 4 rfl rfl)
theorem dX3_gap_53 : decode cX3_gap 53 = .ok (.getfield 78, 3) := dk_180 0 78 (dk_at dksX3_gap_2 5 rfl rfl)
theorem dX3_gap_56 : decode cX3_gap 56 = .ok (.iload_n 1, 1) := dk_27 (dk_at dksX3_gap_2 8 rfl rfl)
theorem dX3_gap_57 : decode cX3_gap 57 = .ok (.iaload, 1) := dk_46 (dk_at dksX3_gap_2 9 rfl rfl)
theorem dX3_gap_58 : decode cX3_gap 58 = .ok (.goto 8, 3) := dk_167 0 8 (dk_at dksX3_gap_2 10 rfl rfl)
theorem dX3_gap_61 : decode cX3_gap 61 = .ok (.aload_n 0, 1) := dk_42 (dk_at dksX3_gap_2 13 rfl rfl)
theorem dX3_gap_62 : decode cX3_gap 62 = .ok (.iconst 3, 1) := dk_6 (dk_at dksX3_gap_2 14 rfl rfl)
theorem dX3_gap_63 : decode cX3_gap 63 = .ok (.invokevirtual 113, 3) := dk_182 0 113 (dk_at dksX3_gap_2 15 rfl rfl)
theorem dX3_gap_66 : decode cX3_gap 66 = .ok (.ireturn, 1) := dk_172 (dk_at dksX3_gap_2 18 rfl rfl)
abbrev cX3_speculative : ByteArray := prog_12_method_64_code
def yX3_speculative : MethodName := ⟨RX3, "speculative", "()I"⟩
def dkwX3_speculative_0 : List UInt8 := [42, 42, 180, 0, 217, 182, 0, 238, 172]
abbrev dktX3_speculative_0 : List UInt8 := dkwX3_speculative_0 ++ []
theorem dksX3_speculative_0 : cX3_speculative.data.toList.drop 0 = dktX3_speculative_0 := by decide +kernel
theorem dX3_speculative_0 : decode cX3_speculative 0 = .ok (.aload_n 0, 1) := dk_42 (dk_at dksX3_speculative_0 0 rfl rfl)
theorem dX3_speculative_1 : decode cX3_speculative 1 = .ok (.aload_n 0, 1) := dk_42 (dk_at dksX3_speculative_0 1 rfl rfl)
theorem dX3_speculative_2 : decode cX3_speculative 2 = .ok (.getfield 217, 3) := dk_180 0 217 (dk_at dksX3_speculative_0 2 rfl rfl)
theorem dX3_speculative_5 : decode cX3_speculative 5 = .ok (.invokevirtual 238, 3) := dk_182 0 238 (dk_at dksX3_speculative_0 5 rfl rfl)
theorem dX3_speculative_8 : decode cX3_speculative 8 = .ok (.ireturn, 1) := dk_172 (dk_at dksX3_speculative_0 8 rfl rfl)
abbrev cX3_blockCount : ByteArray := prog_12_method_70_code
def yX3_blockCount : MethodName := ⟨RX3, "blockCount", "()I"⟩
def dkwX3_blockCount_0 : List UInt8 := [42, 180, 0, 106, 153, 0, 14, 42, 42, 182, 1, 8, 182, 0, 238, 167, 0, 8, 42, 3, 182, 0, 238, 172]
abbrev dktX3_blockCount_0 : List UInt8 := dkwX3_blockCount_0 ++ []
theorem dksX3_blockCount_0 : cX3_blockCount.data.toList.drop 0 = dktX3_blockCount_0 := by decide +kernel
theorem dX3_blockCount_0 : decode cX3_blockCount 0 = .ok (.aload_n 0, 1) := dk_42 (dk_at dksX3_blockCount_0 0 rfl rfl)
theorem dX3_blockCount_1 : decode cX3_blockCount 1 = .ok (.getfield 106, 3) := dk_180 0 106 (dk_at dksX3_blockCount_0 1 rfl rfl)
theorem dX3_blockCount_4 : decode cX3_blockCount 4 = .ok (.ifCond .eq 14, 3) := dk_153 0 14 (dk_at dksX3_blockCount_0 4 rfl rfl)
theorem dX3_blockCount_7 : decode cX3_blockCount 7 = .ok (.aload_n 0, 1) := dk_42 (dk_at dksX3_blockCount_0 7 rfl rfl)
theorem dX3_blockCount_8 : decode cX3_blockCount 8 = .ok (.aload_n 0, 1) := dk_42 (dk_at dksX3_blockCount_0 8 rfl rfl)
theorem dX3_blockCount_9 : decode cX3_blockCount 9 = .ok (.invokevirtual 264, 3) := dk_182 1 8 (dk_at dksX3_blockCount_0 9 rfl rfl)
theorem dX3_blockCount_12 : decode cX3_blockCount 12 = .ok (.invokevirtual 238, 3) := dk_182 0 238 (dk_at dksX3_blockCount_0 12 rfl rfl)
theorem dX3_blockCount_15 : decode cX3_blockCount 15 = .ok (.goto 8, 3) := dk_167 0 8 (dk_at dksX3_blockCount_0 15 rfl rfl)
theorem dX3_blockCount_18 : decode cX3_blockCount 18 = .ok (.aload_n 0, 1) := dk_42 (dk_at dksX3_blockCount_0 18 rfl rfl)
theorem dX3_blockCount_19 : decode cX3_blockCount 19 = .ok (.iconst 0, 1) := dk_3 (dk_at dksX3_blockCount_0 19 rfl rfl)
theorem dX3_blockCount_20 : decode cX3_blockCount 20 = .ok (.invokevirtual 238, 3) := dk_182 0 238 (dk_at dksX3_blockCount_0 20 rfl rfl)
theorem dX3_blockCount_23 : decode cX3_blockCount 23 = .ok (.ireturn, 1) := dk_172 (dk_at dksX3_blockCount_0 23 rfl rfl)
abbrev cX3_blocks : ByteArray := prog_12_method_68_code
def yX3_blocks : MethodName := ⟨RX3, "blocks", "()I"⟩
def dkwX3_blocks_1 : List UInt8 := [167, 0, 4, 3, 96, 60, 132, 2, 1, 167, 255, 229, 27, 172]
abbrev dktX3_blocks_1 : List UInt8 := dkwX3_blocks_1 ++ []
def dkwX3_blocks_0 : List UInt8 := [3, 60, 3, 61, 28, 42, 180, 0, 99, 162, 0, 25, 27, 42, 28, 182, 1, 2, 153, 0, 7, 4]
abbrev dktX3_blocks_0 : List UInt8 := dkwX3_blocks_0 ++ dktX3_blocks_1
theorem dksX3_blocks_0 : cX3_blocks.data.toList.drop 0 = dktX3_blocks_0 := by decide +kernel
theorem dksX3_blocks_1 : cX3_blocks.data.toList.drop 22 = dktX3_blocks_1 := dk_seg dksX3_blocks_0 22 rfl rfl
theorem dX3_blocks_0 : decode cX3_blocks 0 = .ok (.iconst 0, 1) := dk_3 (dk_at dksX3_blocks_0 0 rfl rfl)
theorem dX3_blocks_1 : decode cX3_blocks 1 = .ok (.istore_n 1, 1) := dk_60 (dk_at dksX3_blocks_0 1 rfl rfl)
theorem dX3_blocks_2 : decode cX3_blocks 2 = .ok (.iconst 0, 1) := dk_3 (dk_at dksX3_blocks_0 2 rfl rfl)
theorem dX3_blocks_3 : decode cX3_blocks 3 = .ok (.istore_n 2, 1) := dk_61 (dk_at dksX3_blocks_0 3 rfl rfl)
theorem dX3_blocks_4 : decode cX3_blocks 4 = .ok (.iload_n 2, 1) := dk_28 (dk_at dksX3_blocks_0 4 rfl rfl)
theorem dX3_blocks_5 : decode cX3_blocks 5 = .ok (.aload_n 0, 1) := dk_42 (dk_at dksX3_blocks_0 5 rfl rfl)
theorem dX3_blocks_6 : decode cX3_blocks 6 = .ok (.getfield 99, 3) := dk_180 0 99 (dk_at dksX3_blocks_0 6 rfl rfl)
theorem dX3_blocks_9 : decode cX3_blocks 9 = .ok (.if_icmp .ge 25, 3) := dk_162 0 25 (dk_at dksX3_blocks_0 9 rfl rfl)
theorem dX3_blocks_12 : decode cX3_blocks 12 = .ok (.iload_n 1, 1) := dk_27 (dk_at dksX3_blocks_0 12 rfl rfl)
theorem dX3_blocks_13 : decode cX3_blocks 13 = .ok (.aload_n 0, 1) := dk_42 (dk_at dksX3_blocks_0 13 rfl rfl)
theorem dX3_blocks_14 : decode cX3_blocks 14 = .ok (.iload_n 2, 1) := dk_28 (dk_at dksX3_blocks_0 14 rfl rfl)
theorem dX3_blocks_15 : decode cX3_blocks 15 = .ok (.invokevirtual 258, 3) := dk_182 1 2 (dk_at dksX3_blocks_0 15 rfl rfl)
theorem dX3_blocks_18 : decode cX3_blocks 18 = .ok (.ifCond .eq 7, 3) := dk_153 0 7 (dk_at dksX3_blocks_0 18 rfl rfl)
theorem dX3_blocks_21 : decode cX3_blocks 21 = .ok (.iconst 1, 1) := dk_4 (dk_at dksX3_blocks_0 21 rfl rfl)
theorem dX3_blocks_22 : decode cX3_blocks 22 = .ok (.goto 4, 3) := dk_167 0 4 (dk_at dksX3_blocks_1 0 rfl rfl)
theorem dX3_blocks_25 : decode cX3_blocks 25 = .ok (.iconst 0, 1) := dk_3 (dk_at dksX3_blocks_1 3 rfl rfl)
theorem dX3_blocks_26 : decode cX3_blocks 26 = .ok (.iadd, 1) := dk_96 (dk_at dksX3_blocks_1 4 rfl rfl)
theorem dX3_blocks_27 : decode cX3_blocks 27 = .ok (.istore_n 1, 1) := dk_60 (dk_at dksX3_blocks_1 5 rfl rfl)
theorem dX3_blocks_28 : decode cX3_blocks 28 = .ok (.iinc 2 1, 3) := dk_132 2 1 (dk_at dksX3_blocks_1 6 rfl rfl)
theorem dX3_blocks_31 : decode cX3_blocks 31 = .ok (.goto (-27), 3) := dk_167 255 229 (dk_at dksX3_blocks_1 9 rfl rfl)
theorem dX3_blocks_34 : decode cX3_blocks 34 = .ok (.iload_n 1, 1) := dk_27 (dk_at dksX3_blocks_1 12 rfl rfl)
theorem dX3_blocks_35 : decode cX3_blocks 35 = .ok (.ireturn, 1) := dk_172 (dk_at dksX3_blocks_1 13 rfl rfl)
abbrev cX3_isLeader : ByteArray := prog_12_method_67_code
def yX3_isLeader : MethodName := ⟨RX3, "isLeader", "(I)Z"⟩
def dkwX3_isLeader_3 : List UInt8 := [182, 0, 255, 153, 0, 7, 4, 167, 0, 4, 3, 172]
abbrev dktX3_isLeader_3 : List UInt8 := dkwX3_isLeader_3 ++ []
def dkwX3_isLeader_2 : List UInt8 := [182, 0, 252, 154, 0, 27, 28, 155, 0, 27, 28, 42, 180, 0, 32, 28, 46, 96, 27, 160, 0, 15, 42, 28]
abbrev dktX3_isLeader_2 : List UInt8 := dkwX3_isLeader_2 ++ dktX3_isLeader_3
def dkwX3_isLeader_1 : List UInt8 := [167, 0, 4, 2, 61, 42, 27, 182, 0, 134, 154, 0, 44, 42, 27, 3, 182, 0, 248, 154, 0, 35, 42, 27]
abbrev dktX3_isLeader_1 : List UInt8 := dkwX3_isLeader_1 ++ dktX3_isLeader_2
def dkwX3_isLeader_0 : List UInt8 := [42, 180, 0, 32, 27, 46, 154, 0, 5, 3, 172, 27, 158, 0, 14, 42, 180, 0, 35, 27, 4, 100, 46]
abbrev dktX3_isLeader_0 : List UInt8 := dkwX3_isLeader_0 ++ dktX3_isLeader_1
theorem dksX3_isLeader_0 : cX3_isLeader.data.toList.drop 0 = dktX3_isLeader_0 := by decide +kernel
theorem dksX3_isLeader_1 : cX3_isLeader.data.toList.drop 23 = dktX3_isLeader_1 := dk_seg dksX3_isLeader_0 23 rfl rfl
theorem dksX3_isLeader_2 : cX3_isLeader.data.toList.drop 47 = dktX3_isLeader_2 := dk_seg dksX3_isLeader_1 24 rfl rfl
theorem dksX3_isLeader_3 : cX3_isLeader.data.toList.drop 71 = dktX3_isLeader_3 := dk_seg dksX3_isLeader_2 24 rfl rfl
theorem dX3_isLeader_0 : decode cX3_isLeader 0 = .ok (.aload_n 0, 1) := dk_42 (dk_at dksX3_isLeader_0 0 rfl rfl)
theorem dX3_isLeader_1 : decode cX3_isLeader 1 = .ok (.getfield 32, 3) := dk_180 0 32 (dk_at dksX3_isLeader_0 1 rfl rfl)
theorem dX3_isLeader_4 : decode cX3_isLeader 4 = .ok (.iload_n 1, 1) := dk_27 (dk_at dksX3_isLeader_0 4 rfl rfl)
theorem dX3_isLeader_5 : decode cX3_isLeader 5 = .ok (.iaload, 1) := dk_46 (dk_at dksX3_isLeader_0 5 rfl rfl)
theorem dX3_isLeader_6 : decode cX3_isLeader 6 = .ok (.ifCond .ne 5, 3) := dk_154 0 5 (dk_at dksX3_isLeader_0 6 rfl rfl)
theorem dX3_isLeader_9 : decode cX3_isLeader 9 = .ok (.iconst 0, 1) := dk_3 (dk_at dksX3_isLeader_0 9 rfl rfl)
theorem dX3_isLeader_10 : decode cX3_isLeader 10 = .ok (.ireturn, 1) := dk_172 (dk_at dksX3_isLeader_0 10 rfl rfl)
theorem dX3_isLeader_11 : decode cX3_isLeader 11 = .ok (.iload_n 1, 1) := dk_27 (dk_at dksX3_isLeader_0 11 rfl rfl)
theorem dX3_isLeader_12 : decode cX3_isLeader 12 = .ok (.ifCond .le 14, 3) := dk_158 0 14 (dk_at dksX3_isLeader_0 12 rfl rfl)
theorem dX3_isLeader_15 : decode cX3_isLeader 15 = .ok (.aload_n 0, 1) := dk_42 (dk_at dksX3_isLeader_0 15 rfl rfl)
theorem dX3_isLeader_16 : decode cX3_isLeader 16 = .ok (.getfield 35, 3) := dk_180 0 35 (dk_at dksX3_isLeader_0 16 rfl rfl)
theorem dX3_isLeader_19 : decode cX3_isLeader 19 = .ok (.iload_n 1, 1) := dk_27 (dk_at dksX3_isLeader_0 19 rfl rfl)
theorem dX3_isLeader_20 : decode cX3_isLeader 20 = .ok (.iconst 1, 1) := dk_4 (dk_at dksX3_isLeader_0 20 rfl rfl)
theorem dX3_isLeader_21 : decode cX3_isLeader 21 = .ok (.isub, 1) := dk_100 (dk_at dksX3_isLeader_0 21 rfl rfl)
theorem dX3_isLeader_22 : decode cX3_isLeader 22 = .ok (.iaload, 1) := dk_46 (dk_at dksX3_isLeader_0 22 rfl rfl)
theorem dX3_isLeader_23 : decode cX3_isLeader 23 = .ok (.goto 4, 3) := dk_167 0 4 (dk_at dksX3_isLeader_1 0 rfl rfl)
theorem dX3_isLeader_26 : decode cX3_isLeader 26 = .ok (.iconst (-1), 1) := dk_2 (dk_at dksX3_isLeader_1 3 rfl rfl)
theorem dX3_isLeader_27 : decode cX3_isLeader 27 = .ok (.istore_n 2, 1) := dk_61 (dk_at dksX3_isLeader_1 4 rfl rfl)
theorem dX3_isLeader_28 : decode cX3_isLeader 28 = .ok (.aload_n 0, 1) := dk_42 (dk_at dksX3_isLeader_1 5 rfl rfl)
theorem dX3_isLeader_29 : decode cX3_isLeader 29 = .ok (.iload_n 1, 1) := dk_27 (dk_at dksX3_isLeader_1 6 rfl rfl)
theorem dX3_isLeader_30 : decode cX3_isLeader 30 = .ok (.invokevirtual 134, 3) := dk_182 0 134 (dk_at dksX3_isLeader_1 7 rfl rfl)
theorem dX3_isLeader_33 : decode cX3_isLeader 33 = .ok (.ifCond .ne 44, 3) := dk_154 0 44 (dk_at dksX3_isLeader_1 10 rfl rfl)
theorem dX3_isLeader_36 : decode cX3_isLeader 36 = .ok (.aload_n 0, 1) := dk_42 (dk_at dksX3_isLeader_1 13 rfl rfl)
theorem dX3_isLeader_37 : decode cX3_isLeader 37 = .ok (.iload_n 1, 1) := dk_27 (dk_at dksX3_isLeader_1 14 rfl rfl)
theorem dX3_isLeader_38 : decode cX3_isLeader 38 = .ok (.iconst 0, 1) := dk_3 (dk_at dksX3_isLeader_1 15 rfl rfl)
theorem dX3_isLeader_39 : decode cX3_isLeader 39 = .ok (.invokevirtual 248, 3) := dk_182 0 248 (dk_at dksX3_isLeader_1 16 rfl rfl)
theorem dX3_isLeader_42 : decode cX3_isLeader 42 = .ok (.ifCond .ne 35, 3) := dk_154 0 35 (dk_at dksX3_isLeader_1 19 rfl rfl)
theorem dX3_isLeader_45 : decode cX3_isLeader 45 = .ok (.aload_n 0, 1) := dk_42 (dk_at dksX3_isLeader_1 22 rfl rfl)
theorem dX3_isLeader_46 : decode cX3_isLeader 46 = .ok (.iload_n 1, 1) := dk_27 (dk_at dksX3_isLeader_1 23 rfl rfl)
theorem dX3_isLeader_47 : decode cX3_isLeader 47 = .ok (.invokevirtual 252, 3) := dk_182 0 252 (dk_at dksX3_isLeader_2 0 rfl rfl)
theorem dX3_isLeader_50 : decode cX3_isLeader 50 = .ok (.ifCond .ne 27, 3) := dk_154 0 27 (dk_at dksX3_isLeader_2 3 rfl rfl)
theorem dX3_isLeader_53 : decode cX3_isLeader 53 = .ok (.iload_n 2, 1) := dk_28 (dk_at dksX3_isLeader_2 6 rfl rfl)
theorem dX3_isLeader_54 : decode cX3_isLeader 54 = .ok (.ifCond .lt 27, 3) := dk_155 0 27 (dk_at dksX3_isLeader_2 7 rfl rfl)
theorem dX3_isLeader_57 : decode cX3_isLeader 57 = .ok (.iload_n 2, 1) := dk_28 (dk_at dksX3_isLeader_2 10 rfl rfl)
theorem dX3_isLeader_58 : decode cX3_isLeader 58 = .ok (.aload_n 0, 1) := dk_42 (dk_at dksX3_isLeader_2 11 rfl rfl)
theorem dX3_isLeader_59 : decode cX3_isLeader 59 = .ok (.getfield 32, 3) := dk_180 0 32 (dk_at dksX3_isLeader_2 12 rfl rfl)
theorem dX3_isLeader_62 : decode cX3_isLeader 62 = .ok (.iload_n 2, 1) := dk_28 (dk_at dksX3_isLeader_2 15 rfl rfl)
theorem dX3_isLeader_63 : decode cX3_isLeader 63 = .ok (.iaload, 1) := dk_46 (dk_at dksX3_isLeader_2 16 rfl rfl)
theorem dX3_isLeader_64 : decode cX3_isLeader 64 = .ok (.iadd, 1) := dk_96 (dk_at dksX3_isLeader_2 17 rfl rfl)
theorem dX3_isLeader_65 : decode cX3_isLeader 65 = .ok (.iload_n 1, 1) := dk_27 (dk_at dksX3_isLeader_2 18 rfl rfl)
theorem dX3_isLeader_66 : decode cX3_isLeader 66 = .ok (.if_icmp .ne 15, 3) := dk_160 0 15 (dk_at dksX3_isLeader_2 19 rfl rfl)
theorem dX3_isLeader_69 : decode cX3_isLeader 69 = .ok (.aload_n 0, 1) := dk_42 (dk_at dksX3_isLeader_2 22 rfl rfl)
theorem dX3_isLeader_70 : decode cX3_isLeader 70 = .ok (.iload_n 2, 1) := dk_28 (dk_at dksX3_isLeader_2 23 rfl rfl)
theorem dX3_isLeader_71 : decode cX3_isLeader 71 = .ok (.invokevirtual 255, 3) := dk_182 0 255 (dk_at dksX3_isLeader_3 0 rfl rfl)
theorem dX3_isLeader_74 : decode cX3_isLeader 74 = .ok (.ifCond .eq 7, 3) := dk_153 0 7 (dk_at dksX3_isLeader_3 3 rfl rfl)
theorem dX3_isLeader_77 : decode cX3_isLeader 77 = .ok (.iconst 1, 1) := dk_4 (dk_at dksX3_isLeader_3 6 rfl rfl)
theorem dX3_isLeader_78 : decode cX3_isLeader 78 = .ok (.goto 4, 3) := dk_167 0 4 (dk_at dksX3_isLeader_3 7 rfl rfl)
theorem dX3_isLeader_81 : decode cX3_isLeader 81 = .ok (.iconst 0, 1) := dk_3 (dk_at dksX3_isLeader_3 10 rfl rfl)
theorem dX3_isLeader_82 : decode cX3_isLeader 82 = .ok (.ireturn, 1) := dk_172 (dk_at dksX3_isLeader_3 11 rfl rfl)
abbrev cX3_isGoal : ByteArray := prog_12_method_66_code
def yX3_isGoal : MethodName := ⟨RX3, "isGoal", "(IZ)Z"⟩
def dkwX3_isGoal_3 : List UInt8 := [132, 4, 1, 167, 255, 187, 29, 172]
abbrev dktX3_isGoal_3 : List UInt8 := dkwX3_isGoal_3 ++ []
def dkwX3_isGoal_2 : List UInt8 := [21, 4, 182, 0, 146, 153, 0, 17, 42, 21, 4, 182, 0, 149, 27, 160, 0, 7, 4, 167, 0, 4, 3, 62]
abbrev dktX3_isGoal_2 : List UInt8 := dkwX3_isGoal_2 ++ dktX3_isGoal_3
def dkwX3_isGoal_1 : List UInt8 := [46, 158, 0, 44, 28, 153, 0, 17, 42, 21, 4, 182, 0, 140, 16, 7, 160, 0, 29, 167, 0, 12, 42]
abbrev dktX3_isGoal_1 : List UInt8 := dkwX3_isGoal_1 ++ dktX3_isGoal_2
def dkwX3_isGoal_0 : List UInt8 := [3, 62, 3, 54, 4, 21, 4, 42, 180, 0, 99, 162, 0, 66, 29, 154, 0, 50, 42, 180, 0, 32, 21, 4]
abbrev dktX3_isGoal_0 : List UInt8 := dkwX3_isGoal_0 ++ dktX3_isGoal_1
theorem dksX3_isGoal_0 : cX3_isGoal.data.toList.drop 0 = dktX3_isGoal_0 := by decide +kernel
theorem dksX3_isGoal_1 : cX3_isGoal.data.toList.drop 24 = dktX3_isGoal_1 := dk_seg dksX3_isGoal_0 24 rfl rfl
theorem dksX3_isGoal_2 : cX3_isGoal.data.toList.drop 47 = dktX3_isGoal_2 := dk_seg dksX3_isGoal_1 23 rfl rfl
theorem dksX3_isGoal_3 : cX3_isGoal.data.toList.drop 71 = dktX3_isGoal_3 := dk_seg dksX3_isGoal_2 24 rfl rfl
theorem dX3_isGoal_0 : decode cX3_isGoal 0 = .ok (.iconst 0, 1) := dk_3 (dk_at dksX3_isGoal_0 0 rfl rfl)
theorem dX3_isGoal_1 : decode cX3_isGoal 1 = .ok (.istore_n 3, 1) := dk_62 (dk_at dksX3_isGoal_0 1 rfl rfl)
theorem dX3_isGoal_2 : decode cX3_isGoal 2 = .ok (.iconst 0, 1) := dk_3 (dk_at dksX3_isGoal_0 2 rfl rfl)
theorem dX3_isGoal_3 : decode cX3_isGoal 3 = .ok (.istore 4, 2) := dk_54 4 (dk_at dksX3_isGoal_0 3 rfl rfl)
theorem dX3_isGoal_5 : decode cX3_isGoal 5 = .ok (.iload 4, 2) := dk_21 4 (dk_at dksX3_isGoal_0 5 rfl rfl)
theorem dX3_isGoal_7 : decode cX3_isGoal 7 = .ok (.aload_n 0, 1) := dk_42 (dk_at dksX3_isGoal_0 7 rfl rfl)
theorem dX3_isGoal_8 : decode cX3_isGoal 8 = .ok (.getfield 99, 3) := dk_180 0 99 (dk_at dksX3_isGoal_0 8 rfl rfl)
theorem dX3_isGoal_11 : decode cX3_isGoal 11 = .ok (.if_icmp .ge 66, 3) := dk_162 0 66 (dk_at dksX3_isGoal_0 11 rfl rfl)
theorem dX3_isGoal_14 : decode cX3_isGoal 14 = .ok (.iload_n 3, 1) := dk_29 (dk_at dksX3_isGoal_0 14 rfl rfl)
theorem dX3_isGoal_15 : decode cX3_isGoal 15 = .ok (.ifCond .ne 50, 3) := dk_154 0 50 (dk_at dksX3_isGoal_0 15 rfl rfl)
theorem dX3_isGoal_18 : decode cX3_isGoal 18 = .ok (.aload_n 0, 1) := dk_42 (dk_at dksX3_isGoal_0 18 rfl rfl)
theorem dX3_isGoal_19 : decode cX3_isGoal 19 = .ok (.getfield 32, 3) := dk_180 0 32 (dk_at dksX3_isGoal_0 19 rfl rfl)
theorem dX3_isGoal_22 : decode cX3_isGoal 22 = .ok (.iload 4, 2) := dk_21 4 (dk_at dksX3_isGoal_0 22 rfl rfl)
theorem dX3_isGoal_24 : decode cX3_isGoal 24 = .ok (.iaload, 1) := dk_46 (dk_at dksX3_isGoal_1 0 rfl rfl)
theorem dX3_isGoal_25 : decode cX3_isGoal 25 = .ok (.ifCond .le 44, 3) := dk_158 0 44 (dk_at dksX3_isGoal_1 1 rfl rfl)
theorem dX3_isGoal_28 : decode cX3_isGoal 28 = .ok (.iload_n 2, 1) := dk_28 (dk_at dksX3_isGoal_1 4 rfl rfl)
theorem dX3_isGoal_29 : decode cX3_isGoal 29 = .ok (.ifCond .eq 17, 3) := dk_153 0 17 (dk_at dksX3_isGoal_1 5 rfl rfl)
theorem dX3_isGoal_32 : decode cX3_isGoal 32 = .ok (.aload_n 0, 1) := dk_42 (dk_at dksX3_isGoal_1 8 rfl rfl)
theorem dX3_isGoal_33 : decode cX3_isGoal 33 = .ok (.iload 4, 2) := dk_21 4 (dk_at dksX3_isGoal_1 9 rfl rfl)
theorem dX3_isGoal_35 : decode cX3_isGoal 35 = .ok (.invokevirtual 140, 3) := dk_182 0 140 (dk_at dksX3_isGoal_1 11 rfl rfl)
theorem dX3_isGoal_38 : decode cX3_isGoal 38 = .ok (.bipush 7, 2) := dk_16 7 (dk_at dksX3_isGoal_1 14 rfl rfl)
theorem dX3_isGoal_40 : decode cX3_isGoal 40 = .ok (.if_icmp .ne 29, 3) := dk_160 0 29 (dk_at dksX3_isGoal_1 16 rfl rfl)
theorem dX3_isGoal_43 : decode cX3_isGoal 43 = .ok (.goto 12, 3) := dk_167 0 12 (dk_at dksX3_isGoal_1 19 rfl rfl)
theorem dX3_isGoal_46 : decode cX3_isGoal 46 = .ok (.aload_n 0, 1) := dk_42 (dk_at dksX3_isGoal_1 22 rfl rfl)
theorem dX3_isGoal_47 : decode cX3_isGoal 47 = .ok (.iload 4, 2) := dk_21 4 (dk_at dksX3_isGoal_2 0 rfl rfl)
theorem dX3_isGoal_49 : decode cX3_isGoal 49 = .ok (.invokevirtual 146, 3) := dk_182 0 146 (dk_at dksX3_isGoal_2 2 rfl rfl)
theorem dX3_isGoal_52 : decode cX3_isGoal 52 = .ok (.ifCond .eq 17, 3) := dk_153 0 17 (dk_at dksX3_isGoal_2 5 rfl rfl)
theorem dX3_isGoal_55 : decode cX3_isGoal 55 = .ok (.aload_n 0, 1) := dk_42 (dk_at dksX3_isGoal_2 8 rfl rfl)
theorem dX3_isGoal_56 : decode cX3_isGoal 56 = .ok (.iload 4, 2) := dk_21 4 (dk_at dksX3_isGoal_2 9 rfl rfl)
theorem dX3_isGoal_58 : decode cX3_isGoal 58 = .ok (.invokevirtual 149, 3) := dk_182 0 149 (dk_at dksX3_isGoal_2 11 rfl rfl)
theorem dX3_isGoal_61 : decode cX3_isGoal 61 = .ok (.iload_n 1, 1) := dk_27 (dk_at dksX3_isGoal_2 14 rfl rfl)
theorem dX3_isGoal_62 : decode cX3_isGoal 62 = .ok (.if_icmp .ne 7, 3) := dk_160 0 7 (dk_at dksX3_isGoal_2 15 rfl rfl)
theorem dX3_isGoal_65 : decode cX3_isGoal 65 = .ok (.iconst 1, 1) := dk_4 (dk_at dksX3_isGoal_2 18 rfl rfl)
theorem dX3_isGoal_66 : decode cX3_isGoal 66 = .ok (.goto 4, 3) := dk_167 0 4 (dk_at dksX3_isGoal_2 19 rfl rfl)
theorem dX3_isGoal_69 : decode cX3_isGoal 69 = .ok (.iconst 0, 1) := dk_3 (dk_at dksX3_isGoal_2 22 rfl rfl)
theorem dX3_isGoal_70 : decode cX3_isGoal 70 = .ok (.istore_n 3, 1) := dk_62 (dk_at dksX3_isGoal_2 23 rfl rfl)
theorem dX3_isGoal_71 : decode cX3_isGoal 71 = .ok (.iinc 4 1, 3) := dk_132 4 1 (dk_at dksX3_isGoal_3 0 rfl rfl)
theorem dX3_isGoal_74 : decode cX3_isGoal 74 = .ok (.goto (-69), 3) := dk_167 255 187 (dk_at dksX3_isGoal_3 3 rfl rfl)
theorem dX3_isGoal_77 : decode cX3_isGoal 77 = .ok (.iload_n 3, 1) := dk_29 (dk_at dksX3_isGoal_3 6 rfl rfl)
theorem dX3_isGoal_78 : decode cX3_isGoal 78 = .ok (.ireturn, 1) := dk_172 (dk_at dksX3_isGoal_3 7 rfl rfl)
abbrev cX3_isTableGoal : ByteArray := prog_12_method_65_code
def yX3_isTableGoal : MethodName := ⟨RX3, "isTableGoal", "(I)Z"⟩
def dkwX3_isTableGoal_2 : List UInt8 := [27, 160, 0, 7, 4, 167, 0, 4, 3, 61, 132, 4, 1, 167, 255, 211, 132, 3, 1, 167, 255, 194, 28, 172]
abbrev dktX3_isTableGoal_2 : List UInt8 := dkwX3_isTableGoal_2 ++ []
def dkwX3_isTableGoal_1 : List UInt8 := [162, 0, 40, 28, 154, 0, 24, 42, 180, 0, 9, 42, 180, 0, 69, 16, 16, 29, 104, 21, 4, 96, 46, 46]
abbrev dktX3_isTableGoal_1 : List UInt8 := dkwX3_isTableGoal_1 ++ dktX3_isTableGoal_2
def dkwX3_isTableGoal_0 : List UInt8 := [3, 61, 3, 62, 29, 42, 180, 0, 202, 162, 0, 60, 3, 54, 4, 21, 4, 42, 180, 0, 66, 29, 46]
abbrev dktX3_isTableGoal_0 : List UInt8 := dkwX3_isTableGoal_0 ++ dktX3_isTableGoal_1
theorem dksX3_isTableGoal_0 : cX3_isTableGoal.data.toList.drop 0 = dktX3_isTableGoal_0 := by decide +kernel
theorem dksX3_isTableGoal_1 : cX3_isTableGoal.data.toList.drop 23 = dktX3_isTableGoal_1 := dk_seg dksX3_isTableGoal_0 23 rfl rfl
theorem dksX3_isTableGoal_2 : cX3_isTableGoal.data.toList.drop 47 = dktX3_isTableGoal_2 := dk_seg dksX3_isTableGoal_1 24 rfl rfl
theorem dX3_isTableGoal_0 : decode cX3_isTableGoal 0 = .ok (.iconst 0, 1) := dk_3 (dk_at dksX3_isTableGoal_0 0 rfl rfl)
theorem dX3_isTableGoal_1 : decode cX3_isTableGoal 1 = .ok (.istore_n 2, 1) := dk_61 (dk_at dksX3_isTableGoal_0 1 rfl rfl)
theorem dX3_isTableGoal_2 : decode cX3_isTableGoal 2 = .ok (.iconst 0, 1) := dk_3 (dk_at dksX3_isTableGoal_0 2 rfl rfl)
theorem dX3_isTableGoal_3 : decode cX3_isTableGoal 3 = .ok (.istore_n 3, 1) := dk_62 (dk_at dksX3_isTableGoal_0 3 rfl rfl)
theorem dX3_isTableGoal_4 : decode cX3_isTableGoal 4 = .ok (.iload_n 3, 1) := dk_29 (dk_at dksX3_isTableGoal_0 4 rfl rfl)
theorem dX3_isTableGoal_5 : decode cX3_isTableGoal 5 = .ok (.aload_n 0, 1) := dk_42 (dk_at dksX3_isTableGoal_0 5 rfl rfl)
theorem dX3_isTableGoal_6 : decode cX3_isTableGoal 6 = .ok (.getfield 202, 3) := dk_180 0 202 (dk_at dksX3_isTableGoal_0 6 rfl rfl)
theorem dX3_isTableGoal_9 : decode cX3_isTableGoal 9 = .ok (.if_icmp .ge 60, 3) := dk_162 0 60 (dk_at dksX3_isTableGoal_0 9 rfl rfl)
theorem dX3_isTableGoal_12 : decode cX3_isTableGoal 12 = .ok (.iconst 0, 1) := dk_3 (dk_at dksX3_isTableGoal_0 12 rfl rfl)
theorem dX3_isTableGoal_13 : decode cX3_isTableGoal 13 = .ok (.istore 4, 2) := dk_54 4 (dk_at dksX3_isTableGoal_0 13 rfl rfl)
theorem dX3_isTableGoal_15 : decode cX3_isTableGoal 15 = .ok (.iload 4, 2) := dk_21 4 (dk_at dksX3_isTableGoal_0 15 rfl rfl)
theorem dX3_isTableGoal_17 : decode cX3_isTableGoal 17 = .ok (.aload_n 0, 1) := dk_42 (dk_at dksX3_isTableGoal_0 17 rfl rfl)
theorem dX3_isTableGoal_18 : decode cX3_isTableGoal 18 = .ok (.getfield 66, 3) := dk_180 0 66 (dk_at dksX3_isTableGoal_0 18 rfl rfl)
theorem dX3_isTableGoal_21 : decode cX3_isTableGoal 21 = .ok (.iload_n 3, 1) := dk_29 (dk_at dksX3_isTableGoal_0 21 rfl rfl)
theorem dX3_isTableGoal_22 : decode cX3_isTableGoal 22 = .ok (.iaload, 1) := dk_46 (dk_at dksX3_isTableGoal_0 22 rfl rfl)
theorem dX3_isTableGoal_23 : decode cX3_isTableGoal 23 = .ok (.if_icmp .ge 40, 3) := dk_162 0 40 (dk_at dksX3_isTableGoal_1 0 rfl rfl)
theorem dX3_isTableGoal_26 : decode cX3_isTableGoal 26 = .ok (.iload_n 2, 1) := dk_28 (dk_at dksX3_isTableGoal_1 3 rfl rfl)
theorem dX3_isTableGoal_27 : decode cX3_isTableGoal 27 = .ok (.ifCond .ne 24, 3) := dk_154 0 24 (dk_at dksX3_isTableGoal_1 4 rfl rfl)
theorem dX3_isTableGoal_30 : decode cX3_isTableGoal 30 = .ok (.aload_n 0, 1) := dk_42 (dk_at dksX3_isTableGoal_1 7 rfl rfl)
theorem dX3_isTableGoal_31 : decode cX3_isTableGoal 31 = .ok (.getfield 9, 3) := dk_180 0 9 (dk_at dksX3_isTableGoal_1 8 rfl rfl)
theorem dX3_isTableGoal_34 : decode cX3_isTableGoal 34 = .ok (.aload_n 0, 1) := dk_42 (dk_at dksX3_isTableGoal_1 11 rfl rfl)
theorem dX3_isTableGoal_35 : decode cX3_isTableGoal 35 = .ok (.getfield 69, 3) := dk_180 0 69 (dk_at dksX3_isTableGoal_1 12 rfl rfl)
theorem dX3_isTableGoal_38 : decode cX3_isTableGoal 38 = .ok (.bipush 16, 2) := dk_16 16 (dk_at dksX3_isTableGoal_1 15 rfl rfl)
theorem dX3_isTableGoal_40 : decode cX3_isTableGoal 40 = .ok (.iload_n 3, 1) := dk_29 (dk_at dksX3_isTableGoal_1 17 rfl rfl)
theorem dX3_isTableGoal_41 : decode cX3_isTableGoal 41 = .ok (.imul, 1) := dk_104 (dk_at dksX3_isTableGoal_1 18 rfl rfl)
theorem dX3_isTableGoal_42 : decode cX3_isTableGoal 42 = .ok (.iload 4, 2) := dk_21 4 (dk_at dksX3_isTableGoal_1 19 rfl rfl)
theorem dX3_isTableGoal_44 : decode cX3_isTableGoal 44 = .ok (.iadd, 1) := dk_96 (dk_at dksX3_isTableGoal_1 21 rfl rfl)
theorem dX3_isTableGoal_45 : decode cX3_isTableGoal 45 = .ok (.iaload, 1) := dk_46 (dk_at dksX3_isTableGoal_1 22 rfl rfl)
theorem dX3_isTableGoal_46 : decode cX3_isTableGoal 46 = .ok (.iaload, 1) := dk_46 (dk_at dksX3_isTableGoal_1 23 rfl rfl)
theorem dX3_isTableGoal_47 : decode cX3_isTableGoal 47 = .ok (.iload_n 1, 1) := dk_27 (dk_at dksX3_isTableGoal_2 0 rfl rfl)
theorem dX3_isTableGoal_48 : decode cX3_isTableGoal 48 = .ok (.if_icmp .ne 7, 3) := dk_160 0 7 (dk_at dksX3_isTableGoal_2 1 rfl rfl)
theorem dX3_isTableGoal_51 : decode cX3_isTableGoal 51 = .ok (.iconst 1, 1) := dk_4 (dk_at dksX3_isTableGoal_2 4 rfl rfl)
theorem dX3_isTableGoal_52 : decode cX3_isTableGoal 52 = .ok (.goto 4, 3) := dk_167 0 4 (dk_at dksX3_isTableGoal_2 5 rfl rfl)
theorem dX3_isTableGoal_55 : decode cX3_isTableGoal 55 = .ok (.iconst 0, 1) := dk_3 (dk_at dksX3_isTableGoal_2 8 rfl rfl)
theorem dX3_isTableGoal_56 : decode cX3_isTableGoal 56 = .ok (.istore_n 2, 1) := dk_61 (dk_at dksX3_isTableGoal_2 9 rfl rfl)
theorem dX3_isTableGoal_57 : decode cX3_isTableGoal 57 = .ok (.iinc 4 1, 3) := dk_132 4 1 (dk_at dksX3_isTableGoal_2 10 rfl rfl)
theorem dX3_isTableGoal_60 : decode cX3_isTableGoal 60 = .ok (.goto (-45), 3) := dk_167 255 211 (dk_at dksX3_isTableGoal_2 13 rfl rfl)
theorem dX3_isTableGoal_63 : decode cX3_isTableGoal 63 = .ok (.iinc 3 1, 3) := dk_132 3 1 (dk_at dksX3_isTableGoal_2 16 rfl rfl)
theorem dX3_isTableGoal_66 : decode cX3_isTableGoal 66 = .ok (.goto (-62), 3) := dk_167 255 194 (dk_at dksX3_isTableGoal_2 19 rfl rfl)
theorem dX3_isTableGoal_69 : decode cX3_isTableGoal 69 = .ok (.iload_n 2, 1) := dk_28 (dk_at dksX3_isTableGoal_2 22 rfl rfl)
theorem dX3_isTableGoal_70 : decode cX3_isTableGoal 70 = .ok (.ireturn, 1) := dk_172 (dk_at dksX3_isTableGoal_2 23 rfl rfl)
abbrev cX3_endsBlock : ByteArray := prog_12_method_28_code
def yX3_endsBlock : MethodName := ⟨RX3, "endsBlock", "(I)Z"⟩
def dkwX3_endsBlock_1 : List UInt8 := [160, 0, 7, 4, 167, 0, 4, 3, 172]
abbrev dktX3_endsBlock_1 : List UInt8 := dkwX3_endsBlock_1 ++ []
def dkwX3_endsBlock_0 : List UInt8 := [42, 27, 182, 0, 152, 154, 0, 22, 42, 27, 182, 0, 140, 8, 159, 0, 13, 42, 27, 182, 0, 140, 16, 6]
abbrev dktX3_endsBlock_0 : List UInt8 := dkwX3_endsBlock_0 ++ dktX3_endsBlock_1
theorem dksX3_endsBlock_0 : cX3_endsBlock.data.toList.drop 0 = dktX3_endsBlock_0 := by decide +kernel
theorem dksX3_endsBlock_1 : cX3_endsBlock.data.toList.drop 24 = dktX3_endsBlock_1 := dk_seg dksX3_endsBlock_0 24 rfl rfl
theorem dX3_endsBlock_0 : decode cX3_endsBlock 0 = .ok (.aload_n 0, 1) := dk_42 (dk_at dksX3_endsBlock_0 0 rfl rfl)
theorem dX3_endsBlock_1 : decode cX3_endsBlock 1 = .ok (.iload_n 1, 1) := dk_27 (dk_at dksX3_endsBlock_0 1 rfl rfl)
theorem dX3_endsBlock_2 : decode cX3_endsBlock 2 = .ok (.invokevirtual 152, 3) := dk_182 0 152 (dk_at dksX3_endsBlock_0 2 rfl rfl)
theorem dX3_endsBlock_5 : decode cX3_endsBlock 5 = .ok (.ifCond .ne 22, 3) := dk_154 0 22 (dk_at dksX3_endsBlock_0 5 rfl rfl)
theorem dX3_endsBlock_8 : decode cX3_endsBlock 8 = .ok (.aload_n 0, 1) := dk_42 (dk_at dksX3_endsBlock_0 8 rfl rfl)
theorem dX3_endsBlock_9 : decode cX3_endsBlock 9 = .ok (.iload_n 1, 1) := dk_27 (dk_at dksX3_endsBlock_0 9 rfl rfl)
theorem dX3_endsBlock_10 : decode cX3_endsBlock 10 = .ok (.invokevirtual 140, 3) := dk_182 0 140 (dk_at dksX3_endsBlock_0 10 rfl rfl)
theorem dX3_endsBlock_13 : decode cX3_endsBlock 13 = .ok (.iconst 5, 1) := dk_8 (dk_at dksX3_endsBlock_0 13 rfl rfl)
theorem dX3_endsBlock_14 : decode cX3_endsBlock 14 = .ok (.if_icmp .eq 13, 3) := dk_159 0 13 (dk_at dksX3_endsBlock_0 14 rfl rfl)
theorem dX3_endsBlock_17 : decode cX3_endsBlock 17 = .ok (.aload_n 0, 1) := dk_42 (dk_at dksX3_endsBlock_0 17 rfl rfl)
theorem dX3_endsBlock_18 : decode cX3_endsBlock 18 = .ok (.iload_n 1, 1) := dk_27 (dk_at dksX3_endsBlock_0 18 rfl rfl)
theorem dX3_endsBlock_19 : decode cX3_endsBlock 19 = .ok (.invokevirtual 140, 3) := dk_182 0 140 (dk_at dksX3_endsBlock_0 19 rfl rfl)
theorem dX3_endsBlock_22 : decode cX3_endsBlock 22 = .ok (.bipush 6, 2) := dk_16 6 (dk_at dksX3_endsBlock_0 22 rfl rfl)
theorem dX3_endsBlock_24 : decode cX3_endsBlock 24 = .ok (.if_icmp .ne 7, 3) := dk_160 0 7 (dk_at dksX3_endsBlock_1 0 rfl rfl)
theorem dX3_endsBlock_27 : decode cX3_endsBlock 27 = .ok (.iconst 1, 1) := dk_4 (dk_at dksX3_endsBlock_1 3 rfl rfl)
theorem dX3_endsBlock_28 : decode cX3_endsBlock 28 = .ok (.goto 4, 3) := dk_167 0 4 (dk_at dksX3_endsBlock_1 4 rfl rfl)
theorem dX3_endsBlock_31 : decode cX3_endsBlock 31 = .ok (.iconst 0, 1) := dk_3 (dk_at dksX3_endsBlock_1 7 rfl rfl)
theorem dX3_endsBlock_32 : decode cX3_endsBlock 32 = .ok (.ireturn, 1) := dk_172 (dk_at dksX3_endsBlock_1 8 rfl rfl)
abbrev cX3_block : ByteArray := prog_12_method_71_code
def yX3_block : MethodName := ⟨RX3, "block", "(II)I"⟩
def dkwX3_block_5 : List UInt8 := [42, 180, 1, 5, 172]
abbrev dktX3_block_5 : List UInt8 := dkwX3_block_5 ++ []
def dkwX3_block_4 : List UInt8 := [182, 1, 12, 54, 5, 28, 154, 0, 8, 21, 4, 167, 0, 17, 28, 4, 160, 0, 8, 21, 5, 167, 0, 7]
abbrev dktX3_block_4 : List UInt8 := dkwX3_block_4 ++ dktX3_block_5
def dkwX3_block_3 : List UInt8 := [21, 4, 182, 1, 2, 153, 0, 7, 4, 167, 0, 4, 3, 100, 62, 132, 4, 1, 167, 255, 223, 42, 21, 4]
abbrev dktX3_block_3 : List UInt8 := dkwX3_block_3 ++ dktX3_block_4
def dkwX3_block_2 : List UInt8 := [182, 0, 113, 172, 27, 62, 3, 54, 4, 42, 21, 4, 182, 1, 2, 153, 0, 7, 29, 158, 0, 26, 29, 42]
abbrev dktX3_block_2 : List UInt8 := dkwX3_block_2 ++ dktX3_block_3
def dkwX3_block_1 : List UInt8 := [167, 0, 4, 3, 182, 0, 241, 158, 0, 5, 3, 172, 28, 3, 5, 184, 0, 102, 154, 0, 9, 42, 6]
abbrev dktX3_block_1 : List UInt8 := dkwX3_block_1 ++ dktX3_block_2
def dkwX3_block_0 : List UInt8 := [42, 42, 180, 0, 106, 153, 0, 21, 27, 3, 42, 182, 1, 8, 4, 100, 184, 0, 102, 153, 0, 7, 4]
abbrev dktX3_block_0 : List UInt8 := dkwX3_block_0 ++ dktX3_block_1
theorem dksX3_block_0 : cX3_block.data.toList.drop 0 = dktX3_block_0 := by decide +kernel
theorem dksX3_block_1 : cX3_block.data.toList.drop 23 = dktX3_block_1 := dk_seg dksX3_block_0 23 rfl rfl
theorem dksX3_block_2 : cX3_block.data.toList.drop 46 = dktX3_block_2 := dk_seg dksX3_block_1 23 rfl rfl
theorem dksX3_block_3 : cX3_block.data.toList.drop 70 = dktX3_block_3 := dk_seg dksX3_block_2 24 rfl rfl
theorem dksX3_block_4 : cX3_block.data.toList.drop 94 = dktX3_block_4 := dk_seg dksX3_block_3 24 rfl rfl
theorem dksX3_block_5 : cX3_block.data.toList.drop 118 = dktX3_block_5 := dk_seg dksX3_block_4 24 rfl rfl
theorem dX3_block_0 : decode cX3_block 0 = .ok (.aload_n 0, 1) := dk_42 (dk_at dksX3_block_0 0 rfl rfl)
theorem dX3_block_1 : decode cX3_block 1 = .ok (.aload_n 0, 1) := dk_42 (dk_at dksX3_block_0 1 rfl rfl)
theorem dX3_block_2 : decode cX3_block 2 = .ok (.getfield 106, 3) := dk_180 0 106 (dk_at dksX3_block_0 2 rfl rfl)
theorem dX3_block_5 : decode cX3_block 5 = .ok (.ifCond .eq 21, 3) := dk_153 0 21 (dk_at dksX3_block_0 5 rfl rfl)
theorem dX3_block_8 : decode cX3_block 8 = .ok (.iload_n 1, 1) := dk_27 (dk_at dksX3_block_0 8 rfl rfl)
theorem dX3_block_9 : decode cX3_block 9 = .ok (.iconst 0, 1) := dk_3 (dk_at dksX3_block_0 9 rfl rfl)
theorem dX3_block_10 : decode cX3_block 10 = .ok (.aload_n 0, 1) := dk_42 (dk_at dksX3_block_0 10 rfl rfl)
theorem dX3_block_11 : decode cX3_block 11 = .ok (.invokevirtual 264, 3) := dk_182 1 8 (dk_at dksX3_block_0 11 rfl rfl)
theorem dX3_block_14 : decode cX3_block 14 = .ok (.iconst 1, 1) := dk_4 (dk_at dksX3_block_0 14 rfl rfl)
theorem dX3_block_15 : decode cX3_block 15 = .ok (.isub, 1) := dk_100 (dk_at dksX3_block_0 15 rfl rfl)
theorem dX3_block_16 : decode cX3_block 16 = .ok (.invokestatic 102, 3) := dk_184 0 102 (dk_at dksX3_block_0 16 rfl rfl)
theorem dX3_block_19 : decode cX3_block 19 = .ok (.ifCond .eq 7, 3) := dk_153 0 7 (dk_at dksX3_block_0 19 rfl rfl)
theorem dX3_block_22 : decode cX3_block 22 = .ok (.iconst 1, 1) := dk_4 (dk_at dksX3_block_0 22 rfl rfl)
theorem dX3_block_23 : decode cX3_block 23 = .ok (.goto 4, 3) := dk_167 0 4 (dk_at dksX3_block_1 0 rfl rfl)
theorem dX3_block_26 : decode cX3_block 26 = .ok (.iconst 0, 1) := dk_3 (dk_at dksX3_block_1 3 rfl rfl)
theorem dX3_block_27 : decode cX3_block 27 = .ok (.invokevirtual 241, 3) := dk_182 0 241 (dk_at dksX3_block_1 4 rfl rfl)
theorem dX3_block_30 : decode cX3_block 30 = .ok (.ifCond .le 5, 3) := dk_158 0 5 (dk_at dksX3_block_1 7 rfl rfl)
theorem dX3_block_33 : decode cX3_block 33 = .ok (.iconst 0, 1) := dk_3 (dk_at dksX3_block_1 10 rfl rfl)
theorem dX3_block_34 : decode cX3_block 34 = .ok (.ireturn, 1) := dk_172 (dk_at dksX3_block_1 11 rfl rfl)
theorem dX3_block_35 : decode cX3_block 35 = .ok (.iload_n 2, 1) := dk_28 (dk_at dksX3_block_1 12 rfl rfl)
theorem dX3_block_36 : decode cX3_block 36 = .ok (.iconst 0, 1) := dk_3 (dk_at dksX3_block_1 13 rfl rfl)
theorem dX3_block_37 : decode cX3_block 37 = .ok (.iconst 2, 1) := dk_5 (dk_at dksX3_block_1 14 rfl rfl)
theorem dX3_block_38 : decode cX3_block 38 = .ok (.invokestatic 102, 3) := dk_184 0 102 (dk_at dksX3_block_1 15 rfl rfl)
theorem dX3_block_41 : decode cX3_block 41 = .ok (.ifCond .ne 9, 3) := dk_154 0 9 (dk_at dksX3_block_1 18 rfl rfl)
theorem dX3_block_44 : decode cX3_block 44 = .ok (.aload_n 0, 1) := dk_42 (dk_at dksX3_block_1 21 rfl rfl)
theorem dX3_block_45 : decode cX3_block 45 = .ok (.iconst 3, 1) := dk_6 (dk_at dksX3_block_1 22 rfl rfl)
theorem dX3_block_46 : decode cX3_block 46 = .ok (.invokevirtual 113, 3) := dk_182 0 113 (dk_at dksX3_block_2 0 rfl rfl)
theorem dX3_block_49 : decode cX3_block 49 = .ok (.ireturn, 1) := dk_172 (dk_at dksX3_block_2 3 rfl rfl)
theorem dX3_block_50 : decode cX3_block 50 = .ok (.iload_n 1, 1) := dk_27 (dk_at dksX3_block_2 4 rfl rfl)
theorem dX3_block_51 : decode cX3_block 51 = .ok (.istore_n 3, 1) := dk_62 (dk_at dksX3_block_2 5 rfl rfl)
theorem dX3_block_52 : decode cX3_block 52 = .ok (.iconst 0, 1) := dk_3 (dk_at dksX3_block_2 6 rfl rfl)
theorem dX3_block_53 : decode cX3_block 53 = .ok (.istore 4, 2) := dk_54 4 (dk_at dksX3_block_2 7 rfl rfl)
theorem dX3_block_55 : decode cX3_block 55 = .ok (.aload_n 0, 1) := dk_42 (dk_at dksX3_block_2 9 rfl rfl)
theorem dX3_block_56 : decode cX3_block 56 = .ok (.iload 4, 2) := dk_21 4 (dk_at dksX3_block_2 10 rfl rfl)
theorem dX3_block_58 : decode cX3_block 58 = .ok (.invokevirtual 258, 3) := dk_182 1 2 (dk_at dksX3_block_2 12 rfl rfl)
theorem dX3_block_61 : decode cX3_block 61 = .ok (.ifCond .eq 7, 3) := dk_153 0 7 (dk_at dksX3_block_2 15 rfl rfl)
theorem dX3_block_64 : decode cX3_block 64 = .ok (.iload_n 3, 1) := dk_29 (dk_at dksX3_block_2 18 rfl rfl)
theorem dX3_block_65 : decode cX3_block 65 = .ok (.ifCond .le 26, 3) := dk_158 0 26 (dk_at dksX3_block_2 19 rfl rfl)
theorem dX3_block_68 : decode cX3_block 68 = .ok (.iload_n 3, 1) := dk_29 (dk_at dksX3_block_2 22 rfl rfl)
theorem dX3_block_69 : decode cX3_block 69 = .ok (.aload_n 0, 1) := dk_42 (dk_at dksX3_block_2 23 rfl rfl)
theorem dX3_block_70 : decode cX3_block 70 = .ok (.iload 4, 2) := dk_21 4 (dk_at dksX3_block_3 0 rfl rfl)
theorem dX3_block_72 : decode cX3_block 72 = .ok (.invokevirtual 258, 3) := dk_182 1 2 (dk_at dksX3_block_3 2 rfl rfl)
theorem dX3_block_75 : decode cX3_block 75 = .ok (.ifCond .eq 7, 3) := dk_153 0 7 (dk_at dksX3_block_3 5 rfl rfl)
theorem dX3_block_78 : decode cX3_block 78 = .ok (.iconst 1, 1) := dk_4 (dk_at dksX3_block_3 8 rfl rfl)
theorem dX3_block_79 : decode cX3_block 79 = .ok (.goto 4, 3) := dk_167 0 4 (dk_at dksX3_block_3 9 rfl rfl)
theorem dX3_block_82 : decode cX3_block 82 = .ok (.iconst 0, 1) := dk_3 (dk_at dksX3_block_3 12 rfl rfl)
theorem dX3_block_83 : decode cX3_block 83 = .ok (.isub, 1) := dk_100 (dk_at dksX3_block_3 13 rfl rfl)
theorem dX3_block_84 : decode cX3_block 84 = .ok (.istore_n 3, 1) := dk_62 (dk_at dksX3_block_3 14 rfl rfl)
theorem dX3_block_85 : decode cX3_block 85 = .ok (.iinc 4 1, 3) := dk_132 4 1 (dk_at dksX3_block_3 15 rfl rfl)
theorem dX3_block_88 : decode cX3_block 88 = .ok (.goto (-33), 3) := dk_167 255 223 (dk_at dksX3_block_3 18 rfl rfl)
theorem dX3_block_91 : decode cX3_block 91 = .ok (.aload_n 0, 1) := dk_42 (dk_at dksX3_block_3 21 rfl rfl)
theorem dX3_block_92 : decode cX3_block 92 = .ok (.iload 4, 2) := dk_21 4 (dk_at dksX3_block_3 22 rfl rfl)
theorem dX3_block_94 : decode cX3_block 94 = .ok (.invokevirtual 268, 3) := dk_182 1 12 (dk_at dksX3_block_4 0 rfl rfl)
theorem dX3_block_97 : decode cX3_block 97 = .ok (.istore 5, 2) := dk_54 5 (dk_at dksX3_block_4 3 rfl rfl)
theorem dX3_block_99 : decode cX3_block 99 = .ok (.iload_n 2, 1) := dk_28 (dk_at dksX3_block_4 5 rfl rfl)
theorem dX3_block_100 : decode cX3_block 100 = .ok (.ifCond .ne 8, 3) := dk_154 0 8 (dk_at dksX3_block_4 6 rfl rfl)
theorem dX3_block_103 : decode cX3_block 103 = .ok (.iload 4, 2) := dk_21 4 (dk_at dksX3_block_4 9 rfl rfl)
theorem dX3_block_105 : decode cX3_block 105 = .ok (.goto 17, 3) := dk_167 0 17 (dk_at dksX3_block_4 11 rfl rfl)
theorem dX3_block_108 : decode cX3_block 108 = .ok (.iload_n 2, 1) := dk_28 (dk_at dksX3_block_4 14 rfl rfl)
theorem dX3_block_109 : decode cX3_block 109 = .ok (.iconst 1, 1) := dk_4 (dk_at dksX3_block_4 15 rfl rfl)
theorem dX3_block_110 : decode cX3_block 110 = .ok (.if_icmp .ne 8, 3) := dk_160 0 8 (dk_at dksX3_block_4 16 rfl rfl)
theorem dX3_block_113 : decode cX3_block 113 = .ok (.iload 5, 2) := dk_21 5 (dk_at dksX3_block_4 19 rfl rfl)
theorem dX3_block_115 : decode cX3_block 115 = .ok (.goto 7, 3) := dk_167 0 7 (dk_at dksX3_block_4 21 rfl rfl)
theorem dX3_block_118 : decode cX3_block 118 = .ok (.aload_n 0, 1) := dk_42 (dk_at dksX3_block_5 0 rfl rfl)
theorem dX3_block_119 : decode cX3_block 119 = .ok (.getfield 261, 3) := dk_180 1 5 (dk_at dksX3_block_5 1 rfl rfl)
theorem dX3_block_122 : decode cX3_block 122 = .ok (.ireturn, 1) := dk_172 (dk_at dksX3_block_5 4 rfl rfl)
abbrev cX3_blockSize : ByteArray := prog_12_method_69_code
def yX3_blockSize : MethodName := ⟨RX3, "blockSize", "(I)I"⟩
def dkwX3_blockSize_2 : List UInt8 := [46, 96, 62, 132, 2, 1, 167, 255, 206, 42, 29, 181, 1, 5, 28, 172]
abbrev dktX3_blockSize_2 : List UInt8 := dkwX3_blockSize_2 ++ []
def dkwX3_blockSize_1 : List UInt8 := [153, 0, 33, 42, 29, 42, 180, 0, 32, 29, 46, 96, 182, 1, 2, 154, 0, 18, 29, 42, 180, 0, 32, 29]
abbrev dktX3_blockSize_1 : List UInt8 := dkwX3_blockSize_1 ++ dktX3_blockSize_2
def dkwX3_blockSize_0 : List UInt8 := [4, 61, 27, 62, 42, 29, 182, 0, 255, 154, 0, 48, 42, 29, 42, 180, 0, 32, 29, 46, 96, 182, 0, 245]
abbrev dktX3_blockSize_0 : List UInt8 := dkwX3_blockSize_0 ++ dktX3_blockSize_1
theorem dksX3_blockSize_0 : cX3_blockSize.data.toList.drop 0 = dktX3_blockSize_0 := by decide +kernel
theorem dksX3_blockSize_1 : cX3_blockSize.data.toList.drop 24 = dktX3_blockSize_1 := dk_seg dksX3_blockSize_0 24 rfl rfl
theorem dksX3_blockSize_2 : cX3_blockSize.data.toList.drop 48 = dktX3_blockSize_2 := dk_seg dksX3_blockSize_1 24 rfl rfl
theorem dX3_blockSize_0 : decode cX3_blockSize 0 = .ok (.iconst 1, 1) := dk_4 (dk_at dksX3_blockSize_0 0 rfl rfl)
theorem dX3_blockSize_1 : decode cX3_blockSize 1 = .ok (.istore_n 2, 1) := dk_61 (dk_at dksX3_blockSize_0 1 rfl rfl)
theorem dX3_blockSize_2 : decode cX3_blockSize 2 = .ok (.iload_n 1, 1) := dk_27 (dk_at dksX3_blockSize_0 2 rfl rfl)
theorem dX3_blockSize_3 : decode cX3_blockSize 3 = .ok (.istore_n 3, 1) := dk_62 (dk_at dksX3_blockSize_0 3 rfl rfl)
theorem dX3_blockSize_4 : decode cX3_blockSize 4 = .ok (.aload_n 0, 1) := dk_42 (dk_at dksX3_blockSize_0 4 rfl rfl)
theorem dX3_blockSize_5 : decode cX3_blockSize 5 = .ok (.iload_n 3, 1) := dk_29 (dk_at dksX3_blockSize_0 5 rfl rfl)
theorem dX3_blockSize_6 : decode cX3_blockSize 6 = .ok (.invokevirtual 255, 3) := dk_182 0 255 (dk_at dksX3_blockSize_0 6 rfl rfl)
theorem dX3_blockSize_9 : decode cX3_blockSize 9 = .ok (.ifCond .ne 48, 3) := dk_154 0 48 (dk_at dksX3_blockSize_0 9 rfl rfl)
theorem dX3_blockSize_12 : decode cX3_blockSize 12 = .ok (.aload_n 0, 1) := dk_42 (dk_at dksX3_blockSize_0 12 rfl rfl)
theorem dX3_blockSize_13 : decode cX3_blockSize 13 = .ok (.iload_n 3, 1) := dk_29 (dk_at dksX3_blockSize_0 13 rfl rfl)
theorem dX3_blockSize_14 : decode cX3_blockSize 14 = .ok (.aload_n 0, 1) := dk_42 (dk_at dksX3_blockSize_0 14 rfl rfl)
theorem dX3_blockSize_15 : decode cX3_blockSize 15 = .ok (.getfield 32, 3) := dk_180 0 32 (dk_at dksX3_blockSize_0 15 rfl rfl)
theorem dX3_blockSize_18 : decode cX3_blockSize 18 = .ok (.iload_n 3, 1) := dk_29 (dk_at dksX3_blockSize_0 18 rfl rfl)
theorem dX3_blockSize_19 : decode cX3_blockSize 19 = .ok (.iaload, 1) := dk_46 (dk_at dksX3_blockSize_0 19 rfl rfl)
theorem dX3_blockSize_20 : decode cX3_blockSize 20 = .ok (.iadd, 1) := dk_96 (dk_at dksX3_blockSize_0 20 rfl rfl)
theorem dX3_blockSize_21 : decode cX3_blockSize 21 = .ok (.invokevirtual 245, 3) := dk_182 0 245 (dk_at dksX3_blockSize_0 21 rfl rfl)
theorem dX3_blockSize_24 : decode cX3_blockSize 24 = .ok (.ifCond .eq 33, 3) := dk_153 0 33 (dk_at dksX3_blockSize_1 0 rfl rfl)
theorem dX3_blockSize_27 : decode cX3_blockSize 27 = .ok (.aload_n 0, 1) := dk_42 (dk_at dksX3_blockSize_1 3 rfl rfl)
theorem dX3_blockSize_28 : decode cX3_blockSize 28 = .ok (.iload_n 3, 1) := dk_29 (dk_at dksX3_blockSize_1 4 rfl rfl)
theorem dX3_blockSize_29 : decode cX3_blockSize 29 = .ok (.aload_n 0, 1) := dk_42 (dk_at dksX3_blockSize_1 5 rfl rfl)
theorem dX3_blockSize_30 : decode cX3_blockSize 30 = .ok (.getfield 32, 3) := dk_180 0 32 (dk_at dksX3_blockSize_1 6 rfl rfl)
theorem dX3_blockSize_33 : decode cX3_blockSize 33 = .ok (.iload_n 3, 1) := dk_29 (dk_at dksX3_blockSize_1 9 rfl rfl)
theorem dX3_blockSize_34 : decode cX3_blockSize 34 = .ok (.iaload, 1) := dk_46 (dk_at dksX3_blockSize_1 10 rfl rfl)
theorem dX3_blockSize_35 : decode cX3_blockSize 35 = .ok (.iadd, 1) := dk_96 (dk_at dksX3_blockSize_1 11 rfl rfl)
theorem dX3_blockSize_36 : decode cX3_blockSize 36 = .ok (.invokevirtual 258, 3) := dk_182 1 2 (dk_at dksX3_blockSize_1 12 rfl rfl)
theorem dX3_blockSize_39 : decode cX3_blockSize 39 = .ok (.ifCond .ne 18, 3) := dk_154 0 18 (dk_at dksX3_blockSize_1 15 rfl rfl)
theorem dX3_blockSize_42 : decode cX3_blockSize 42 = .ok (.iload_n 3, 1) := dk_29 (dk_at dksX3_blockSize_1 18 rfl rfl)
theorem dX3_blockSize_43 : decode cX3_blockSize 43 = .ok (.aload_n 0, 1) := dk_42 (dk_at dksX3_blockSize_1 19 rfl rfl)
theorem dX3_blockSize_44 : decode cX3_blockSize 44 = .ok (.getfield 32, 3) := dk_180 0 32 (dk_at dksX3_blockSize_1 20 rfl rfl)
theorem dX3_blockSize_47 : decode cX3_blockSize 47 = .ok (.iload_n 3, 1) := dk_29 (dk_at dksX3_blockSize_1 23 rfl rfl)
theorem dX3_blockSize_48 : decode cX3_blockSize 48 = .ok (.iaload, 1) := dk_46 (dk_at dksX3_blockSize_2 0 rfl rfl)
theorem dX3_blockSize_49 : decode cX3_blockSize 49 = .ok (.iadd, 1) := dk_96 (dk_at dksX3_blockSize_2 1 rfl rfl)
theorem dX3_blockSize_50 : decode cX3_blockSize 50 = .ok (.istore_n 3, 1) := dk_62 (dk_at dksX3_blockSize_2 2 rfl rfl)
theorem dX3_blockSize_51 : decode cX3_blockSize 51 = .ok (.iinc 2 1, 3) := dk_132 2 1 (dk_at dksX3_blockSize_2 3 rfl rfl)
theorem dX3_blockSize_54 : decode cX3_blockSize 54 = .ok (.goto (-50), 3) := dk_167 255 206 (dk_at dksX3_blockSize_2 6 rfl rfl)
theorem dX3_blockSize_57 : decode cX3_blockSize 57 = .ok (.aload_n 0, 1) := dk_42 (dk_at dksX3_blockSize_2 9 rfl rfl)
theorem dX3_blockSize_58 : decode cX3_blockSize 58 = .ok (.iload_n 3, 1) := dk_29 (dk_at dksX3_blockSize_2 10 rfl rfl)
theorem dX3_blockSize_59 : decode cX3_blockSize 59 = .ok (.putfield 261, 3) := dk_181 1 5 (dk_at dksX3_blockSize_2 11 rfl rfl)
theorem dX3_blockSize_62 : decode cX3_blockSize 62 = .ok (.iload_n 2, 1) := dk_28 (dk_at dksX3_blockSize_2 14 rfl rfl)
theorem dX3_blockSize_63 : decode cX3_blockSize 63 = .ok (.ireturn, 1) := dk_172 (dk_at dksX3_blockSize_2 15 rfl rfl)
abbrev cX3_functionCount : ByteArray := prog_12_method_73_code
def yX3_functionCount : MethodName := ⟨RX3, "functionCount", "()I"⟩
def dkwX3_functionCount_2 : List UInt8 := [172]
abbrev dktX3_functionCount_2 : List UInt8 := dkwX3_functionCount_2 ++ []
def dkwX3_functionCount_1 : List UInt8 := [182, 1, 15, 153, 0, 7, 4, 167, 0, 4, 3, 96, 60, 132, 2, 1, 167, 255, 222, 42, 27, 182, 0, 238]
abbrev dktX3_functionCount_1 : List UInt8 := dkwX3_functionCount_1 ++ dktX3_functionCount_2
def dkwX3_functionCount_0 : List UInt8 := [3, 60, 3, 61, 28, 42, 180, 0, 99, 162, 0, 32, 42, 180, 0, 106, 153, 0, 25, 27, 42, 28]
abbrev dktX3_functionCount_0 : List UInt8 := dkwX3_functionCount_0 ++ dktX3_functionCount_1
theorem dksX3_functionCount_0 : cX3_functionCount.data.toList.drop 0 = dktX3_functionCount_0 := by decide +kernel
theorem dksX3_functionCount_1 : cX3_functionCount.data.toList.drop 22 = dktX3_functionCount_1 := dk_seg dksX3_functionCount_0 22 rfl rfl
theorem dksX3_functionCount_2 : cX3_functionCount.data.toList.drop 46 = dktX3_functionCount_2 := dk_seg dksX3_functionCount_1 24 rfl rfl
theorem dX3_functionCount_0 : decode cX3_functionCount 0 = .ok (.iconst 0, 1) := dk_3 (dk_at dksX3_functionCount_0 0 rfl rfl)
theorem dX3_functionCount_1 : decode cX3_functionCount 1 = .ok (.istore_n 1, 1) := dk_60 (dk_at dksX3_functionCount_0 1 rfl rfl)
theorem dX3_functionCount_2 : decode cX3_functionCount 2 = .ok (.iconst 0, 1) := dk_3 (dk_at dksX3_functionCount_0 2 rfl rfl)
theorem dX3_functionCount_3 : decode cX3_functionCount 3 = .ok (.istore_n 2, 1) := dk_61 (dk_at dksX3_functionCount_0 3 rfl rfl)
theorem dX3_functionCount_4 : decode cX3_functionCount 4 = .ok (.iload_n 2, 1) := dk_28 (dk_at dksX3_functionCount_0 4 rfl rfl)
theorem dX3_functionCount_5 : decode cX3_functionCount 5 = .ok (.aload_n 0, 1) := dk_42 (dk_at dksX3_functionCount_0 5 rfl rfl)
theorem dX3_functionCount_6 : decode cX3_functionCount 6 = .ok (.getfield 99, 3) := dk_180 0 99 (dk_at dksX3_functionCount_0 6 rfl rfl)
theorem dX3_functionCount_9 : decode cX3_functionCount 9 = .ok (.if_icmp .ge 32, 3) := dk_162 0 32 (dk_at dksX3_functionCount_0 9 rfl rfl)
theorem dX3_functionCount_12 : decode cX3_functionCount 12 = .ok (.aload_n 0, 1) := dk_42 (dk_at dksX3_functionCount_0 12 rfl rfl)
theorem dX3_functionCount_13 : decode cX3_functionCount 13 = .ok (.getfield 106, 3) := dk_180 0 106 (dk_at dksX3_functionCount_0 13 rfl rfl)
theorem dX3_functionCount_16 : decode cX3_functionCount 16 = .ok (.ifCond .eq 25, 3) := dk_153 0 25 (dk_at dksX3_functionCount_0 16 rfl rfl)
theorem dX3_functionCount_19 : decode cX3_functionCount 19 = .ok (.iload_n 1, 1) := dk_27 (dk_at dksX3_functionCount_0 19 rfl rfl)
theorem dX3_functionCount_20 : decode cX3_functionCount 20 = .ok (.aload_n 0, 1) := dk_42 (dk_at dksX3_functionCount_0 20 rfl rfl)
theorem dX3_functionCount_21 : decode cX3_functionCount 21 = .ok (.iload_n 2, 1) := dk_28 (dk_at dksX3_functionCount_0 21 rfl rfl)
theorem dX3_functionCount_22 : decode cX3_functionCount 22 = .ok (.invokevirtual 271, 3) := dk_182 1 15 (dk_at dksX3_functionCount_1 0 rfl rfl)
theorem dX3_functionCount_25 : decode cX3_functionCount 25 = .ok (.ifCond .eq 7, 3) := dk_153 0 7 (dk_at dksX3_functionCount_1 3 rfl rfl)
theorem dX3_functionCount_28 : decode cX3_functionCount 28 = .ok (.iconst 1, 1) := dk_4 (dk_at dksX3_functionCount_1 6 rfl rfl)
theorem dX3_functionCount_29 : decode cX3_functionCount 29 = .ok (.goto 4, 3) := dk_167 0 4 (dk_at dksX3_functionCount_1 7 rfl rfl)
theorem dX3_functionCount_32 : decode cX3_functionCount 32 = .ok (.iconst 0, 1) := dk_3 (dk_at dksX3_functionCount_1 10 rfl rfl)
theorem dX3_functionCount_33 : decode cX3_functionCount 33 = .ok (.iadd, 1) := dk_96 (dk_at dksX3_functionCount_1 11 rfl rfl)
theorem dX3_functionCount_34 : decode cX3_functionCount 34 = .ok (.istore_n 1, 1) := dk_60 (dk_at dksX3_functionCount_1 12 rfl rfl)
theorem dX3_functionCount_35 : decode cX3_functionCount 35 = .ok (.iinc 2 1, 3) := dk_132 2 1 (dk_at dksX3_functionCount_1 13 rfl rfl)
theorem dX3_functionCount_38 : decode cX3_functionCount 38 = .ok (.goto (-34), 3) := dk_167 255 222 (dk_at dksX3_functionCount_1 16 rfl rfl)
theorem dX3_functionCount_41 : decode cX3_functionCount 41 = .ok (.aload_n 0, 1) := dk_42 (dk_at dksX3_functionCount_1 19 rfl rfl)
theorem dX3_functionCount_42 : decode cX3_functionCount 42 = .ok (.iload_n 1, 1) := dk_27 (dk_at dksX3_functionCount_1 20 rfl rfl)
theorem dX3_functionCount_43 : decode cX3_functionCount 43 = .ok (.invokevirtual 238, 3) := dk_182 0 238 (dk_at dksX3_functionCount_1 21 rfl rfl)
theorem dX3_functionCount_46 : decode cX3_functionCount 46 = .ok (.ireturn, 1) := dk_172 (dk_at dksX3_functionCount_2 0 rfl rfl)
abbrev cX3_isHead : ByteArray := prog_12_method_72_code
def yX3_isHead : MethodName := ⟨RX3, "isHead", "(I)Z"⟩
def dkwX3_isHead_1 : List UInt8 := [153, 0, 7, 4, 167, 0, 4, 3, 172]
abbrev dktX3_isHead_1 : List UInt8 := dkwX3_isHead_1 ++ []
def dkwX3_isHead_0 : List UInt8 := [42, 180, 0, 32, 27, 46, 158, 0, 24, 42, 27, 182, 0, 134, 154, 0, 12, 42, 27, 4, 182, 0, 248]
abbrev dktX3_isHead_0 : List UInt8 := dkwX3_isHead_0 ++ dktX3_isHead_1
theorem dksX3_isHead_0 : cX3_isHead.data.toList.drop 0 = dktX3_isHead_0 := by decide +kernel
theorem dksX3_isHead_1 : cX3_isHead.data.toList.drop 23 = dktX3_isHead_1 := dk_seg dksX3_isHead_0 23 rfl rfl
theorem dX3_isHead_0 : decode cX3_isHead 0 = .ok (.aload_n 0, 1) := dk_42 (dk_at dksX3_isHead_0 0 rfl rfl)
theorem dX3_isHead_1 : decode cX3_isHead 1 = .ok (.getfield 32, 3) := dk_180 0 32 (dk_at dksX3_isHead_0 1 rfl rfl)
theorem dX3_isHead_4 : decode cX3_isHead 4 = .ok (.iload_n 1, 1) := dk_27 (dk_at dksX3_isHead_0 4 rfl rfl)
theorem dX3_isHead_5 : decode cX3_isHead 5 = .ok (.iaload, 1) := dk_46 (dk_at dksX3_isHead_0 5 rfl rfl)
theorem dX3_isHead_6 : decode cX3_isHead 6 = .ok (.ifCond .le 24, 3) := dk_158 0 24 (dk_at dksX3_isHead_0 6 rfl rfl)
theorem dX3_isHead_9 : decode cX3_isHead 9 = .ok (.aload_n 0, 1) := dk_42 (dk_at dksX3_isHead_0 9 rfl rfl)
theorem dX3_isHead_10 : decode cX3_isHead 10 = .ok (.iload_n 1, 1) := dk_27 (dk_at dksX3_isHead_0 10 rfl rfl)
theorem dX3_isHead_11 : decode cX3_isHead 11 = .ok (.invokevirtual 134, 3) := dk_182 0 134 (dk_at dksX3_isHead_0 11 rfl rfl)
theorem dX3_isHead_14 : decode cX3_isHead 14 = .ok (.ifCond .ne 12, 3) := dk_154 0 12 (dk_at dksX3_isHead_0 14 rfl rfl)
theorem dX3_isHead_17 : decode cX3_isHead 17 = .ok (.aload_n 0, 1) := dk_42 (dk_at dksX3_isHead_0 17 rfl rfl)
theorem dX3_isHead_18 : decode cX3_isHead 18 = .ok (.iload_n 1, 1) := dk_27 (dk_at dksX3_isHead_0 18 rfl rfl)
theorem dX3_isHead_19 : decode cX3_isHead 19 = .ok (.iconst 1, 1) := dk_4 (dk_at dksX3_isHead_0 19 rfl rfl)
theorem dX3_isHead_20 : decode cX3_isHead 20 = .ok (.invokevirtual 248, 3) := dk_182 0 248 (dk_at dksX3_isHead_0 20 rfl rfl)
theorem dX3_isHead_23 : decode cX3_isHead 23 = .ok (.ifCond .eq 7, 3) := dk_153 0 7 (dk_at dksX3_isHead_1 0 rfl rfl)
theorem dX3_isHead_26 : decode cX3_isHead 26 = .ok (.iconst 1, 1) := dk_4 (dk_at dksX3_isHead_1 3 rfl rfl)
theorem dX3_isHead_27 : decode cX3_isHead 27 = .ok (.goto 4, 3) := dk_167 0 4 (dk_at dksX3_isHead_1 4 rfl rfl)
theorem dX3_isHead_30 : decode cX3_isHead 30 = .ok (.iconst 0, 1) := dk_3 (dk_at dksX3_isHead_1 7 rfl rfl)
theorem dX3_isHead_31 : decode cX3_isHead 31 = .ok (.ireturn, 1) := dk_172 (dk_at dksX3_isHead_1 8 rfl rfl)
abbrev cX3_functionSize : ByteArray := prog_12_method_75_code
def yX3_functionSize : MethodName := ⟨RX3, "functionSize", "(I)I"⟩
def dkwX3_functionSize_8 : List UInt8 := [132, 4, 1, 167, 255, 190, 132, 2, 1, 167, 255, 123, 42, 180, 1, 18, 172]
abbrev dktX3_functionSize_8 : List UInt8 := dkwX3_functionSize_8 ++ []
def dkwX3_functionSize_7 : List UInt8 := [180, 0, 69, 16, 16, 21, 4, 104, 21, 5, 96, 46, 46, 182, 1, 21, 132, 5, 1, 167, 255, 208]
abbrev dktX3_functionSize_7 : List UInt8 := dkwX3_functionSize_7 ++ dktX3_functionSize_8
def dkwX3_functionSize_6 : List UInt8 := [21, 4, 46, 162, 0, 42, 42, 180, 0, 57, 21, 4, 46, 29, 160, 0, 31, 42, 42, 180, 0, 9, 42]
abbrev dktX3_functionSize_6 : List UInt8 := dkwX3_functionSize_6 ++ dktX3_functionSize_7
def dkwX3_functionSize_5 : List UInt8 := [182, 1, 21, 3, 54, 4, 21, 4, 42, 180, 0, 202, 162, 0, 63, 3, 54, 5, 21, 5, 42, 180, 0, 66]
abbrev dktX3_functionSize_5 : List UInt8 := dkwX3_functionSize_5 ++ dktX3_functionSize_6
def dkwX3_functionSize_4 : List UInt8 := [182, 1, 21, 42, 29, 182, 0, 140, 7, 16, 6, 184, 0, 102, 153, 0, 12, 42, 42, 29, 182, 0, 149]
abbrev dktX3_functionSize_4 : List UInt8 := dkwX3_functionSize_4 ++ dktX3_functionSize_5
def dkwX3_functionSize_3 : List UInt8 := [180, 0, 93, 28, 46, 62, 42, 29, 182, 0, 152, 154, 0, 15, 42, 29, 42, 180, 0, 32, 29, 46, 96]
abbrev dktX3_functionSize_3 : List UInt8 := dkwX3_functionSize_3 ++ dktX3_functionSize_4
def dkwX3_functionSize_2 : List UInt8 := [167, 255, 240, 42, 3, 181, 1, 18, 42, 27, 182, 1, 21, 3, 61, 28, 42, 180, 1, 18, 162, 0, 131, 42]
abbrev dktX3_functionSize_2 : List UInt8 := dkwX3_functionSize_2 ++ dktX3_functionSize_3
def dkwX3_functionSize_1 : List UInt8 := [182, 0, 113, 172, 3, 61, 28, 16, 96, 162, 0, 16, 42, 180, 0, 90, 28, 3, 84, 132, 2, 1]
abbrev dktX3_functionSize_1 : List UInt8 := dkwX3_functionSize_1 ++ dktX3_functionSize_2
def dkwX3_functionSize_0 : List UInt8 := [42, 42, 27, 182, 0, 127, 182, 0, 241, 158, 0, 5, 3, 172, 42, 27, 182, 1, 15, 154, 0, 9, 42, 6]
abbrev dktX3_functionSize_0 : List UInt8 := dkwX3_functionSize_0 ++ dktX3_functionSize_1
theorem dksX3_functionSize_0 : cX3_functionSize.data.toList.drop 0 = dktX3_functionSize_0 := by decide +kernel
theorem dksX3_functionSize_1 : cX3_functionSize.data.toList.drop 24 = dktX3_functionSize_1 := dk_seg dksX3_functionSize_0 24 rfl rfl
theorem dksX3_functionSize_2 : cX3_functionSize.data.toList.drop 46 = dktX3_functionSize_2 := dk_seg dksX3_functionSize_1 22 rfl rfl
theorem dksX3_functionSize_3 : cX3_functionSize.data.toList.drop 70 = dktX3_functionSize_3 := dk_seg dksX3_functionSize_2 24 rfl rfl
theorem dksX3_functionSize_4 : cX3_functionSize.data.toList.drop 93 = dktX3_functionSize_4 := dk_seg dksX3_functionSize_3 23 rfl rfl
theorem dksX3_functionSize_5 : cX3_functionSize.data.toList.drop 116 = dktX3_functionSize_5 := dk_seg dksX3_functionSize_4 23 rfl rfl
theorem dksX3_functionSize_6 : cX3_functionSize.data.toList.drop 140 = dktX3_functionSize_6 := dk_seg dksX3_functionSize_5 24 rfl rfl
theorem dksX3_functionSize_7 : cX3_functionSize.data.toList.drop 163 = dktX3_functionSize_7 := dk_seg dksX3_functionSize_6 23 rfl rfl
theorem dksX3_functionSize_8 : cX3_functionSize.data.toList.drop 185 = dktX3_functionSize_8 := dk_seg dksX3_functionSize_7 22 rfl rfl
theorem dX3_functionSize_0 : decode cX3_functionSize 0 = .ok (.aload_n 0, 1) := dk_42 (dk_at dksX3_functionSize_0 0 rfl rfl)
theorem dX3_functionSize_1 : decode cX3_functionSize 1 = .ok (.aload_n 0, 1) := dk_42 (dk_at dksX3_functionSize_0 1 rfl rfl)
theorem dX3_functionSize_2 : decode cX3_functionSize 2 = .ok (.iload_n 1, 1) := dk_27 (dk_at dksX3_functionSize_0 2 rfl rfl)
theorem dX3_functionSize_3 : decode cX3_functionSize 3 = .ok (.invokevirtual 127, 3) := dk_182 0 127 (dk_at dksX3_functionSize_0 3 rfl rfl)
theorem dX3_functionSize_6 : decode cX3_functionSize 6 = .ok (.invokevirtual 241, 3) := dk_182 0 241 (dk_at dksX3_functionSize_0 6 rfl rfl)
theorem dX3_functionSize_9 : decode cX3_functionSize 9 = .ok (.ifCond .le 5, 3) := dk_158 0 5 (dk_at dksX3_functionSize_0 9 rfl rfl)
theorem dX3_functionSize_12 : decode cX3_functionSize 12 = .ok (.iconst 0, 1) := dk_3 (dk_at dksX3_functionSize_0 12 rfl rfl)
theorem dX3_functionSize_13 : decode cX3_functionSize 13 = .ok (.ireturn, 1) := dk_172 (dk_at dksX3_functionSize_0 13 rfl rfl)
theorem dX3_functionSize_14 : decode cX3_functionSize 14 = .ok (.aload_n 0, 1) := dk_42 (dk_at dksX3_functionSize_0 14 rfl rfl)
theorem dX3_functionSize_15 : decode cX3_functionSize 15 = .ok (.iload_n 1, 1) := dk_27 (dk_at dksX3_functionSize_0 15 rfl rfl)
theorem dX3_functionSize_16 : decode cX3_functionSize 16 = .ok (.invokevirtual 271, 3) := dk_182 1 15 (dk_at dksX3_functionSize_0 16 rfl rfl)
theorem dX3_functionSize_19 : decode cX3_functionSize 19 = .ok (.ifCond .ne 9, 3) := dk_154 0 9 (dk_at dksX3_functionSize_0 19 rfl rfl)
theorem dX3_functionSize_22 : decode cX3_functionSize 22 = .ok (.aload_n 0, 1) := dk_42 (dk_at dksX3_functionSize_0 22 rfl rfl)
theorem dX3_functionSize_23 : decode cX3_functionSize 23 = .ok (.iconst 3, 1) := dk_6 (dk_at dksX3_functionSize_0 23 rfl rfl)
theorem dX3_functionSize_24 : decode cX3_functionSize 24 = .ok (.invokevirtual 113, 3) := dk_182 0 113 (dk_at dksX3_functionSize_1 0 rfl rfl)
theorem dX3_functionSize_27 : decode cX3_functionSize 27 = .ok (.ireturn, 1) := dk_172 (dk_at dksX3_functionSize_1 3 rfl rfl)
theorem dX3_functionSize_28 : decode cX3_functionSize 28 = .ok (.iconst 0, 1) := dk_3 (dk_at dksX3_functionSize_1 4 rfl rfl)
theorem dX3_functionSize_29 : decode cX3_functionSize 29 = .ok (.istore_n 2, 1) := dk_61 (dk_at dksX3_functionSize_1 5 rfl rfl)
theorem dX3_functionSize_30 : decode cX3_functionSize 30 = .ok (.iload_n 2, 1) := dk_28 (dk_at dksX3_functionSize_1 6 rfl rfl)
theorem dX3_functionSize_31 : decode cX3_functionSize 31 = .ok (.bipush 96, 2) := dk_16 96 (dk_at dksX3_functionSize_1 7 rfl rfl)
theorem dX3_functionSize_33 : decode cX3_functionSize 33 = .ok (.if_icmp .ge 16, 3) := dk_162 0 16 (dk_at dksX3_functionSize_1 9 rfl rfl)
theorem dX3_functionSize_36 : decode cX3_functionSize 36 = .ok (.aload_n 0, 1) := dk_42 (dk_at dksX3_functionSize_1 12 rfl rfl)
theorem dX3_functionSize_37 : decode cX3_functionSize 37 = .ok (.getfield 90, 3) := dk_180 0 90 (dk_at dksX3_functionSize_1 13 rfl rfl)
theorem dX3_functionSize_40 : decode cX3_functionSize 40 = .ok (.iload_n 2, 1) := dk_28 (dk_at dksX3_functionSize_1 16 rfl rfl)
theorem dX3_functionSize_41 : decode cX3_functionSize 41 = .ok (.iconst 0, 1) := dk_3 (dk_at dksX3_functionSize_1 17 rfl rfl)
theorem dX3_functionSize_42 : decode cX3_functionSize 42 = .ok (.bastore, 1) := dk_84 (dk_at dksX3_functionSize_1 18 rfl rfl)
theorem dX3_functionSize_43 : decode cX3_functionSize 43 = .ok (.iinc 2 1, 3) := dk_132 2 1 (dk_at dksX3_functionSize_1 19 rfl rfl)
theorem dX3_functionSize_46 : decode cX3_functionSize 46 = .ok (.goto (-16), 3) := dk_167 255 240 (dk_at dksX3_functionSize_2 0 rfl rfl)
theorem dX3_functionSize_49 : decode cX3_functionSize 49 = .ok (.aload_n 0, 1) := dk_42 (dk_at dksX3_functionSize_2 3 rfl rfl)
theorem dX3_functionSize_50 : decode cX3_functionSize 50 = .ok (.iconst 0, 1) := dk_3 (dk_at dksX3_functionSize_2 4 rfl rfl)
theorem dX3_functionSize_51 : decode cX3_functionSize 51 = .ok (.putfield 274, 3) := dk_181 1 18 (dk_at dksX3_functionSize_2 5 rfl rfl)
theorem dX3_functionSize_54 : decode cX3_functionSize 54 = .ok (.aload_n 0, 1) := dk_42 (dk_at dksX3_functionSize_2 8 rfl rfl)
theorem dX3_functionSize_55 : decode cX3_functionSize 55 = .ok (.iload_n 1, 1) := dk_27 (dk_at dksX3_functionSize_2 9 rfl rfl)
theorem dX3_functionSize_56 : decode cX3_functionSize 56 = .ok (.invokevirtual 277, 3) := dk_182 1 21 (dk_at dksX3_functionSize_2 10 rfl rfl)
theorem dX3_functionSize_59 : decode cX3_functionSize 59 = .ok (.iconst 0, 1) := dk_3 (dk_at dksX3_functionSize_2 13 rfl rfl)
theorem dX3_functionSize_60 : decode cX3_functionSize 60 = .ok (.istore_n 2, 1) := dk_61 (dk_at dksX3_functionSize_2 14 rfl rfl)
theorem dX3_functionSize_61 : decode cX3_functionSize 61 = .ok (.iload_n 2, 1) := dk_28 (dk_at dksX3_functionSize_2 15 rfl rfl)
theorem dX3_functionSize_62 : decode cX3_functionSize 62 = .ok (.aload_n 0, 1) := dk_42 (dk_at dksX3_functionSize_2 16 rfl rfl)
theorem dX3_functionSize_63 : decode cX3_functionSize 63 = .ok (.getfield 274, 3) := dk_180 1 18 (dk_at dksX3_functionSize_2 17 rfl rfl)
theorem dX3_functionSize_66 : decode cX3_functionSize 66 = .ok (.if_icmp .ge 131, 3) := dk_162 0 131 (dk_at dksX3_functionSize_2 20 rfl rfl)
theorem dX3_functionSize_69 : decode cX3_functionSize 69 = .ok (.aload_n 0, 1) := dk_42 (dk_at dksX3_functionSize_2 23 rfl rfl)
theorem dX3_functionSize_70 : decode cX3_functionSize 70 = .ok (.getfield 93, 3) := dk_180 0 93 (dk_at dksX3_functionSize_3 0 rfl rfl)
theorem dX3_functionSize_73 : decode cX3_functionSize 73 = .ok (.iload_n 2, 1) := dk_28 (dk_at dksX3_functionSize_3 3 rfl rfl)
theorem dX3_functionSize_74 : decode cX3_functionSize 74 = .ok (.iaload, 1) := dk_46 (dk_at dksX3_functionSize_3 4 rfl rfl)
theorem dX3_functionSize_75 : decode cX3_functionSize 75 = .ok (.istore_n 3, 1) := dk_62 (dk_at dksX3_functionSize_3 5 rfl rfl)
theorem dX3_functionSize_76 : decode cX3_functionSize 76 = .ok (.aload_n 0, 1) := dk_42 (dk_at dksX3_functionSize_3 6 rfl rfl)
theorem dX3_functionSize_77 : decode cX3_functionSize 77 = .ok (.iload_n 3, 1) := dk_29 (dk_at dksX3_functionSize_3 7 rfl rfl)
theorem dX3_functionSize_78 : decode cX3_functionSize 78 = .ok (.invokevirtual 152, 3) := dk_182 0 152 (dk_at dksX3_functionSize_3 8 rfl rfl)
theorem dX3_functionSize_81 : decode cX3_functionSize 81 = .ok (.ifCond .ne 15, 3) := dk_154 0 15 (dk_at dksX3_functionSize_3 11 rfl rfl)
theorem dX3_functionSize_84 : decode cX3_functionSize 84 = .ok (.aload_n 0, 1) := dk_42 (dk_at dksX3_functionSize_3 14 rfl rfl)
theorem dX3_functionSize_85 : decode cX3_functionSize 85 = .ok (.iload_n 3, 1) := dk_29 (dk_at dksX3_functionSize_3 15 rfl rfl)
theorem dX3_functionSize_86 : decode cX3_functionSize 86 = .ok (.aload_n 0, 1) := dk_42 (dk_at dksX3_functionSize_3 16 rfl rfl)
theorem dX3_functionSize_87 : decode cX3_functionSize 87 = .ok (.getfield 32, 3) := dk_180 0 32 (dk_at dksX3_functionSize_3 17 rfl rfl)
theorem dX3_functionSize_90 : decode cX3_functionSize 90 = .ok (.iload_n 3, 1) := dk_29 (dk_at dksX3_functionSize_3 20 rfl rfl)
theorem dX3_functionSize_91 : decode cX3_functionSize 91 = .ok (.iaload, 1) := dk_46 (dk_at dksX3_functionSize_3 21 rfl rfl)
theorem dX3_functionSize_92 : decode cX3_functionSize 92 = .ok (.iadd, 1) := dk_96 (dk_at dksX3_functionSize_3 22 rfl rfl)
theorem dX3_functionSize_93 : decode cX3_functionSize 93 = .ok (.invokevirtual 277, 3) := dk_182 1 21 (dk_at dksX3_functionSize_4 0 rfl rfl)
theorem dX3_functionSize_96 : decode cX3_functionSize 96 = .ok (.aload_n 0, 1) := dk_42 (dk_at dksX3_functionSize_4 3 rfl rfl)
theorem dX3_functionSize_97 : decode cX3_functionSize 97 = .ok (.iload_n 3, 1) := dk_29 (dk_at dksX3_functionSize_4 4 rfl rfl)
theorem dX3_functionSize_98 : decode cX3_functionSize 98 = .ok (.invokevirtual 140, 3) := dk_182 0 140 (dk_at dksX3_functionSize_4 5 rfl rfl)
theorem dX3_functionSize_101 : decode cX3_functionSize 101 = .ok (.iconst 4, 1) := dk_7 (dk_at dksX3_functionSize_4 8 rfl rfl)
theorem dX3_functionSize_102 : decode cX3_functionSize 102 = .ok (.bipush 6, 2) := dk_16 6 (dk_at dksX3_functionSize_4 9 rfl rfl)
theorem dX3_functionSize_104 : decode cX3_functionSize 104 = .ok (.invokestatic 102, 3) := dk_184 0 102 (dk_at dksX3_functionSize_4 11 rfl rfl)
theorem dX3_functionSize_107 : decode cX3_functionSize 107 = .ok (.ifCond .eq 12, 3) := dk_153 0 12 (dk_at dksX3_functionSize_4 14 rfl rfl)
theorem dX3_functionSize_110 : decode cX3_functionSize 110 = .ok (.aload_n 0, 1) := dk_42 (dk_at dksX3_functionSize_4 17 rfl rfl)
theorem dX3_functionSize_111 : decode cX3_functionSize 111 = .ok (.aload_n 0, 1) := dk_42 (dk_at dksX3_functionSize_4 18 rfl rfl)
theorem dX3_functionSize_112 : decode cX3_functionSize 112 = .ok (.iload_n 3, 1) := dk_29 (dk_at dksX3_functionSize_4 19 rfl rfl)
theorem dX3_functionSize_113 : decode cX3_functionSize 113 = .ok (.invokevirtual 149, 3) := dk_182 0 149 (dk_at dksX3_functionSize_4 20 rfl rfl)
theorem dX3_functionSize_116 : decode cX3_functionSize 116 = .ok (.invokevirtual 277, 3) := dk_182 1 21 (dk_at dksX3_functionSize_5 0 rfl rfl)
theorem dX3_functionSize_119 : decode cX3_functionSize 119 = .ok (.iconst 0, 1) := dk_3 (dk_at dksX3_functionSize_5 3 rfl rfl)
theorem dX3_functionSize_120 : decode cX3_functionSize 120 = .ok (.istore 4, 2) := dk_54 4 (dk_at dksX3_functionSize_5 4 rfl rfl)
theorem dX3_functionSize_122 : decode cX3_functionSize 122 = .ok (.iload 4, 2) := dk_21 4 (dk_at dksX3_functionSize_5 6 rfl rfl)
theorem dX3_functionSize_124 : decode cX3_functionSize 124 = .ok (.aload_n 0, 1) := dk_42 (dk_at dksX3_functionSize_5 8 rfl rfl)
theorem dX3_functionSize_125 : decode cX3_functionSize 125 = .ok (.getfield 202, 3) := dk_180 0 202 (dk_at dksX3_functionSize_5 9 rfl rfl)
theorem dX3_functionSize_128 : decode cX3_functionSize 128 = .ok (.if_icmp .ge 63, 3) := dk_162 0 63 (dk_at dksX3_functionSize_5 12 rfl rfl)
theorem dX3_functionSize_131 : decode cX3_functionSize 131 = .ok (.iconst 0, 1) := dk_3 (dk_at dksX3_functionSize_5 15 rfl rfl)
theorem dX3_functionSize_132 : decode cX3_functionSize 132 = .ok (.istore 5, 2) := dk_54 5 (dk_at dksX3_functionSize_5 16 rfl rfl)
theorem dX3_functionSize_134 : decode cX3_functionSize 134 = .ok (.iload 5, 2) := dk_21 5 (dk_at dksX3_functionSize_5 18 rfl rfl)
theorem dX3_functionSize_136 : decode cX3_functionSize 136 = .ok (.aload_n 0, 1) := dk_42 (dk_at dksX3_functionSize_5 20 rfl rfl)
theorem dX3_functionSize_137 : decode cX3_functionSize 137 = .ok (.getfield 66, 3) := dk_180 0 66 (dk_at dksX3_functionSize_5 21 rfl rfl)
theorem dX3_functionSize_140 : decode cX3_functionSize 140 = .ok (.iload 4, 2) := dk_21 4 (dk_at dksX3_functionSize_6 0 rfl rfl)
theorem dX3_functionSize_142 : decode cX3_functionSize 142 = .ok (.iaload, 1) := dk_46 (dk_at dksX3_functionSize_6 2 rfl rfl)
theorem dX3_functionSize_143 : decode cX3_functionSize 143 = .ok (.if_icmp .ge 42, 3) := dk_162 0 42 (dk_at dksX3_functionSize_6 3 rfl rfl)
theorem dX3_functionSize_146 : decode cX3_functionSize 146 = .ok (.aload_n 0, 1) := dk_42 (dk_at dksX3_functionSize_6 6 rfl rfl)
theorem dX3_functionSize_147 : decode cX3_functionSize 147 = .ok (.getfield 57, 3) := dk_180 0 57 (dk_at dksX3_functionSize_6 7 rfl rfl)
theorem dX3_functionSize_150 : decode cX3_functionSize 150 = .ok (.iload 4, 2) := dk_21 4 (dk_at dksX3_functionSize_6 10 rfl rfl)
theorem dX3_functionSize_152 : decode cX3_functionSize 152 = .ok (.iaload, 1) := dk_46 (dk_at dksX3_functionSize_6 12 rfl rfl)
theorem dX3_functionSize_153 : decode cX3_functionSize 153 = .ok (.iload_n 3, 1) := dk_29 (dk_at dksX3_functionSize_6 13 rfl rfl)
theorem dX3_functionSize_154 : decode cX3_functionSize 154 = .ok (.if_icmp .ne 31, 3) := dk_160 0 31 (dk_at dksX3_functionSize_6 14 rfl rfl)
theorem dX3_functionSize_157 : decode cX3_functionSize 157 = .ok (.aload_n 0, 1) := dk_42 (dk_at dksX3_functionSize_6 17 rfl rfl)
theorem dX3_functionSize_158 : decode cX3_functionSize 158 = .ok (.aload_n 0, 1) := dk_42 (dk_at dksX3_functionSize_6 18 rfl rfl)
theorem dX3_functionSize_159 : decode cX3_functionSize 159 = .ok (.getfield 9, 3) := dk_180 0 9 (dk_at dksX3_functionSize_6 19 rfl rfl)
theorem dX3_functionSize_162 : decode cX3_functionSize 162 = .ok (.aload_n 0, 1) := dk_42 (dk_at dksX3_functionSize_6 22 rfl rfl)
theorem dX3_functionSize_163 : decode cX3_functionSize 163 = .ok (.getfield 69, 3) := dk_180 0 69 (dk_at dksX3_functionSize_7 0 rfl rfl)
theorem dX3_functionSize_166 : decode cX3_functionSize 166 = .ok (.bipush 16, 2) := dk_16 16 (dk_at dksX3_functionSize_7 3 rfl rfl)
theorem dX3_functionSize_168 : decode cX3_functionSize 168 = .ok (.iload 4, 2) := dk_21 4 (dk_at dksX3_functionSize_7 5 rfl rfl)
theorem dX3_functionSize_170 : decode cX3_functionSize 170 = .ok (.imul, 1) := dk_104 (dk_at dksX3_functionSize_7 7 rfl rfl)
theorem dX3_functionSize_171 : decode cX3_functionSize 171 = .ok (.iload 5, 2) := dk_21 5 (dk_at dksX3_functionSize_7 8 rfl rfl)
theorem dX3_functionSize_173 : decode cX3_functionSize 173 = .ok (.iadd, 1) := dk_96 (dk_at dksX3_functionSize_7 10 rfl rfl)
theorem dX3_functionSize_174 : decode cX3_functionSize 174 = .ok (.iaload, 1) := dk_46 (dk_at dksX3_functionSize_7 11 rfl rfl)
theorem dX3_functionSize_175 : decode cX3_functionSize 175 = .ok (.iaload, 1) := dk_46 (dk_at dksX3_functionSize_7 12 rfl rfl)
theorem dX3_functionSize_176 : decode cX3_functionSize 176 = .ok (.invokevirtual 277, 3) := dk_182 1 21 (dk_at dksX3_functionSize_7 13 rfl rfl)
theorem dX3_functionSize_179 : decode cX3_functionSize 179 = .ok (.iinc 5 1, 3) := dk_132 5 1 (dk_at dksX3_functionSize_7 16 rfl rfl)
theorem dX3_functionSize_182 : decode cX3_functionSize 182 = .ok (.goto (-48), 3) := dk_167 255 208 (dk_at dksX3_functionSize_7 19 rfl rfl)
theorem dX3_functionSize_185 : decode cX3_functionSize 185 = .ok (.iinc 4 1, 3) := dk_132 4 1 (dk_at dksX3_functionSize_8 0 rfl rfl)
theorem dX3_functionSize_188 : decode cX3_functionSize 188 = .ok (.goto (-66), 3) := dk_167 255 190 (dk_at dksX3_functionSize_8 3 rfl rfl)
theorem dX3_functionSize_191 : decode cX3_functionSize 191 = .ok (.iinc 2 1, 3) := dk_132 2 1 (dk_at dksX3_functionSize_8 6 rfl rfl)
theorem dX3_functionSize_194 : decode cX3_functionSize 194 = .ok (.goto (-133), 3) := dk_167 255 123 (dk_at dksX3_functionSize_8 9 rfl rfl)
theorem dX3_functionSize_197 : decode cX3_functionSize 197 = .ok (.aload_n 0, 1) := dk_42 (dk_at dksX3_functionSize_8 12 rfl rfl)
theorem dX3_functionSize_198 : decode cX3_functionSize 198 = .ok (.getfield 274, 3) := dk_180 1 18 (dk_at dksX3_functionSize_8 13 rfl rfl)
theorem dX3_functionSize_201 : decode cX3_functionSize 201 = .ok (.ireturn, 1) := dk_172 (dk_at dksX3_functionSize_8 16 rfl rfl)
abbrev cX3_reaches : ByteArray := prog_12_method_74_code
def yX3_reaches : MethodName := ⟨RX3, "reaches", "(I)V"⟩
def dkwX3_reaches_1 : List UInt8 := [84, 42, 180, 0, 93, 42, 180, 1, 18, 27, 79, 42, 89, 180, 1, 18, 4, 96, 181, 1, 18, 177]
abbrev dktX3_reaches_1 : List UInt8 := dkwX3_reaches_1 ++ []
def dkwX3_reaches_0 : List UInt8 := [42, 27, 182, 0, 245, 153, 0, 12, 42, 180, 0, 90, 27, 51, 153, 0, 4, 177, 42, 180, 0, 90, 27, 4]
abbrev dktX3_reaches_0 : List UInt8 := dkwX3_reaches_0 ++ dktX3_reaches_1
theorem dksX3_reaches_0 : cX3_reaches.data.toList.drop 0 = dktX3_reaches_0 := by decide +kernel
theorem dksX3_reaches_1 : cX3_reaches.data.toList.drop 24 = dktX3_reaches_1 := dk_seg dksX3_reaches_0 24 rfl rfl
theorem dX3_reaches_0 : decode cX3_reaches 0 = .ok (.aload_n 0, 1) := dk_42 (dk_at dksX3_reaches_0 0 rfl rfl)
theorem dX3_reaches_1 : decode cX3_reaches 1 = .ok (.iload_n 1, 1) := dk_27 (dk_at dksX3_reaches_0 1 rfl rfl)
theorem dX3_reaches_2 : decode cX3_reaches 2 = .ok (.invokevirtual 245, 3) := dk_182 0 245 (dk_at dksX3_reaches_0 2 rfl rfl)
theorem dX3_reaches_5 : decode cX3_reaches 5 = .ok (.ifCond .eq 12, 3) := dk_153 0 12 (dk_at dksX3_reaches_0 5 rfl rfl)
theorem dX3_reaches_8 : decode cX3_reaches 8 = .ok (.aload_n 0, 1) := dk_42 (dk_at dksX3_reaches_0 8 rfl rfl)
theorem dX3_reaches_9 : decode cX3_reaches 9 = .ok (.getfield 90, 3) := dk_180 0 90 (dk_at dksX3_reaches_0 9 rfl rfl)
theorem dX3_reaches_12 : decode cX3_reaches 12 = .ok (.iload_n 1, 1) := dk_27 (dk_at dksX3_reaches_0 12 rfl rfl)
theorem dX3_reaches_13 : decode cX3_reaches 13 = .ok (.baload, 1) := dk_51 (dk_at dksX3_reaches_0 13 rfl rfl)
theorem dX3_reaches_14 : decode cX3_reaches 14 = .ok (.ifCond .eq 4, 3) := dk_153 0 4 (dk_at dksX3_reaches_0 14 rfl rfl)
theorem dX3_reaches_17 : decode cX3_reaches 17 = .ok (.return_, 1) := dk_177 (dk_at dksX3_reaches_0 17 rfl rfl)
theorem dX3_reaches_18 : decode cX3_reaches 18 = .ok (.aload_n 0, 1) := dk_42 (dk_at dksX3_reaches_0 18 rfl rfl)
theorem dX3_reaches_19 : decode cX3_reaches 19 = .ok (.getfield 90, 3) := dk_180 0 90 (dk_at dksX3_reaches_0 19 rfl rfl)
theorem dX3_reaches_22 : decode cX3_reaches 22 = .ok (.iload_n 1, 1) := dk_27 (dk_at dksX3_reaches_0 22 rfl rfl)
theorem dX3_reaches_23 : decode cX3_reaches 23 = .ok (.iconst 1, 1) := dk_4 (dk_at dksX3_reaches_0 23 rfl rfl)
theorem dX3_reaches_24 : decode cX3_reaches 24 = .ok (.bastore, 1) := dk_84 (dk_at dksX3_reaches_1 0 rfl rfl)
theorem dX3_reaches_25 : decode cX3_reaches 25 = .ok (.aload_n 0, 1) := dk_42 (dk_at dksX3_reaches_1 1 rfl rfl)
theorem dX3_reaches_26 : decode cX3_reaches 26 = .ok (.getfield 93, 3) := dk_180 0 93 (dk_at dksX3_reaches_1 2 rfl rfl)
theorem dX3_reaches_29 : decode cX3_reaches 29 = .ok (.aload_n 0, 1) := dk_42 (dk_at dksX3_reaches_1 5 rfl rfl)
theorem dX3_reaches_30 : decode cX3_reaches 30 = .ok (.getfield 274, 3) := dk_180 1 18 (dk_at dksX3_reaches_1 6 rfl rfl)
theorem dX3_reaches_33 : decode cX3_reaches 33 = .ok (.iload_n 1, 1) := dk_27 (dk_at dksX3_reaches_1 9 rfl rfl)
theorem dX3_reaches_34 : decode cX3_reaches 34 = .ok (.iastore, 1) := dk_79 (dk_at dksX3_reaches_1 10 rfl rfl)
theorem dX3_reaches_35 : decode cX3_reaches 35 = .ok (.aload_n 0, 1) := dk_42 (dk_at dksX3_reaches_1 11 rfl rfl)
theorem dX3_reaches_36 : decode cX3_reaches 36 = .ok (.dup, 1) := dk_89 (dk_at dksX3_reaches_1 12 rfl rfl)
theorem dX3_reaches_37 : decode cX3_reaches 37 = .ok (.getfield 274, 3) := dk_180 1 18 (dk_at dksX3_reaches_1 13 rfl rfl)
theorem dX3_reaches_40 : decode cX3_reaches 40 = .ok (.iconst 1, 1) := dk_4 (dk_at dksX3_reaches_1 16 rfl rfl)
theorem dX3_reaches_41 : decode cX3_reaches 41 = .ok (.iadd, 1) := dk_96 (dk_at dksX3_reaches_1 17 rfl rfl)
theorem dX3_reaches_42 : decode cX3_reaches 42 = .ok (.putfield 274, 3) := dk_181 1 18 (dk_at dksX3_reaches_1 18 rfl rfl)
theorem dX3_reaches_45 : decode cX3_reaches 45 = .ok (.return_, 1) := dk_177 (dk_at dksX3_reaches_1 21 rfl rfl)
abbrev cX3_run : ByteArray := prog_12_method_80_code
def yX3_run : MethodName := ⟨RX3, "run", "(I)I"⟩
def dkwX3_run_4 : List UInt8 := [4, 96, 79, 132, 2, 1, 42, 29, 182, 1, 40, 62, 167, 255, 222, 42, 4, 181, 0, 110, 28, 172]
abbrev dktX3_run_4 : List UInt8 := dkwX3_run_4 ++ []
def dkwX3_run_3 : List UInt8 := [27, 62, 28, 17, 0, 200, 162, 0, 33, 42, 29, 182, 0, 155, 153, 0, 25, 42, 180, 0, 81, 29, 92, 46]
abbrev dktX3_run_3 : List UInt8 := dkwX3_run_3 ++ dktX3_run_4
def dkwX3_run_2 : List UInt8 := [180, 0, 84, 28, 3, 79, 132, 2, 1, 167, 255, 241, 42, 3, 181, 1, 24, 42, 3, 181, 1, 37, 3, 61]
abbrev dktX3_run_2 : List UInt8 := dkwX3_run_2 ++ dktX3_run_3
def dkwX3_run_1 : List UInt8 := [162, 0, 16, 42, 180, 0, 81, 28, 3, 79, 132, 2, 1, 167, 255, 240, 3, 61, 28, 7, 162, 0, 16, 42]
abbrev dktX3_run_1 : List UInt8 := dkwX3_run_1 ++ dktX3_run_2
def dkwX3_run_0 : List UInt8 := [42, 3, 181, 0, 96, 42, 27, 182, 0, 127, 154, 0, 9, 42, 4, 182, 0, 113, 172, 3, 61, 28, 16, 96]
abbrev dktX3_run_0 : List UInt8 := dkwX3_run_0 ++ dktX3_run_1
theorem dksX3_run_0 : cX3_run.data.toList.drop 0 = dktX3_run_0 := by decide +kernel
theorem dksX3_run_1 : cX3_run.data.toList.drop 24 = dktX3_run_1 := dk_seg dksX3_run_0 24 rfl rfl
theorem dksX3_run_2 : cX3_run.data.toList.drop 48 = dktX3_run_2 := dk_seg dksX3_run_1 24 rfl rfl
theorem dksX3_run_3 : cX3_run.data.toList.drop 72 = dktX3_run_3 := dk_seg dksX3_run_2 24 rfl rfl
theorem dksX3_run_4 : cX3_run.data.toList.drop 96 = dktX3_run_4 := dk_seg dksX3_run_3 24 rfl rfl
theorem dX3_run_0 : decode cX3_run 0 = .ok (.aload_n 0, 1) := dk_42 (dk_at dksX3_run_0 0 rfl rfl)
theorem dX3_run_1 : decode cX3_run 1 = .ok (.iconst 0, 1) := dk_3 (dk_at dksX3_run_0 1 rfl rfl)
theorem dX3_run_2 : decode cX3_run 2 = .ok (.putfield 96, 3) := dk_181 0 96 (dk_at dksX3_run_0 2 rfl rfl)
theorem dX3_run_5 : decode cX3_run 5 = .ok (.aload_n 0, 1) := dk_42 (dk_at dksX3_run_0 5 rfl rfl)
theorem dX3_run_6 : decode cX3_run 6 = .ok (.iload_n 1, 1) := dk_27 (dk_at dksX3_run_0 6 rfl rfl)
theorem dX3_run_7 : decode cX3_run 7 = .ok (.invokevirtual 127, 3) := dk_182 0 127 (dk_at dksX3_run_0 7 rfl rfl)
theorem dX3_run_10 : decode cX3_run 10 = .ok (.ifCond .ne 9, 3) := dk_154 0 9 (dk_at dksX3_run_0 10 rfl rfl)
theorem dX3_run_13 : decode cX3_run 13 = .ok (.aload_n 0, 1) := dk_42 (dk_at dksX3_run_0 13 rfl rfl)
theorem dX3_run_14 : decode cX3_run 14 = .ok (.iconst 1, 1) := dk_4 (dk_at dksX3_run_0 14 rfl rfl)
theorem dX3_run_15 : decode cX3_run 15 = .ok (.invokevirtual 113, 3) := dk_182 0 113 (dk_at dksX3_run_0 15 rfl rfl)
theorem dX3_run_18 : decode cX3_run 18 = .ok (.ireturn, 1) := dk_172 (dk_at dksX3_run_0 18 rfl rfl)
theorem dX3_run_19 : decode cX3_run 19 = .ok (.iconst 0, 1) := dk_3 (dk_at dksX3_run_0 19 rfl rfl)
theorem dX3_run_20 : decode cX3_run 20 = .ok (.istore_n 2, 1) := dk_61 (dk_at dksX3_run_0 20 rfl rfl)
theorem dX3_run_21 : decode cX3_run 21 = .ok (.iload_n 2, 1) := dk_28 (dk_at dksX3_run_0 21 rfl rfl)
theorem dX3_run_22 : decode cX3_run 22 = .ok (.bipush 96, 2) := dk_16 96 (dk_at dksX3_run_0 22 rfl rfl)
theorem dX3_run_24 : decode cX3_run 24 = .ok (.if_icmp .ge 16, 3) := dk_162 0 16 (dk_at dksX3_run_1 0 rfl rfl)
theorem dX3_run_27 : decode cX3_run 27 = .ok (.aload_n 0, 1) := dk_42 (dk_at dksX3_run_1 3 rfl rfl)
theorem dX3_run_28 : decode cX3_run 28 = .ok (.getfield 81, 3) := dk_180 0 81 (dk_at dksX3_run_1 4 rfl rfl)
theorem dX3_run_31 : decode cX3_run 31 = .ok (.iload_n 2, 1) := dk_28 (dk_at dksX3_run_1 7 rfl rfl)
theorem dX3_run_32 : decode cX3_run 32 = .ok (.iconst 0, 1) := dk_3 (dk_at dksX3_run_1 8 rfl rfl)
theorem dX3_run_33 : decode cX3_run 33 = .ok (.iastore, 1) := dk_79 (dk_at dksX3_run_1 9 rfl rfl)
theorem dX3_run_34 : decode cX3_run 34 = .ok (.iinc 2 1, 3) := dk_132 2 1 (dk_at dksX3_run_1 10 rfl rfl)
theorem dX3_run_37 : decode cX3_run 37 = .ok (.goto (-16), 3) := dk_167 255 240 (dk_at dksX3_run_1 13 rfl rfl)
theorem dX3_run_40 : decode cX3_run 40 = .ok (.iconst 0, 1) := dk_3 (dk_at dksX3_run_1 16 rfl rfl)
theorem dX3_run_41 : decode cX3_run 41 = .ok (.istore_n 2, 1) := dk_61 (dk_at dksX3_run_1 17 rfl rfl)
theorem dX3_run_42 : decode cX3_run 42 = .ok (.iload_n 2, 1) := dk_28 (dk_at dksX3_run_1 18 rfl rfl)
theorem dX3_run_43 : decode cX3_run 43 = .ok (.iconst 4, 1) := dk_7 (dk_at dksX3_run_1 19 rfl rfl)
theorem dX3_run_44 : decode cX3_run 44 = .ok (.if_icmp .ge 16, 3) := dk_162 0 16 (dk_at dksX3_run_1 20 rfl rfl)
theorem dX3_run_47 : decode cX3_run 47 = .ok (.aload_n 0, 1) := dk_42 (dk_at dksX3_run_1 23 rfl rfl)
theorem dX3_run_48 : decode cX3_run 48 = .ok (.getfield 84, 3) := dk_180 0 84 (dk_at dksX3_run_2 0 rfl rfl)
theorem dX3_run_51 : decode cX3_run 51 = .ok (.iload_n 2, 1) := dk_28 (dk_at dksX3_run_2 3 rfl rfl)
theorem dX3_run_52 : decode cX3_run 52 = .ok (.iconst 0, 1) := dk_3 (dk_at dksX3_run_2 4 rfl rfl)
theorem dX3_run_53 : decode cX3_run 53 = .ok (.iastore, 1) := dk_79 (dk_at dksX3_run_2 5 rfl rfl)
theorem dX3_run_54 : decode cX3_run 54 = .ok (.iinc 2 1, 3) := dk_132 2 1 (dk_at dksX3_run_2 6 rfl rfl)
theorem dX3_run_57 : decode cX3_run 57 = .ok (.goto (-15), 3) := dk_167 255 241 (dk_at dksX3_run_2 9 rfl rfl)
theorem dX3_run_60 : decode cX3_run 60 = .ok (.aload_n 0, 1) := dk_42 (dk_at dksX3_run_2 12 rfl rfl)
theorem dX3_run_61 : decode cX3_run 61 = .ok (.iconst 0, 1) := dk_3 (dk_at dksX3_run_2 13 rfl rfl)
theorem dX3_run_62 : decode cX3_run 62 = .ok (.putfield 280, 3) := dk_181 1 24 (dk_at dksX3_run_2 14 rfl rfl)
theorem dX3_run_65 : decode cX3_run 65 = .ok (.aload_n 0, 1) := dk_42 (dk_at dksX3_run_2 17 rfl rfl)
theorem dX3_run_66 : decode cX3_run 66 = .ok (.iconst 0, 1) := dk_3 (dk_at dksX3_run_2 18 rfl rfl)
theorem dX3_run_67 : decode cX3_run 67 = .ok (.putfield 293, 3) := dk_181 1 37 (dk_at dksX3_run_2 19 rfl rfl)
theorem dX3_run_70 : decode cX3_run 70 = .ok (.iconst 0, 1) := dk_3 (dk_at dksX3_run_2 22 rfl rfl)
theorem dX3_run_71 : decode cX3_run 71 = .ok (.istore_n 2, 1) := dk_61 (dk_at dksX3_run_2 23 rfl rfl)
theorem dX3_run_72 : decode cX3_run 72 = .ok (.iload_n 1, 1) := dk_27 (dk_at dksX3_run_3 0 rfl rfl)
theorem dX3_run_73 : decode cX3_run 73 = .ok (.istore_n 3, 1) := dk_62 (dk_at dksX3_run_3 1 rfl rfl)
theorem dX3_run_74 : decode cX3_run 74 = .ok (.iload_n 2, 1) := dk_28 (dk_at dksX3_run_3 2 rfl rfl)
theorem dX3_run_75 : decode cX3_run 75 = .ok (.sipush 200, 3) := dk_17 0 200 (dk_at dksX3_run_3 3 rfl rfl)
theorem dX3_run_78 : decode cX3_run 78 = .ok (.if_icmp .ge 33, 3) := dk_162 0 33 (dk_at dksX3_run_3 6 rfl rfl)
theorem dX3_run_81 : decode cX3_run 81 = .ok (.aload_n 0, 1) := dk_42 (dk_at dksX3_run_3 9 rfl rfl)
theorem dX3_run_82 : decode cX3_run 82 = .ok (.iload_n 3, 1) := dk_29 (dk_at dksX3_run_3 10 rfl rfl)
theorem dX3_run_83 : decode cX3_run 83 = .ok (.invokevirtual 155, 3) := dk_182 0 155 (dk_at dksX3_run_3 11 rfl rfl)
theorem dX3_run_86 : decode cX3_run 86 = .ok (.ifCond .eq 25, 3) := dk_153 0 25 (dk_at dksX3_run_3 14 rfl rfl)
theorem dX3_run_89 : decode cX3_run 89 = .ok (.aload_n 0, 1) := dk_42 (dk_at dksX3_run_3 17 rfl rfl)
theorem dX3_run_90 : decode cX3_run 90 = .ok (.getfield 81, 3) := dk_180 0 81 (dk_at dksX3_run_3 18 rfl rfl)
theorem dX3_run_93 : decode cX3_run 93 = .ok (.iload_n 3, 1) := dk_29 (dk_at dksX3_run_3 21 rfl rfl)
theorem dX3_run_94 : decode cX3_run 94 = .ok (.dup2, 1) := dk_92 (dk_at dksX3_run_3 22 rfl rfl)
theorem dX3_run_95 : decode cX3_run 95 = .ok (.iaload, 1) := dk_46 (dk_at dksX3_run_3 23 rfl rfl)
theorem dX3_run_96 : decode cX3_run 96 = .ok (.iconst 1, 1) := dk_4 (dk_at dksX3_run_4 0 rfl rfl)
theorem dX3_run_97 : decode cX3_run 97 = .ok (.iadd, 1) := dk_96 (dk_at dksX3_run_4 1 rfl rfl)
theorem dX3_run_98 : decode cX3_run 98 = .ok (.iastore, 1) := dk_79 (dk_at dksX3_run_4 2 rfl rfl)
theorem dX3_run_99 : decode cX3_run 99 = .ok (.iinc 2 1, 3) := dk_132 2 1 (dk_at dksX3_run_4 3 rfl rfl)
theorem dX3_run_102 : decode cX3_run 102 = .ok (.aload_n 0, 1) := dk_42 (dk_at dksX3_run_4 6 rfl rfl)
theorem dX3_run_103 : decode cX3_run 103 = .ok (.iload_n 3, 1) := dk_29 (dk_at dksX3_run_4 7 rfl rfl)
theorem dX3_run_104 : decode cX3_run 104 = .ok (.invokevirtual 296, 3) := dk_182 1 40 (dk_at dksX3_run_4 8 rfl rfl)
theorem dX3_run_107 : decode cX3_run 107 = .ok (.istore_n 3, 1) := dk_62 (dk_at dksX3_run_4 11 rfl rfl)
theorem dX3_run_108 : decode cX3_run 108 = .ok (.goto (-34), 3) := dk_167 255 222 (dk_at dksX3_run_4 12 rfl rfl)
theorem dX3_run_111 : decode cX3_run 111 = .ok (.aload_n 0, 1) := dk_42 (dk_at dksX3_run_4 15 rfl rfl)
theorem dX3_run_112 : decode cX3_run 112 = .ok (.iconst 1, 1) := dk_4 (dk_at dksX3_run_4 16 rfl rfl)
theorem dX3_run_113 : decode cX3_run 113 = .ok (.putfield 110, 3) := dk_181 0 110 (dk_at dksX3_run_4 17 rfl rfl)
theorem dX3_run_116 : decode cX3_run 116 = .ok (.iload_n 2, 1) := dk_28 (dk_at dksX3_run_4 20 rfl rfl)
theorem dX3_run_117 : decode cX3_run 117 = .ok (.ireturn, 1) := dk_172 (dk_at dksX3_run_4 21 rfl rfl)
abbrev cX3_executes : ByteArray := prog_12_method_76_code
def yX3_executes : MethodName := ⟨RX3, "executes", "(I)I"⟩
def dkwX3_executes_12 : List UInt8 := [29, 172]
abbrev dktX3_executes_12 : List UInt8 := dkwX3_executes_12 ++ []
def dkwX3_executes_11 : List UInt8 := [180, 0, 84, 21, 5, 46, 79, 29, 172, 42, 180, 0, 84, 28, 92, 46, 21, 4, 126, 79, 29, 172, 2, 172]
abbrev dktX3_executes_11 : List UInt8 := dkwX3_executes_11 ++ dktX3_executes_12
def dkwX3_executes_10 : List UInt8 := [96, 46, 167, 0, 4, 2, 172, 42, 28, 21, 4, 29, 182, 1, 33, 172, 42, 180, 0, 84, 28, 42]
abbrev dktX3_executes_10 : List UInt8 := dkwX3_executes_10 ++ dktX3_executes_11
def dkwX3_executes_9 : List UInt8 := [180, 0, 84, 28, 46, 96, 182, 0, 127, 153, 0, 20, 42, 180, 0, 9, 21, 4, 42, 180, 0, 84, 28, 46]
abbrev dktX3_executes_9 : List UInt8 := dkwX3_executes_9 ++ dktX3_executes_10
def dkwX3_executes_8 : List UInt8 := [42, 27, 182, 0, 149, 172, 42, 27, 29, 182, 1, 27, 172, 42, 182, 1, 30, 172, 42, 21, 4, 42]
abbrev dktX3_executes_8 : List UInt8 := dkwX3_executes_8 ++ dktX3_executes_9
def dkwX3_executes_7 : List UInt8 := [153, 0, 11, 42, 27, 182, 0, 149, 167, 0, 4, 29, 172, 42, 180, 1, 24, 153, 0, 7, 29, 167, 0, 8]
abbrev dktX3_executes_7 : List UInt8 := dkwX3_executes_7 ++ dktX3_executes_8
def dkwX3_executes_6 : List UInt8 := [162, 0, 7, 4, 167, 0, 4, 3, 181, 1, 24, 29, 172, 42, 27, 182, 0, 149, 172, 42, 180, 1, 24]
abbrev dktX3_executes_6 : List UInt8 := dkwX3_executes_6 ++ dktX3_executes_7
def dkwX3_executes_5 : List UInt8 := [180, 0, 84, 21, 5, 46, 96, 17, 1, 0, 112, 79, 29, 172, 42, 42, 180, 0, 84, 28, 46, 21, 4]
abbrev dktX3_executes_5 : List UInt8 := dkwX3_executes_5 ++ dktX3_executes_6
def dkwX3_executes_4 : List UInt8 := [42, 180, 0, 84, 28, 21, 4, 79, 29, 172, 42, 180, 0, 84, 28, 42, 180, 0, 84, 28, 46, 42]
abbrev dktX3_executes_4 : List UInt8 := dkwX3_executes_4 ++ dktX3_executes_5
def dkwX3_executes_3 : List UInt8 := [170, 0, 0, 0, 249, 0, 0, 0, 1, 0, 0, 0, 13, 0, 0, 0, 65, 0, 0, 0, 75, 0, 0, 0, 101, 0, 0, 0, 123, 0, 0, 0, 129, 0, 0, 0, 146, 0, 0, 0, 163, 0, 0, 0, 170, 0, 0, 0, 175, 0, 0, 0, 210, 0, 0, 0, 219, 0, 0, 0, 234, 0, 0, 0, 247]
abbrev dktX3_executes_3 : List UInt8 := dkwX3_executes_3 ++ dktX3_executes_4
def dkwX3_executes_2 : List UInt8 := [6, 126, 54, 5, 42, 27, 182, 0, 140]
abbrev dktX3_executes_2 : List UInt8 := dkwX3_executes_2 ++ dktX3_executes_3
def dkwX3_executes_1 : List UInt8 := [184, 0, 143, 5, 160, 0, 11, 42, 27, 182, 0, 137, 167, 0, 4, 3, 54, 4, 42, 180, 0, 9, 27, 46]
abbrev dktX3_executes_1 : List UInt8 := dkwX3_executes_1 ++ dktX3_executes_2
def dkwX3_executes_0 : List UInt8 := [42, 27, 182, 0, 158, 61, 27, 42, 27, 182, 0, 140, 184, 0, 143, 96, 62, 42, 27, 182, 0, 140]
abbrev dktX3_executes_0 : List UInt8 := dkwX3_executes_0 ++ dktX3_executes_1
theorem dksX3_executes_0 : cX3_executes.data.toList.drop 0 = dktX3_executes_0 := by decide +kernel
theorem dksX3_executes_1 : cX3_executes.data.toList.drop 22 = dktX3_executes_1 := dk_seg dksX3_executes_0 22 rfl rfl
theorem dksX3_executes_2 : cX3_executes.data.toList.drop 46 = dktX3_executes_2 := dk_seg dksX3_executes_1 24 rfl rfl
theorem dksX3_executes_3 : cX3_executes.data.toList.drop 55 = dktX3_executes_3 := dk_seg dksX3_executes_2 9 rfl rfl
theorem dksX3_executes_4 : cX3_executes.data.toList.drop 120 = dktX3_executes_4 := dk_seg dksX3_executes_3 65 rfl rfl
theorem dksX3_executes_5 : cX3_executes.data.toList.drop 142 = dktX3_executes_5 := dk_seg dksX3_executes_4 22 rfl rfl
theorem dksX3_executes_6 : cX3_executes.data.toList.drop 165 = dktX3_executes_6 := dk_seg dksX3_executes_5 23 rfl rfl
theorem dksX3_executes_7 : cX3_executes.data.toList.drop 188 = dktX3_executes_7 := dk_seg dksX3_executes_6 23 rfl rfl
theorem dksX3_executes_8 : cX3_executes.data.toList.drop 212 = dktX3_executes_8 := dk_seg dksX3_executes_7 24 rfl rfl
theorem dksX3_executes_9 : cX3_executes.data.toList.drop 234 = dktX3_executes_9 := dk_seg dksX3_executes_8 22 rfl rfl
theorem dksX3_executes_10 : cX3_executes.data.toList.drop 258 = dktX3_executes_10 := dk_seg dksX3_executes_9 24 rfl rfl
theorem dksX3_executes_11 : cX3_executes.data.toList.drop 280 = dktX3_executes_11 := dk_seg dksX3_executes_10 22 rfl rfl
theorem dksX3_executes_12 : cX3_executes.data.toList.drop 304 = dktX3_executes_12 := dk_seg dksX3_executes_11 24 rfl rfl
theorem dX3_executes_0 : decode cX3_executes 0 = .ok (.aload_n 0, 1) := dk_42 (dk_at dksX3_executes_0 0 rfl rfl)
theorem dX3_executes_1 : decode cX3_executes 1 = .ok (.iload_n 1, 1) := dk_27 (dk_at dksX3_executes_0 1 rfl rfl)
theorem dX3_executes_2 : decode cX3_executes 2 = .ok (.invokevirtual 158, 3) := dk_182 0 158 (dk_at dksX3_executes_0 2 rfl rfl)
theorem dX3_executes_5 : decode cX3_executes 5 = .ok (.istore_n 2, 1) := dk_61 (dk_at dksX3_executes_0 5 rfl rfl)
theorem dX3_executes_6 : decode cX3_executes 6 = .ok (.iload_n 1, 1) := dk_27 (dk_at dksX3_executes_0 6 rfl rfl)
theorem dX3_executes_7 : decode cX3_executes 7 = .ok (.aload_n 0, 1) := dk_42 (dk_at dksX3_executes_0 7 rfl rfl)
theorem dX3_executes_8 : decode cX3_executes 8 = .ok (.iload_n 1, 1) := dk_27 (dk_at dksX3_executes_0 8 rfl rfl)
theorem dX3_executes_9 : decode cX3_executes 9 = .ok (.invokevirtual 140, 3) := dk_182 0 140 (dk_at dksX3_executes_0 9 rfl rfl)
theorem dX3_executes_12 : decode cX3_executes 12 = .ok (.invokestatic 143, 3) := dk_184 0 143 (dk_at dksX3_executes_0 12 rfl rfl)
theorem dX3_executes_15 : decode cX3_executes 15 = .ok (.iadd, 1) := dk_96 (dk_at dksX3_executes_0 15 rfl rfl)
theorem dX3_executes_16 : decode cX3_executes 16 = .ok (.istore_n 3, 1) := dk_62 (dk_at dksX3_executes_0 16 rfl rfl)
theorem dX3_executes_17 : decode cX3_executes 17 = .ok (.aload_n 0, 1) := dk_42 (dk_at dksX3_executes_0 17 rfl rfl)
theorem dX3_executes_18 : decode cX3_executes 18 = .ok (.iload_n 1, 1) := dk_27 (dk_at dksX3_executes_0 18 rfl rfl)
theorem dX3_executes_19 : decode cX3_executes 19 = .ok (.invokevirtual 140, 3) := dk_182 0 140 (dk_at dksX3_executes_0 19 rfl rfl)
theorem dX3_executes_22 : decode cX3_executes 22 = .ok (.invokestatic 143, 3) := dk_184 0 143 (dk_at dksX3_executes_1 0 rfl rfl)
theorem dX3_executes_25 : decode cX3_executes 25 = .ok (.iconst 2, 1) := dk_5 (dk_at dksX3_executes_1 3 rfl rfl)
theorem dX3_executes_26 : decode cX3_executes 26 = .ok (.if_icmp .ne 11, 3) := dk_160 0 11 (dk_at dksX3_executes_1 4 rfl rfl)
theorem dX3_executes_29 : decode cX3_executes 29 = .ok (.aload_n 0, 1) := dk_42 (dk_at dksX3_executes_1 7 rfl rfl)
theorem dX3_executes_30 : decode cX3_executes 30 = .ok (.iload_n 1, 1) := dk_27 (dk_at dksX3_executes_1 8 rfl rfl)
theorem dX3_executes_31 : decode cX3_executes 31 = .ok (.invokevirtual 137, 3) := dk_182 0 137 (dk_at dksX3_executes_1 9 rfl rfl)
theorem dX3_executes_34 : decode cX3_executes 34 = .ok (.goto 4, 3) := dk_167 0 4 (dk_at dksX3_executes_1 12 rfl rfl)
theorem dX3_executes_37 : decode cX3_executes 37 = .ok (.iconst 0, 1) := dk_3 (dk_at dksX3_executes_1 15 rfl rfl)
theorem dX3_executes_38 : decode cX3_executes 38 = .ok (.istore 4, 2) := dk_54 4 (dk_at dksX3_executes_1 16 rfl rfl)
theorem dX3_executes_40 : decode cX3_executes 40 = .ok (.aload_n 0, 1) := dk_42 (dk_at dksX3_executes_1 18 rfl rfl)
theorem dX3_executes_41 : decode cX3_executes 41 = .ok (.getfield 9, 3) := dk_180 0 9 (dk_at dksX3_executes_1 19 rfl rfl)
theorem dX3_executes_44 : decode cX3_executes 44 = .ok (.iload_n 1, 1) := dk_27 (dk_at dksX3_executes_1 22 rfl rfl)
theorem dX3_executes_45 : decode cX3_executes 45 = .ok (.iaload, 1) := dk_46 (dk_at dksX3_executes_1 23 rfl rfl)
theorem dX3_executes_46 : decode cX3_executes 46 = .ok (.iconst 3, 1) := dk_6 (dk_at dksX3_executes_2 0 rfl rfl)
theorem dX3_executes_47 : decode cX3_executes 47 = .ok (.iand, 1) := dk_126 (dk_at dksX3_executes_2 1 rfl rfl)
theorem dX3_executes_48 : decode cX3_executes 48 = .ok (.istore 5, 2) := dk_54 5 (dk_at dksX3_executes_2 2 rfl rfl)
theorem dX3_executes_50 : decode cX3_executes 50 = .ok (.aload_n 0, 1) := dk_42 (dk_at dksX3_executes_2 4 rfl rfl)
theorem dX3_executes_51 : decode cX3_executes 51 = .ok (.iload_n 1, 1) := dk_27 (dk_at dksX3_executes_2 5 rfl rfl)
theorem dX3_executes_52 : decode cX3_executes 52 = .ok (.invokevirtual 140, 3) := dk_182 0 140 (dk_at dksX3_executes_2 6 rfl rfl)
theorem dX3_executes_55 : decode cX3_executes 55 = .ok (.tableswitch 249 1 13 #[65, 75, 101, 123, 129, 146, 163, 170, 175, 210, 219, 234, 247], 65) := by decide +kernel
theorem dX3_executes_120 : decode cX3_executes 120 = .ok (.aload_n 0, 1) := dk_42 (dk_at dksX3_executes_4 0 rfl rfl)
theorem dX3_executes_121 : decode cX3_executes 121 = .ok (.getfield 84, 3) := dk_180 0 84 (dk_at dksX3_executes_4 1 rfl rfl)
theorem dX3_executes_124 : decode cX3_executes 124 = .ok (.iload_n 2, 1) := dk_28 (dk_at dksX3_executes_4 4 rfl rfl)
theorem dX3_executes_125 : decode cX3_executes 125 = .ok (.iload 4, 2) := dk_21 4 (dk_at dksX3_executes_4 5 rfl rfl)
theorem dX3_executes_127 : decode cX3_executes 127 = .ok (.iastore, 1) := dk_79 (dk_at dksX3_executes_4 7 rfl rfl)
theorem dX3_executes_128 : decode cX3_executes 128 = .ok (.iload_n 3, 1) := dk_29 (dk_at dksX3_executes_4 8 rfl rfl)
theorem dX3_executes_129 : decode cX3_executes 129 = .ok (.ireturn, 1) := dk_172 (dk_at dksX3_executes_4 9 rfl rfl)
theorem dX3_executes_130 : decode cX3_executes 130 = .ok (.aload_n 0, 1) := dk_42 (dk_at dksX3_executes_4 10 rfl rfl)
theorem dX3_executes_131 : decode cX3_executes 131 = .ok (.getfield 84, 3) := dk_180 0 84 (dk_at dksX3_executes_4 11 rfl rfl)
theorem dX3_executes_134 : decode cX3_executes 134 = .ok (.iload_n 2, 1) := dk_28 (dk_at dksX3_executes_4 14 rfl rfl)
theorem dX3_executes_135 : decode cX3_executes 135 = .ok (.aload_n 0, 1) := dk_42 (dk_at dksX3_executes_4 15 rfl rfl)
theorem dX3_executes_136 : decode cX3_executes 136 = .ok (.getfield 84, 3) := dk_180 0 84 (dk_at dksX3_executes_4 16 rfl rfl)
theorem dX3_executes_139 : decode cX3_executes 139 = .ok (.iload_n 2, 1) := dk_28 (dk_at dksX3_executes_4 19 rfl rfl)
theorem dX3_executes_140 : decode cX3_executes 140 = .ok (.iaload, 1) := dk_46 (dk_at dksX3_executes_4 20 rfl rfl)
theorem dX3_executes_141 : decode cX3_executes 141 = .ok (.aload_n 0, 1) := dk_42 (dk_at dksX3_executes_4 21 rfl rfl)
theorem dX3_executes_142 : decode cX3_executes 142 = .ok (.getfield 84, 3) := dk_180 0 84 (dk_at dksX3_executes_5 0 rfl rfl)
theorem dX3_executes_145 : decode cX3_executes 145 = .ok (.iload 5, 2) := dk_21 5 (dk_at dksX3_executes_5 3 rfl rfl)
theorem dX3_executes_147 : decode cX3_executes 147 = .ok (.iaload, 1) := dk_46 (dk_at dksX3_executes_5 5 rfl rfl)
theorem dX3_executes_148 : decode cX3_executes 148 = .ok (.iadd, 1) := dk_96 (dk_at dksX3_executes_5 6 rfl rfl)
theorem dX3_executes_149 : decode cX3_executes 149 = .ok (.sipush 256, 3) := dk_17 1 0 (dk_at dksX3_executes_5 7 rfl rfl)
theorem dX3_executes_152 : decode cX3_executes 152 = .ok (.irem, 1) := dk_112 (dk_at dksX3_executes_5 10 rfl rfl)
theorem dX3_executes_153 : decode cX3_executes 153 = .ok (.iastore, 1) := dk_79 (dk_at dksX3_executes_5 11 rfl rfl)
theorem dX3_executes_154 : decode cX3_executes 154 = .ok (.iload_n 3, 1) := dk_29 (dk_at dksX3_executes_5 12 rfl rfl)
theorem dX3_executes_155 : decode cX3_executes 155 = .ok (.ireturn, 1) := dk_172 (dk_at dksX3_executes_5 13 rfl rfl)
theorem dX3_executes_156 : decode cX3_executes 156 = .ok (.aload_n 0, 1) := dk_42 (dk_at dksX3_executes_5 14 rfl rfl)
theorem dX3_executes_157 : decode cX3_executes 157 = .ok (.aload_n 0, 1) := dk_42 (dk_at dksX3_executes_5 15 rfl rfl)
theorem dX3_executes_158 : decode cX3_executes 158 = .ok (.getfield 84, 3) := dk_180 0 84 (dk_at dksX3_executes_5 16 rfl rfl)
theorem dX3_executes_161 : decode cX3_executes 161 = .ok (.iload_n 2, 1) := dk_28 (dk_at dksX3_executes_5 19 rfl rfl)
theorem dX3_executes_162 : decode cX3_executes 162 = .ok (.iaload, 1) := dk_46 (dk_at dksX3_executes_5 20 rfl rfl)
theorem dX3_executes_163 : decode cX3_executes 163 = .ok (.iload 4, 2) := dk_21 4 (dk_at dksX3_executes_5 21 rfl rfl)
theorem dX3_executes_165 : decode cX3_executes 165 = .ok (.if_icmp .ge 7, 3) := dk_162 0 7 (dk_at dksX3_executes_6 0 rfl rfl)
theorem dX3_executes_168 : decode cX3_executes 168 = .ok (.iconst 1, 1) := dk_4 (dk_at dksX3_executes_6 3 rfl rfl)
theorem dX3_executes_169 : decode cX3_executes 169 = .ok (.goto 4, 3) := dk_167 0 4 (dk_at dksX3_executes_6 4 rfl rfl)
theorem dX3_executes_172 : decode cX3_executes 172 = .ok (.iconst 0, 1) := dk_3 (dk_at dksX3_executes_6 7 rfl rfl)
theorem dX3_executes_173 : decode cX3_executes 173 = .ok (.putfield 280, 3) := dk_181 1 24 (dk_at dksX3_executes_6 8 rfl rfl)
theorem dX3_executes_176 : decode cX3_executes 176 = .ok (.iload_n 3, 1) := dk_29 (dk_at dksX3_executes_6 11 rfl rfl)
theorem dX3_executes_177 : decode cX3_executes 177 = .ok (.ireturn, 1) := dk_172 (dk_at dksX3_executes_6 12 rfl rfl)
theorem dX3_executes_178 : decode cX3_executes 178 = .ok (.aload_n 0, 1) := dk_42 (dk_at dksX3_executes_6 13 rfl rfl)
theorem dX3_executes_179 : decode cX3_executes 179 = .ok (.iload_n 1, 1) := dk_27 (dk_at dksX3_executes_6 14 rfl rfl)
theorem dX3_executes_180 : decode cX3_executes 180 = .ok (.invokevirtual 149, 3) := dk_182 0 149 (dk_at dksX3_executes_6 15 rfl rfl)
theorem dX3_executes_183 : decode cX3_executes 183 = .ok (.ireturn, 1) := dk_172 (dk_at dksX3_executes_6 18 rfl rfl)
theorem dX3_executes_184 : decode cX3_executes 184 = .ok (.aload_n 0, 1) := dk_42 (dk_at dksX3_executes_6 19 rfl rfl)
theorem dX3_executes_185 : decode cX3_executes 185 = .ok (.getfield 280, 3) := dk_180 1 24 (dk_at dksX3_executes_6 20 rfl rfl)
theorem dX3_executes_188 : decode cX3_executes 188 = .ok (.ifCond .eq 11, 3) := dk_153 0 11 (dk_at dksX3_executes_7 0 rfl rfl)
theorem dX3_executes_191 : decode cX3_executes 191 = .ok (.aload_n 0, 1) := dk_42 (dk_at dksX3_executes_7 3 rfl rfl)
theorem dX3_executes_192 : decode cX3_executes 192 = .ok (.iload_n 1, 1) := dk_27 (dk_at dksX3_executes_7 4 rfl rfl)
theorem dX3_executes_193 : decode cX3_executes 193 = .ok (.invokevirtual 149, 3) := dk_182 0 149 (dk_at dksX3_executes_7 5 rfl rfl)
theorem dX3_executes_196 : decode cX3_executes 196 = .ok (.goto 4, 3) := dk_167 0 4 (dk_at dksX3_executes_7 8 rfl rfl)
theorem dX3_executes_199 : decode cX3_executes 199 = .ok (.iload_n 3, 1) := dk_29 (dk_at dksX3_executes_7 11 rfl rfl)
theorem dX3_executes_200 : decode cX3_executes 200 = .ok (.ireturn, 1) := dk_172 (dk_at dksX3_executes_7 12 rfl rfl)
theorem dX3_executes_201 : decode cX3_executes 201 = .ok (.aload_n 0, 1) := dk_42 (dk_at dksX3_executes_7 13 rfl rfl)
theorem dX3_executes_202 : decode cX3_executes 202 = .ok (.getfield 280, 3) := dk_180 1 24 (dk_at dksX3_executes_7 14 rfl rfl)
theorem dX3_executes_205 : decode cX3_executes 205 = .ok (.ifCond .eq 7, 3) := dk_153 0 7 (dk_at dksX3_executes_7 17 rfl rfl)
theorem dX3_executes_208 : decode cX3_executes 208 = .ok (.iload_n 3, 1) := dk_29 (dk_at dksX3_executes_7 20 rfl rfl)
theorem dX3_executes_209 : decode cX3_executes 209 = .ok (.goto 8, 3) := dk_167 0 8 (dk_at dksX3_executes_7 21 rfl rfl)
theorem dX3_executes_212 : decode cX3_executes 212 = .ok (.aload_n 0, 1) := dk_42 (dk_at dksX3_executes_8 0 rfl rfl)
theorem dX3_executes_213 : decode cX3_executes 213 = .ok (.iload_n 1, 1) := dk_27 (dk_at dksX3_executes_8 1 rfl rfl)
theorem dX3_executes_214 : decode cX3_executes 214 = .ok (.invokevirtual 149, 3) := dk_182 0 149 (dk_at dksX3_executes_8 2 rfl rfl)
theorem dX3_executes_217 : decode cX3_executes 217 = .ok (.ireturn, 1) := dk_172 (dk_at dksX3_executes_8 5 rfl rfl)
theorem dX3_executes_218 : decode cX3_executes 218 = .ok (.aload_n 0, 1) := dk_42 (dk_at dksX3_executes_8 6 rfl rfl)
theorem dX3_executes_219 : decode cX3_executes 219 = .ok (.iload_n 1, 1) := dk_27 (dk_at dksX3_executes_8 7 rfl rfl)
theorem dX3_executes_220 : decode cX3_executes 220 = .ok (.iload_n 3, 1) := dk_29 (dk_at dksX3_executes_8 8 rfl rfl)
theorem dX3_executes_221 : decode cX3_executes 221 = .ok (.invokevirtual 283, 3) := dk_182 1 27 (dk_at dksX3_executes_8 9 rfl rfl)
theorem dX3_executes_224 : decode cX3_executes 224 = .ok (.ireturn, 1) := dk_172 (dk_at dksX3_executes_8 12 rfl rfl)
theorem dX3_executes_225 : decode cX3_executes 225 = .ok (.aload_n 0, 1) := dk_42 (dk_at dksX3_executes_8 13 rfl rfl)
theorem dX3_executes_226 : decode cX3_executes 226 = .ok (.invokevirtual 286, 3) := dk_182 1 30 (dk_at dksX3_executes_8 14 rfl rfl)
theorem dX3_executes_229 : decode cX3_executes 229 = .ok (.ireturn, 1) := dk_172 (dk_at dksX3_executes_8 17 rfl rfl)
theorem dX3_executes_230 : decode cX3_executes 230 = .ok (.aload_n 0, 1) := dk_42 (dk_at dksX3_executes_8 18 rfl rfl)
theorem dX3_executes_231 : decode cX3_executes 231 = .ok (.iload 4, 2) := dk_21 4 (dk_at dksX3_executes_8 19 rfl rfl)
theorem dX3_executes_233 : decode cX3_executes 233 = .ok (.aload_n 0, 1) := dk_42 (dk_at dksX3_executes_8 21 rfl rfl)
theorem dX3_executes_234 : decode cX3_executes 234 = .ok (.getfield 84, 3) := dk_180 0 84 (dk_at dksX3_executes_9 0 rfl rfl)
theorem dX3_executes_237 : decode cX3_executes 237 = .ok (.iload_n 2, 1) := dk_28 (dk_at dksX3_executes_9 3 rfl rfl)
theorem dX3_executes_238 : decode cX3_executes 238 = .ok (.iaload, 1) := dk_46 (dk_at dksX3_executes_9 4 rfl rfl)
theorem dX3_executes_239 : decode cX3_executes 239 = .ok (.iadd, 1) := dk_96 (dk_at dksX3_executes_9 5 rfl rfl)
theorem dX3_executes_240 : decode cX3_executes 240 = .ok (.invokevirtual 127, 3) := dk_182 0 127 (dk_at dksX3_executes_9 6 rfl rfl)
theorem dX3_executes_243 : decode cX3_executes 243 = .ok (.ifCond .eq 20, 3) := dk_153 0 20 (dk_at dksX3_executes_9 9 rfl rfl)
theorem dX3_executes_246 : decode cX3_executes 246 = .ok (.aload_n 0, 1) := dk_42 (dk_at dksX3_executes_9 12 rfl rfl)
theorem dX3_executes_247 : decode cX3_executes 247 = .ok (.getfield 9, 3) := dk_180 0 9 (dk_at dksX3_executes_9 13 rfl rfl)
theorem dX3_executes_250 : decode cX3_executes 250 = .ok (.iload 4, 2) := dk_21 4 (dk_at dksX3_executes_9 16 rfl rfl)
theorem dX3_executes_252 : decode cX3_executes 252 = .ok (.aload_n 0, 1) := dk_42 (dk_at dksX3_executes_9 18 rfl rfl)
theorem dX3_executes_253 : decode cX3_executes 253 = .ok (.getfield 84, 3) := dk_180 0 84 (dk_at dksX3_executes_9 19 rfl rfl)
theorem dX3_executes_256 : decode cX3_executes 256 = .ok (.iload_n 2, 1) := dk_28 (dk_at dksX3_executes_9 22 rfl rfl)
theorem dX3_executes_257 : decode cX3_executes 257 = .ok (.iaload, 1) := dk_46 (dk_at dksX3_executes_9 23 rfl rfl)
theorem dX3_executes_258 : decode cX3_executes 258 = .ok (.iadd, 1) := dk_96 (dk_at dksX3_executes_10 0 rfl rfl)
theorem dX3_executes_259 : decode cX3_executes 259 = .ok (.iaload, 1) := dk_46 (dk_at dksX3_executes_10 1 rfl rfl)
theorem dX3_executes_260 : decode cX3_executes 260 = .ok (.goto 4, 3) := dk_167 0 4 (dk_at dksX3_executes_10 2 rfl rfl)
theorem dX3_executes_263 : decode cX3_executes 263 = .ok (.iconst (-1), 1) := dk_2 (dk_at dksX3_executes_10 5 rfl rfl)
theorem dX3_executes_264 : decode cX3_executes 264 = .ok (.ireturn, 1) := dk_172 (dk_at dksX3_executes_10 6 rfl rfl)
theorem dX3_executes_265 : decode cX3_executes 265 = .ok (.aload_n 0, 1) := dk_42 (dk_at dksX3_executes_10 7 rfl rfl)
theorem dX3_executes_266 : decode cX3_executes 266 = .ok (.iload_n 2, 1) := dk_28 (dk_at dksX3_executes_10 8 rfl rfl)
theorem dX3_executes_267 : decode cX3_executes 267 = .ok (.iload 4, 2) := dk_21 4 (dk_at dksX3_executes_10 9 rfl rfl)
theorem dX3_executes_269 : decode cX3_executes 269 = .ok (.iload_n 3, 1) := dk_29 (dk_at dksX3_executes_10 11 rfl rfl)
theorem dX3_executes_270 : decode cX3_executes 270 = .ok (.invokevirtual 289, 3) := dk_182 1 33 (dk_at dksX3_executes_10 12 rfl rfl)
theorem dX3_executes_273 : decode cX3_executes 273 = .ok (.ireturn, 1) := dk_172 (dk_at dksX3_executes_10 15 rfl rfl)
theorem dX3_executes_274 : decode cX3_executes 274 = .ok (.aload_n 0, 1) := dk_42 (dk_at dksX3_executes_10 16 rfl rfl)
theorem dX3_executes_275 : decode cX3_executes 275 = .ok (.getfield 84, 3) := dk_180 0 84 (dk_at dksX3_executes_10 17 rfl rfl)
theorem dX3_executes_278 : decode cX3_executes 278 = .ok (.iload_n 2, 1) := dk_28 (dk_at dksX3_executes_10 20 rfl rfl)
theorem dX3_executes_279 : decode cX3_executes 279 = .ok (.aload_n 0, 1) := dk_42 (dk_at dksX3_executes_10 21 rfl rfl)
theorem dX3_executes_280 : decode cX3_executes 280 = .ok (.getfield 84, 3) := dk_180 0 84 (dk_at dksX3_executes_11 0 rfl rfl)
theorem dX3_executes_283 : decode cX3_executes 283 = .ok (.iload 5, 2) := dk_21 5 (dk_at dksX3_executes_11 3 rfl rfl)
theorem dX3_executes_285 : decode cX3_executes 285 = .ok (.iaload, 1) := dk_46 (dk_at dksX3_executes_11 5 rfl rfl)
theorem dX3_executes_286 : decode cX3_executes 286 = .ok (.iastore, 1) := dk_79 (dk_at dksX3_executes_11 6 rfl rfl)
theorem dX3_executes_287 : decode cX3_executes 287 = .ok (.iload_n 3, 1) := dk_29 (dk_at dksX3_executes_11 7 rfl rfl)
theorem dX3_executes_288 : decode cX3_executes 288 = .ok (.ireturn, 1) := dk_172 (dk_at dksX3_executes_11 8 rfl rfl)
theorem dX3_executes_289 : decode cX3_executes 289 = .ok (.aload_n 0, 1) := dk_42 (dk_at dksX3_executes_11 9 rfl rfl)
theorem dX3_executes_290 : decode cX3_executes 290 = .ok (.getfield 84, 3) := dk_180 0 84 (dk_at dksX3_executes_11 10 rfl rfl)
theorem dX3_executes_293 : decode cX3_executes 293 = .ok (.iload_n 2, 1) := dk_28 (dk_at dksX3_executes_11 13 rfl rfl)
theorem dX3_executes_294 : decode cX3_executes 294 = .ok (.dup2, 1) := dk_92 (dk_at dksX3_executes_11 14 rfl rfl)
theorem dX3_executes_295 : decode cX3_executes 295 = .ok (.iaload, 1) := dk_46 (dk_at dksX3_executes_11 15 rfl rfl)
theorem dX3_executes_296 : decode cX3_executes 296 = .ok (.iload 4, 2) := dk_21 4 (dk_at dksX3_executes_11 16 rfl rfl)
theorem dX3_executes_298 : decode cX3_executes 298 = .ok (.iand, 1) := dk_126 (dk_at dksX3_executes_11 18 rfl rfl)
theorem dX3_executes_299 : decode cX3_executes 299 = .ok (.iastore, 1) := dk_79 (dk_at dksX3_executes_11 19 rfl rfl)
theorem dX3_executes_300 : decode cX3_executes 300 = .ok (.iload_n 3, 1) := dk_29 (dk_at dksX3_executes_11 20 rfl rfl)
theorem dX3_executes_301 : decode cX3_executes 301 = .ok (.ireturn, 1) := dk_172 (dk_at dksX3_executes_11 21 rfl rfl)
theorem dX3_executes_302 : decode cX3_executes 302 = .ok (.iconst (-1), 1) := dk_2 (dk_at dksX3_executes_11 22 rfl rfl)
theorem dX3_executes_303 : decode cX3_executes 303 = .ok (.ireturn, 1) := dk_172 (dk_at dksX3_executes_11 23 rfl rfl)
theorem dX3_executes_304 : decode cX3_executes 304 = .ok (.iload_n 3, 1) := dk_29 (dk_at dksX3_executes_12 0 rfl rfl)
theorem dX3_executes_305 : decode cX3_executes 305 = .ok (.ireturn, 1) := dk_172 (dk_at dksX3_executes_12 1 rfl rfl)
abbrev cX3_calls : ByteArray := prog_12_method_77_code
def yX3_calls : MethodName := ⟨RX3, "calls", "(II)I"⟩
def dkwX3_calls_1 : List UInt8 := [180, 1, 37, 4, 96, 181, 1, 37, 42, 27, 182, 0, 149, 172]
abbrev dktX3_calls_1 : List UInt8 := dkwX3_calls_1 ++ []
def dkwX3_calls_0 : List UInt8 := [42, 180, 1, 37, 16, 8, 160, 0, 5, 2, 172, 42, 180, 0, 87, 42, 180, 1, 37, 28, 79, 42, 89]
abbrev dktX3_calls_0 : List UInt8 := dkwX3_calls_0 ++ dktX3_calls_1
theorem dksX3_calls_0 : cX3_calls.data.toList.drop 0 = dktX3_calls_0 := by decide +kernel
theorem dksX3_calls_1 : cX3_calls.data.toList.drop 23 = dktX3_calls_1 := dk_seg dksX3_calls_0 23 rfl rfl
theorem dX3_calls_0 : decode cX3_calls 0 = .ok (.aload_n 0, 1) := dk_42 (dk_at dksX3_calls_0 0 rfl rfl)
theorem dX3_calls_1 : decode cX3_calls 1 = .ok (.getfield 293, 3) := dk_180 1 37 (dk_at dksX3_calls_0 1 rfl rfl)
theorem dX3_calls_4 : decode cX3_calls 4 = .ok (.bipush 8, 2) := dk_16 8 (dk_at dksX3_calls_0 4 rfl rfl)
theorem dX3_calls_6 : decode cX3_calls 6 = .ok (.if_icmp .ne 5, 3) := dk_160 0 5 (dk_at dksX3_calls_0 6 rfl rfl)
theorem dX3_calls_9 : decode cX3_calls 9 = .ok (.iconst (-1), 1) := dk_2 (dk_at dksX3_calls_0 9 rfl rfl)
theorem dX3_calls_10 : decode cX3_calls 10 = .ok (.ireturn, 1) := dk_172 (dk_at dksX3_calls_0 10 rfl rfl)
theorem dX3_calls_11 : decode cX3_calls 11 = .ok (.aload_n 0, 1) := dk_42 (dk_at dksX3_calls_0 11 rfl rfl)
theorem dX3_calls_12 : decode cX3_calls 12 = .ok (.getfield 87, 3) := dk_180 0 87 (dk_at dksX3_calls_0 12 rfl rfl)
theorem dX3_calls_15 : decode cX3_calls 15 = .ok (.aload_n 0, 1) := dk_42 (dk_at dksX3_calls_0 15 rfl rfl)
theorem dX3_calls_16 : decode cX3_calls 16 = .ok (.getfield 293, 3) := dk_180 1 37 (dk_at dksX3_calls_0 16 rfl rfl)
theorem dX3_calls_19 : decode cX3_calls 19 = .ok (.iload_n 2, 1) := dk_28 (dk_at dksX3_calls_0 19 rfl rfl)
theorem dX3_calls_20 : decode cX3_calls 20 = .ok (.iastore, 1) := dk_79 (dk_at dksX3_calls_0 20 rfl rfl)
theorem dX3_calls_21 : decode cX3_calls 21 = .ok (.aload_n 0, 1) := dk_42 (dk_at dksX3_calls_0 21 rfl rfl)
theorem dX3_calls_22 : decode cX3_calls 22 = .ok (.dup, 1) := dk_89 (dk_at dksX3_calls_0 22 rfl rfl)
theorem dX3_calls_23 : decode cX3_calls 23 = .ok (.getfield 293, 3) := dk_180 1 37 (dk_at dksX3_calls_1 0 rfl rfl)
theorem dX3_calls_26 : decode cX3_calls 26 = .ok (.iconst 1, 1) := dk_4 (dk_at dksX3_calls_1 3 rfl rfl)
theorem dX3_calls_27 : decode cX3_calls 27 = .ok (.iadd, 1) := dk_96 (dk_at dksX3_calls_1 4 rfl rfl)
theorem dX3_calls_28 : decode cX3_calls 28 = .ok (.putfield 293, 3) := dk_181 1 37 (dk_at dksX3_calls_1 5 rfl rfl)
theorem dX3_calls_31 : decode cX3_calls 31 = .ok (.aload_n 0, 1) := dk_42 (dk_at dksX3_calls_1 8 rfl rfl)
theorem dX3_calls_32 : decode cX3_calls 32 = .ok (.iload_n 1, 1) := dk_27 (dk_at dksX3_calls_1 9 rfl rfl)
theorem dX3_calls_33 : decode cX3_calls 33 = .ok (.invokevirtual 149, 3) := dk_182 0 149 (dk_at dksX3_calls_1 10 rfl rfl)
theorem dX3_calls_36 : decode cX3_calls 36 = .ok (.ireturn, 1) := dk_172 (dk_at dksX3_calls_1 13 rfl rfl)
abbrev cX3_returns : ByteArray := prog_12_method_78_code
def yX3_returns : MethodName := ⟨RX3, "returns", "()I"⟩
def dkwX3_returns_1 : List UInt8 := [180, 1, 37, 46, 172]
abbrev dktX3_returns_1 : List UInt8 := dkwX3_returns_1 ++ []
def dkwX3_returns_0 : List UInt8 := [42, 180, 1, 37, 154, 0, 5, 2, 172, 42, 89, 180, 1, 37, 4, 100, 181, 1, 37, 42, 180, 0, 87, 42]
abbrev dktX3_returns_0 : List UInt8 := dkwX3_returns_0 ++ dktX3_returns_1
theorem dksX3_returns_0 : cX3_returns.data.toList.drop 0 = dktX3_returns_0 := by decide +kernel
theorem dksX3_returns_1 : cX3_returns.data.toList.drop 24 = dktX3_returns_1 := dk_seg dksX3_returns_0 24 rfl rfl
theorem dX3_returns_0 : decode cX3_returns 0 = .ok (.aload_n 0, 1) := dk_42 (dk_at dksX3_returns_0 0 rfl rfl)
theorem dX3_returns_1 : decode cX3_returns 1 = .ok (.getfield 293, 3) := dk_180 1 37 (dk_at dksX3_returns_0 1 rfl rfl)
theorem dX3_returns_4 : decode cX3_returns 4 = .ok (.ifCond .ne 5, 3) := dk_154 0 5 (dk_at dksX3_returns_0 4 rfl rfl)
theorem dX3_returns_7 : decode cX3_returns 7 = .ok (.iconst (-1), 1) := dk_2 (dk_at dksX3_returns_0 7 rfl rfl)
theorem dX3_returns_8 : decode cX3_returns 8 = .ok (.ireturn, 1) := dk_172 (dk_at dksX3_returns_0 8 rfl rfl)
theorem dX3_returns_9 : decode cX3_returns 9 = .ok (.aload_n 0, 1) := dk_42 (dk_at dksX3_returns_0 9 rfl rfl)
theorem dX3_returns_10 : decode cX3_returns 10 = .ok (.dup, 1) := dk_89 (dk_at dksX3_returns_0 10 rfl rfl)
theorem dX3_returns_11 : decode cX3_returns 11 = .ok (.getfield 293, 3) := dk_180 1 37 (dk_at dksX3_returns_0 11 rfl rfl)
theorem dX3_returns_14 : decode cX3_returns 14 = .ok (.iconst 1, 1) := dk_4 (dk_at dksX3_returns_0 14 rfl rfl)
theorem dX3_returns_15 : decode cX3_returns 15 = .ok (.isub, 1) := dk_100 (dk_at dksX3_returns_0 15 rfl rfl)
theorem dX3_returns_16 : decode cX3_returns 16 = .ok (.putfield 293, 3) := dk_181 1 37 (dk_at dksX3_returns_0 16 rfl rfl)
theorem dX3_returns_19 : decode cX3_returns 19 = .ok (.aload_n 0, 1) := dk_42 (dk_at dksX3_returns_0 19 rfl rfl)
theorem dX3_returns_20 : decode cX3_returns 20 = .ok (.getfield 87, 3) := dk_180 0 87 (dk_at dksX3_returns_0 20 rfl rfl)
theorem dX3_returns_23 : decode cX3_returns 23 = .ok (.aload_n 0, 1) := dk_42 (dk_at dksX3_returns_0 23 rfl rfl)
theorem dX3_returns_24 : decode cX3_returns 24 = .ok (.getfield 293, 3) := dk_180 1 37 (dk_at dksX3_returns_1 0 rfl rfl)
theorem dX3_returns_27 : decode cX3_returns 27 = .ok (.iaload, 1) := dk_46 (dk_at dksX3_returns_1 3 rfl rfl)
theorem dX3_returns_28 : decode cX3_returns 28 = .ok (.ireturn, 1) := dk_172 (dk_at dksX3_returns_1 4 rfl rfl)
abbrev cX3_loads : ByteArray := prog_12_method_79_code
def yX3_loads : MethodName := ⟨RX3, "loads", "(III)I"⟩
def dkwX3_loads_0 : List UInt8 := [42, 28, 182, 0, 127, 154, 0, 5, 2, 172, 42, 180, 0, 84, 27, 42, 180, 0, 9, 28, 46, 79, 29, 172]
abbrev dktX3_loads_0 : List UInt8 := dkwX3_loads_0 ++ []
theorem dksX3_loads_0 : cX3_loads.data.toList.drop 0 = dktX3_loads_0 := by decide +kernel
theorem dX3_loads_0 : decode cX3_loads 0 = .ok (.aload_n 0, 1) := dk_42 (dk_at dksX3_loads_0 0 rfl rfl)
theorem dX3_loads_1 : decode cX3_loads 1 = .ok (.iload_n 2, 1) := dk_28 (dk_at dksX3_loads_0 1 rfl rfl)
theorem dX3_loads_2 : decode cX3_loads 2 = .ok (.invokevirtual 127, 3) := dk_182 0 127 (dk_at dksX3_loads_0 2 rfl rfl)
theorem dX3_loads_5 : decode cX3_loads 5 = .ok (.ifCond .ne 5, 3) := dk_154 0 5 (dk_at dksX3_loads_0 5 rfl rfl)
theorem dX3_loads_8 : decode cX3_loads 8 = .ok (.iconst (-1), 1) := dk_2 (dk_at dksX3_loads_0 8 rfl rfl)
theorem dX3_loads_9 : decode cX3_loads 9 = .ok (.ireturn, 1) := dk_172 (dk_at dksX3_loads_0 9 rfl rfl)
theorem dX3_loads_10 : decode cX3_loads 10 = .ok (.aload_n 0, 1) := dk_42 (dk_at dksX3_loads_0 10 rfl rfl)
theorem dX3_loads_11 : decode cX3_loads 11 = .ok (.getfield 84, 3) := dk_180 0 84 (dk_at dksX3_loads_0 11 rfl rfl)
theorem dX3_loads_14 : decode cX3_loads 14 = .ok (.iload_n 1, 1) := dk_27 (dk_at dksX3_loads_0 14 rfl rfl)
theorem dX3_loads_15 : decode cX3_loads 15 = .ok (.aload_n 0, 1) := dk_42 (dk_at dksX3_loads_0 15 rfl rfl)
theorem dX3_loads_16 : decode cX3_loads 16 = .ok (.getfield 9, 3) := dk_180 0 9 (dk_at dksX3_loads_0 16 rfl rfl)
theorem dX3_loads_19 : decode cX3_loads 19 = .ok (.iload_n 2, 1) := dk_28 (dk_at dksX3_loads_0 19 rfl rfl)
theorem dX3_loads_20 : decode cX3_loads 20 = .ok (.iaload, 1) := dk_46 (dk_at dksX3_loads_0 20 rfl rfl)
theorem dX3_loads_21 : decode cX3_loads 21 = .ok (.iastore, 1) := dk_79 (dk_at dksX3_loads_0 21 rfl rfl)
theorem dX3_loads_22 : decode cX3_loads 22 = .ok (.iload_n 3, 1) := dk_29 (dk_at dksX3_loads_0 22 rfl rfl)
theorem dX3_loads_23 : decode cX3_loads 23 = .ok (.ireturn, 1) := dk_172 (dk_at dksX3_loads_0 23 rfl rfl)
abbrev cX3_executedAt : ByteArray := prog_12_method_81_code
def yX3_executedAt : MethodName := ⟨RX3, "executedAt", "(I)I"⟩
def dkwX3_executedAt_1 : List UInt8 := [4, 181, 0, 96, 42, 180, 0, 96, 154, 0, 12, 42, 180, 0, 81, 27, 46, 167, 0, 4, 3, 172]
abbrev dktX3_executedAt_1 : List UInt8 := dkwX3_executedAt_1 ++ []
def dkwX3_executedAt_0 : List UInt8 := [42, 42, 180, 0, 110, 153, 0, 19, 42, 27, 182, 0, 127, 153, 0, 7, 3, 167, 0, 8, 5, 167, 0, 4]
abbrev dktX3_executedAt_0 : List UInt8 := dkwX3_executedAt_0 ++ dktX3_executedAt_1
theorem dksX3_executedAt_0 : cX3_executedAt.data.toList.drop 0 = dktX3_executedAt_0 := by decide +kernel
theorem dksX3_executedAt_1 : cX3_executedAt.data.toList.drop 24 = dktX3_executedAt_1 := dk_seg dksX3_executedAt_0 24 rfl rfl
theorem dX3_executedAt_0 : decode cX3_executedAt 0 = .ok (.aload_n 0, 1) := dk_42 (dk_at dksX3_executedAt_0 0 rfl rfl)
theorem dX3_executedAt_1 : decode cX3_executedAt 1 = .ok (.aload_n 0, 1) := dk_42 (dk_at dksX3_executedAt_0 1 rfl rfl)
theorem dX3_executedAt_2 : decode cX3_executedAt 2 = .ok (.getfield 110, 3) := dk_180 0 110 (dk_at dksX3_executedAt_0 2 rfl rfl)
theorem dX3_executedAt_5 : decode cX3_executedAt 5 = .ok (.ifCond .eq 19, 3) := dk_153 0 19 (dk_at dksX3_executedAt_0 5 rfl rfl)
theorem dX3_executedAt_8 : decode cX3_executedAt 8 = .ok (.aload_n 0, 1) := dk_42 (dk_at dksX3_executedAt_0 8 rfl rfl)
theorem dX3_executedAt_9 : decode cX3_executedAt 9 = .ok (.iload_n 1, 1) := dk_27 (dk_at dksX3_executedAt_0 9 rfl rfl)
theorem dX3_executedAt_10 : decode cX3_executedAt 10 = .ok (.invokevirtual 127, 3) := dk_182 0 127 (dk_at dksX3_executedAt_0 10 rfl rfl)
theorem dX3_executedAt_13 : decode cX3_executedAt 13 = .ok (.ifCond .eq 7, 3) := dk_153 0 7 (dk_at dksX3_executedAt_0 13 rfl rfl)
theorem dX3_executedAt_16 : decode cX3_executedAt 16 = .ok (.iconst 0, 1) := dk_3 (dk_at dksX3_executedAt_0 16 rfl rfl)
theorem dX3_executedAt_17 : decode cX3_executedAt 17 = .ok (.goto 8, 3) := dk_167 0 8 (dk_at dksX3_executedAt_0 17 rfl rfl)
theorem dX3_executedAt_20 : decode cX3_executedAt 20 = .ok (.iconst 2, 1) := dk_5 (dk_at dksX3_executedAt_0 20 rfl rfl)
theorem dX3_executedAt_21 : decode cX3_executedAt 21 = .ok (.goto 4, 3) := dk_167 0 4 (dk_at dksX3_executedAt_0 21 rfl rfl)
theorem dX3_executedAt_24 : decode cX3_executedAt 24 = .ok (.iconst 1, 1) := dk_4 (dk_at dksX3_executedAt_1 0 rfl rfl)
theorem dX3_executedAt_25 : decode cX3_executedAt 25 = .ok (.putfield 96, 3) := dk_181 0 96 (dk_at dksX3_executedAt_1 1 rfl rfl)
theorem dX3_executedAt_28 : decode cX3_executedAt 28 = .ok (.aload_n 0, 1) := dk_42 (dk_at dksX3_executedAt_1 4 rfl rfl)
theorem dX3_executedAt_29 : decode cX3_executedAt 29 = .ok (.getfield 96, 3) := dk_180 0 96 (dk_at dksX3_executedAt_1 5 rfl rfl)
theorem dX3_executedAt_32 : decode cX3_executedAt 32 = .ok (.ifCond .ne 12, 3) := dk_154 0 12 (dk_at dksX3_executedAt_1 8 rfl rfl)
theorem dX3_executedAt_35 : decode cX3_executedAt 35 = .ok (.aload_n 0, 1) := dk_42 (dk_at dksX3_executedAt_1 11 rfl rfl)
theorem dX3_executedAt_36 : decode cX3_executedAt 36 = .ok (.getfield 81, 3) := dk_180 0 81 (dk_at dksX3_executedAt_1 12 rfl rfl)
theorem dX3_executedAt_39 : decode cX3_executedAt 39 = .ok (.iload_n 1, 1) := dk_27 (dk_at dksX3_executedAt_1 15 rfl rfl)
theorem dX3_executedAt_40 : decode cX3_executedAt 40 = .ok (.iaload, 1) := dk_46 (dk_at dksX3_executedAt_1 16 rfl rfl)
theorem dX3_executedAt_41 : decode cX3_executedAt 41 = .ok (.goto 4, 3) := dk_167 0 4 (dk_at dksX3_executedAt_1 17 rfl rfl)
theorem dX3_executedAt_44 : decode cX3_executedAt 44 = .ok (.iconst 0, 1) := dk_3 (dk_at dksX3_executedAt_1 20 rfl rfl)
theorem dX3_executedAt_45 : decode cX3_executedAt 45 = .ok (.ireturn, 1) := dk_172 (dk_at dksX3_executedAt_1 21 rfl rfl)
abbrev cX3_unrecovered : ByteArray := prog_12_method_82_code
def yX3_unrecovered : MethodName := ⟨RX3, "unrecovered", "()I"⟩
def dkwX3_unrecovered_3 : List UInt8 := [180, 0, 96, 154, 0, 7, 27, 167, 0, 4, 3, 172]
abbrev dktX3_unrecovered_3 : List UInt8 := dkwX3_unrecovered_3 ++ []
def dkwX3_unrecovered_2 : List UInt8 := [180, 0, 32, 28, 46, 154, 0, 7, 4, 167, 0, 4, 3, 96, 60, 132, 2, 1, 167, 255, 219, 42]
abbrev dktX3_unrecovered_2 : List UInt8 := dkwX3_unrecovered_2 ++ dktX3_unrecovered_3
def dkwX3_unrecovered_1 : List UInt8 := [60, 3, 61, 28, 42, 180, 0, 99, 162, 0, 35, 27, 42, 180, 0, 81, 28, 46, 158, 0, 16, 42]
abbrev dktX3_unrecovered_1 : List UInt8 := dkwX3_unrecovered_1 ++ dktX3_unrecovered_2
def dkwX3_unrecovered_0 : List UInt8 := [42, 42, 180, 0, 106, 153, 0, 14, 42, 180, 0, 110, 153, 0, 7, 3, 167, 0, 4, 4, 181, 0, 96, 3]
abbrev dktX3_unrecovered_0 : List UInt8 := dkwX3_unrecovered_0 ++ dktX3_unrecovered_1
theorem dksX3_unrecovered_0 : cX3_unrecovered.data.toList.drop 0 = dktX3_unrecovered_0 := by decide +kernel
theorem dksX3_unrecovered_1 : cX3_unrecovered.data.toList.drop 24 = dktX3_unrecovered_1 := dk_seg dksX3_unrecovered_0 24 rfl rfl
theorem dksX3_unrecovered_2 : cX3_unrecovered.data.toList.drop 46 = dktX3_unrecovered_2 := dk_seg dksX3_unrecovered_1 22 rfl rfl
theorem dksX3_unrecovered_3 : cX3_unrecovered.data.toList.drop 68 = dktX3_unrecovered_3 := dk_seg dksX3_unrecovered_2 22 rfl rfl
theorem dX3_unrecovered_0 : decode cX3_unrecovered 0 = .ok (.aload_n 0, 1) := dk_42 (dk_at dksX3_unrecovered_0 0 rfl rfl)
theorem dX3_unrecovered_1 : decode cX3_unrecovered 1 = .ok (.aload_n 0, 1) := dk_42 (dk_at dksX3_unrecovered_0 1 rfl rfl)
theorem dX3_unrecovered_2 : decode cX3_unrecovered 2 = .ok (.getfield 106, 3) := dk_180 0 106 (dk_at dksX3_unrecovered_0 2 rfl rfl)
theorem dX3_unrecovered_5 : decode cX3_unrecovered 5 = .ok (.ifCond .eq 14, 3) := dk_153 0 14 (dk_at dksX3_unrecovered_0 5 rfl rfl)
theorem dX3_unrecovered_8 : decode cX3_unrecovered 8 = .ok (.aload_n 0, 1) := dk_42 (dk_at dksX3_unrecovered_0 8 rfl rfl)
theorem dX3_unrecovered_9 : decode cX3_unrecovered 9 = .ok (.getfield 110, 3) := dk_180 0 110 (dk_at dksX3_unrecovered_0 9 rfl rfl)
theorem dX3_unrecovered_12 : decode cX3_unrecovered 12 = .ok (.ifCond .eq 7, 3) := dk_153 0 7 (dk_at dksX3_unrecovered_0 12 rfl rfl)
theorem dX3_unrecovered_15 : decode cX3_unrecovered 15 = .ok (.iconst 0, 1) := dk_3 (dk_at dksX3_unrecovered_0 15 rfl rfl)
theorem dX3_unrecovered_16 : decode cX3_unrecovered 16 = .ok (.goto 4, 3) := dk_167 0 4 (dk_at dksX3_unrecovered_0 16 rfl rfl)
theorem dX3_unrecovered_19 : decode cX3_unrecovered 19 = .ok (.iconst 1, 1) := dk_4 (dk_at dksX3_unrecovered_0 19 rfl rfl)
theorem dX3_unrecovered_20 : decode cX3_unrecovered 20 = .ok (.putfield 96, 3) := dk_181 0 96 (dk_at dksX3_unrecovered_0 20 rfl rfl)
theorem dX3_unrecovered_23 : decode cX3_unrecovered 23 = .ok (.iconst 0, 1) := dk_3 (dk_at dksX3_unrecovered_0 23 rfl rfl)
theorem dX3_unrecovered_24 : decode cX3_unrecovered 24 = .ok (.istore_n 1, 1) := dk_60 (dk_at dksX3_unrecovered_1 0 rfl rfl)
theorem dX3_unrecovered_25 : decode cX3_unrecovered 25 = .ok (.iconst 0, 1) := dk_3 (dk_at dksX3_unrecovered_1 1 rfl rfl)
theorem dX3_unrecovered_26 : decode cX3_unrecovered 26 = .ok (.istore_n 2, 1) := dk_61 (dk_at dksX3_unrecovered_1 2 rfl rfl)
theorem dX3_unrecovered_27 : decode cX3_unrecovered 27 = .ok (.iload_n 2, 1) := dk_28 (dk_at dksX3_unrecovered_1 3 rfl rfl)
theorem dX3_unrecovered_28 : decode cX3_unrecovered 28 = .ok (.aload_n 0, 1) := dk_42 (dk_at dksX3_unrecovered_1 4 rfl rfl)
theorem dX3_unrecovered_29 : decode cX3_unrecovered 29 = .ok (.getfield 99, 3) := dk_180 0 99 (dk_at dksX3_unrecovered_1 5 rfl rfl)
theorem dX3_unrecovered_32 : decode cX3_unrecovered 32 = .ok (.if_icmp .ge 35, 3) := dk_162 0 35 (dk_at dksX3_unrecovered_1 8 rfl rfl)
theorem dX3_unrecovered_35 : decode cX3_unrecovered 35 = .ok (.iload_n 1, 1) := dk_27 (dk_at dksX3_unrecovered_1 11 rfl rfl)
theorem dX3_unrecovered_36 : decode cX3_unrecovered 36 = .ok (.aload_n 0, 1) := dk_42 (dk_at dksX3_unrecovered_1 12 rfl rfl)
theorem dX3_unrecovered_37 : decode cX3_unrecovered 37 = .ok (.getfield 81, 3) := dk_180 0 81 (dk_at dksX3_unrecovered_1 13 rfl rfl)
theorem dX3_unrecovered_40 : decode cX3_unrecovered 40 = .ok (.iload_n 2, 1) := dk_28 (dk_at dksX3_unrecovered_1 16 rfl rfl)
theorem dX3_unrecovered_41 : decode cX3_unrecovered 41 = .ok (.iaload, 1) := dk_46 (dk_at dksX3_unrecovered_1 17 rfl rfl)
theorem dX3_unrecovered_42 : decode cX3_unrecovered 42 = .ok (.ifCond .le 16, 3) := dk_158 0 16 (dk_at dksX3_unrecovered_1 18 rfl rfl)
theorem dX3_unrecovered_45 : decode cX3_unrecovered 45 = .ok (.aload_n 0, 1) := dk_42 (dk_at dksX3_unrecovered_1 21 rfl rfl)
theorem dX3_unrecovered_46 : decode cX3_unrecovered 46 = .ok (.getfield 32, 3) := dk_180 0 32 (dk_at dksX3_unrecovered_2 0 rfl rfl)
theorem dX3_unrecovered_49 : decode cX3_unrecovered 49 = .ok (.iload_n 2, 1) := dk_28 (dk_at dksX3_unrecovered_2 3 rfl rfl)
theorem dX3_unrecovered_50 : decode cX3_unrecovered 50 = .ok (.iaload, 1) := dk_46 (dk_at dksX3_unrecovered_2 4 rfl rfl)
theorem dX3_unrecovered_51 : decode cX3_unrecovered 51 = .ok (.ifCond .ne 7, 3) := dk_154 0 7 (dk_at dksX3_unrecovered_2 5 rfl rfl)
theorem dX3_unrecovered_54 : decode cX3_unrecovered 54 = .ok (.iconst 1, 1) := dk_4 (dk_at dksX3_unrecovered_2 8 rfl rfl)
theorem dX3_unrecovered_55 : decode cX3_unrecovered 55 = .ok (.goto 4, 3) := dk_167 0 4 (dk_at dksX3_unrecovered_2 9 rfl rfl)
theorem dX3_unrecovered_58 : decode cX3_unrecovered 58 = .ok (.iconst 0, 1) := dk_3 (dk_at dksX3_unrecovered_2 12 rfl rfl)
theorem dX3_unrecovered_59 : decode cX3_unrecovered 59 = .ok (.iadd, 1) := dk_96 (dk_at dksX3_unrecovered_2 13 rfl rfl)
theorem dX3_unrecovered_60 : decode cX3_unrecovered 60 = .ok (.istore_n 1, 1) := dk_60 (dk_at dksX3_unrecovered_2 14 rfl rfl)
theorem dX3_unrecovered_61 : decode cX3_unrecovered 61 = .ok (.iinc 2 1, 3) := dk_132 2 1 (dk_at dksX3_unrecovered_2 15 rfl rfl)
theorem dX3_unrecovered_64 : decode cX3_unrecovered 64 = .ok (.goto (-37), 3) := dk_167 255 219 (dk_at dksX3_unrecovered_2 18 rfl rfl)
theorem dX3_unrecovered_67 : decode cX3_unrecovered 67 = .ok (.aload_n 0, 1) := dk_42 (dk_at dksX3_unrecovered_2 21 rfl rfl)
theorem dX3_unrecovered_68 : decode cX3_unrecovered 68 = .ok (.getfield 96, 3) := dk_180 0 96 (dk_at dksX3_unrecovered_3 0 rfl rfl)
theorem dX3_unrecovered_71 : decode cX3_unrecovered 71 = .ok (.ifCond .ne 7, 3) := dk_154 0 7 (dk_at dksX3_unrecovered_3 3 rfl rfl)
theorem dX3_unrecovered_74 : decode cX3_unrecovered 74 = .ok (.iload_n 1, 1) := dk_27 (dk_at dksX3_unrecovered_3 6 rfl rfl)
theorem dX3_unrecovered_75 : decode cX3_unrecovered 75 = .ok (.goto 4, 3) := dk_167 0 4 (dk_at dksX3_unrecovered_3 7 rfl rfl)
theorem dX3_unrecovered_78 : decode cX3_unrecovered 78 = .ok (.iconst 0, 1) := dk_3 (dk_at dksX3_unrecovered_3 10 rfl rfl)
theorem dX3_unrecovered_79 : decode cX3_unrecovered 79 = .ok (.ireturn, 1) := dk_172 (dk_at dksX3_unrecovered_3 11 rfl rfl)
abbrev cX3_register : ByteArray := prog_12_method_83_code
def yX3_register : MethodName := ⟨RX3, "register", "(I)I"⟩
def dkwX3_register_2 : List UInt8 := [172]
abbrev dktX3_register_2 : List UInt8 := dkwX3_register_2 ++ []
def dkwX3_register_1 : List UInt8 := [167, 0, 4, 4, 181, 0, 96, 42, 180, 0, 96, 154, 0, 12, 42, 180, 0, 84, 27, 46, 167, 0, 4, 3]
abbrev dktX3_register_1 : List UInt8 := dkwX3_register_1 ++ dktX3_register_2
def dkwX3_register_0 : List UInt8 := [42, 42, 180, 0, 110, 153, 0, 20, 27, 3, 6, 184, 0, 102, 153, 0, 7, 3, 167, 0, 8, 5]
abbrev dktX3_register_0 : List UInt8 := dkwX3_register_0 ++ dktX3_register_1
theorem dksX3_register_0 : cX3_register.data.toList.drop 0 = dktX3_register_0 := by decide +kernel
theorem dksX3_register_1 : cX3_register.data.toList.drop 22 = dktX3_register_1 := dk_seg dksX3_register_0 22 rfl rfl
theorem dksX3_register_2 : cX3_register.data.toList.drop 46 = dktX3_register_2 := dk_seg dksX3_register_1 24 rfl rfl
theorem dX3_register_0 : decode cX3_register 0 = .ok (.aload_n 0, 1) := dk_42 (dk_at dksX3_register_0 0 rfl rfl)
theorem dX3_register_1 : decode cX3_register 1 = .ok (.aload_n 0, 1) := dk_42 (dk_at dksX3_register_0 1 rfl rfl)
theorem dX3_register_2 : decode cX3_register 2 = .ok (.getfield 110, 3) := dk_180 0 110 (dk_at dksX3_register_0 2 rfl rfl)
theorem dX3_register_5 : decode cX3_register 5 = .ok (.ifCond .eq 20, 3) := dk_153 0 20 (dk_at dksX3_register_0 5 rfl rfl)
theorem dX3_register_8 : decode cX3_register 8 = .ok (.iload_n 1, 1) := dk_27 (dk_at dksX3_register_0 8 rfl rfl)
theorem dX3_register_9 : decode cX3_register 9 = .ok (.iconst 0, 1) := dk_3 (dk_at dksX3_register_0 9 rfl rfl)
theorem dX3_register_10 : decode cX3_register 10 = .ok (.iconst 3, 1) := dk_6 (dk_at dksX3_register_0 10 rfl rfl)
theorem dX3_register_11 : decode cX3_register 11 = .ok (.invokestatic 102, 3) := dk_184 0 102 (dk_at dksX3_register_0 11 rfl rfl)
theorem dX3_register_14 : decode cX3_register 14 = .ok (.ifCond .eq 7, 3) := dk_153 0 7 (dk_at dksX3_register_0 14 rfl rfl)
theorem dX3_register_17 : decode cX3_register 17 = .ok (.iconst 0, 1) := dk_3 (dk_at dksX3_register_0 17 rfl rfl)
theorem dX3_register_18 : decode cX3_register 18 = .ok (.goto 8, 3) := dk_167 0 8 (dk_at dksX3_register_0 18 rfl rfl)
theorem dX3_register_21 : decode cX3_register 21 = .ok (.iconst 2, 1) := dk_5 (dk_at dksX3_register_0 21 rfl rfl)
theorem dX3_register_22 : decode cX3_register 22 = .ok (.goto 4, 3) := dk_167 0 4 (dk_at dksX3_register_1 0 rfl rfl)
theorem dX3_register_25 : decode cX3_register 25 = .ok (.iconst 1, 1) := dk_4 (dk_at dksX3_register_1 3 rfl rfl)
theorem dX3_register_26 : decode cX3_register 26 = .ok (.putfield 96, 3) := dk_181 0 96 (dk_at dksX3_register_1 4 rfl rfl)
theorem dX3_register_29 : decode cX3_register 29 = .ok (.aload_n 0, 1) := dk_42 (dk_at dksX3_register_1 7 rfl rfl)
theorem dX3_register_30 : decode cX3_register 30 = .ok (.getfield 96, 3) := dk_180 0 96 (dk_at dksX3_register_1 8 rfl rfl)
theorem dX3_register_33 : decode cX3_register 33 = .ok (.ifCond .ne 12, 3) := dk_154 0 12 (dk_at dksX3_register_1 11 rfl rfl)
theorem dX3_register_36 : decode cX3_register 36 = .ok (.aload_n 0, 1) := dk_42 (dk_at dksX3_register_1 14 rfl rfl)
theorem dX3_register_37 : decode cX3_register 37 = .ok (.getfield 84, 3) := dk_180 0 84 (dk_at dksX3_register_1 15 rfl rfl)
theorem dX3_register_40 : decode cX3_register 40 = .ok (.iload_n 1, 1) := dk_27 (dk_at dksX3_register_1 18 rfl rfl)
theorem dX3_register_41 : decode cX3_register 41 = .ok (.iaload, 1) := dk_46 (dk_at dksX3_register_1 19 rfl rfl)
theorem dX3_register_42 : decode cX3_register 42 = .ok (.goto 4, 3) := dk_167 0 4 (dk_at dksX3_register_1 20 rfl rfl)
theorem dX3_register_45 : decode cX3_register 45 = .ok (.iconst 0, 1) := dk_3 (dk_at dksX3_register_1 23 rfl rfl)
theorem dX3_register_46 : decode cX3_register 46 = .ok (.ireturn, 1) := dk_172 (dk_at dksX3_register_2 0 rfl rfl)
abbrev cX3_coverage : ByteArray := prog_12_method_84_code
def yX3_coverage : MethodName := ⟨RX3, "coverage", "()D"⟩
def dkwX3_coverage_3 : List UInt8 := [154, 0, 14, 27, 135, 42, 180, 0, 99, 135, 111, 167, 0, 4, 14, 175]
abbrev dktX3_coverage_3 : List UInt8 := dkwX3_coverage_3 ++ []
def dkwX3_coverage_2 : List UInt8 := [28, 182, 0, 220, 153, 0, 7, 4, 167, 0, 4, 3, 96, 60, 132, 2, 1, 167, 255, 222, 42, 180, 0, 96]
abbrev dktX3_coverage_2 : List UInt8 := dkwX3_coverage_2 ++ dktX3_coverage_3
def dkwX3_coverage_1 : List UInt8 := [181, 0, 96, 3, 60, 3, 61, 28, 42, 180, 0, 99, 162, 0, 32, 42, 180, 0, 96, 154, 0, 25, 27, 42]
abbrev dktX3_coverage_1 : List UInt8 := dkwX3_coverage_1 ++ dktX3_coverage_2
def dkwX3_coverage_0 : List UInt8 := [42, 42, 180, 0, 106, 153, 0, 18, 42, 180, 0, 99, 158, 0, 7, 3, 167, 0, 8, 5, 167, 0, 4, 4]
abbrev dktX3_coverage_0 : List UInt8 := dkwX3_coverage_0 ++ dktX3_coverage_1
theorem dksX3_coverage_0 : cX3_coverage.data.toList.drop 0 = dktX3_coverage_0 := by decide +kernel
theorem dksX3_coverage_1 : cX3_coverage.data.toList.drop 24 = dktX3_coverage_1 := dk_seg dksX3_coverage_0 24 rfl rfl
theorem dksX3_coverage_2 : cX3_coverage.data.toList.drop 48 = dktX3_coverage_2 := dk_seg dksX3_coverage_1 24 rfl rfl
theorem dksX3_coverage_3 : cX3_coverage.data.toList.drop 72 = dktX3_coverage_3 := dk_seg dksX3_coverage_2 24 rfl rfl
theorem dX3_coverage_0 : decode cX3_coverage 0 = .ok (.aload_n 0, 1) := dk_42 (dk_at dksX3_coverage_0 0 rfl rfl)
theorem dX3_coverage_1 : decode cX3_coverage 1 = .ok (.aload_n 0, 1) := dk_42 (dk_at dksX3_coverage_0 1 rfl rfl)
theorem dX3_coverage_2 : decode cX3_coverage 2 = .ok (.getfield 106, 3) := dk_180 0 106 (dk_at dksX3_coverage_0 2 rfl rfl)
theorem dX3_coverage_5 : decode cX3_coverage 5 = .ok (.ifCond .eq 18, 3) := dk_153 0 18 (dk_at dksX3_coverage_0 5 rfl rfl)
theorem dX3_coverage_8 : decode cX3_coverage 8 = .ok (.aload_n 0, 1) := dk_42 (dk_at dksX3_coverage_0 8 rfl rfl)
theorem dX3_coverage_9 : decode cX3_coverage 9 = .ok (.getfield 99, 3) := dk_180 0 99 (dk_at dksX3_coverage_0 9 rfl rfl)
theorem dX3_coverage_12 : decode cX3_coverage 12 = .ok (.ifCond .le 7, 3) := dk_158 0 7 (dk_at dksX3_coverage_0 12 rfl rfl)
theorem dX3_coverage_15 : decode cX3_coverage 15 = .ok (.iconst 0, 1) := dk_3 (dk_at dksX3_coverage_0 15 rfl rfl)
theorem dX3_coverage_16 : decode cX3_coverage 16 = .ok (.goto 8, 3) := dk_167 0 8 (dk_at dksX3_coverage_0 16 rfl rfl)
theorem dX3_coverage_19 : decode cX3_coverage 19 = .ok (.iconst 2, 1) := dk_5 (dk_at dksX3_coverage_0 19 rfl rfl)
theorem dX3_coverage_20 : decode cX3_coverage 20 = .ok (.goto 4, 3) := dk_167 0 4 (dk_at dksX3_coverage_0 20 rfl rfl)
theorem dX3_coverage_23 : decode cX3_coverage 23 = .ok (.iconst 1, 1) := dk_4 (dk_at dksX3_coverage_0 23 rfl rfl)
theorem dX3_coverage_24 : decode cX3_coverage 24 = .ok (.putfield 96, 3) := dk_181 0 96 (dk_at dksX3_coverage_1 0 rfl rfl)
theorem dX3_coverage_27 : decode cX3_coverage 27 = .ok (.iconst 0, 1) := dk_3 (dk_at dksX3_coverage_1 3 rfl rfl)
theorem dX3_coverage_28 : decode cX3_coverage 28 = .ok (.istore_n 1, 1) := dk_60 (dk_at dksX3_coverage_1 4 rfl rfl)
theorem dX3_coverage_29 : decode cX3_coverage 29 = .ok (.iconst 0, 1) := dk_3 (dk_at dksX3_coverage_1 5 rfl rfl)
theorem dX3_coverage_30 : decode cX3_coverage 30 = .ok (.istore_n 2, 1) := dk_61 (dk_at dksX3_coverage_1 6 rfl rfl)
theorem dX3_coverage_31 : decode cX3_coverage 31 = .ok (.iload_n 2, 1) := dk_28 (dk_at dksX3_coverage_1 7 rfl rfl)
theorem dX3_coverage_32 : decode cX3_coverage 32 = .ok (.aload_n 0, 1) := dk_42 (dk_at dksX3_coverage_1 8 rfl rfl)
theorem dX3_coverage_33 : decode cX3_coverage 33 = .ok (.getfield 99, 3) := dk_180 0 99 (dk_at dksX3_coverage_1 9 rfl rfl)
theorem dX3_coverage_36 : decode cX3_coverage 36 = .ok (.if_icmp .ge 32, 3) := dk_162 0 32 (dk_at dksX3_coverage_1 12 rfl rfl)
theorem dX3_coverage_39 : decode cX3_coverage 39 = .ok (.aload_n 0, 1) := dk_42 (dk_at dksX3_coverage_1 15 rfl rfl)
theorem dX3_coverage_40 : decode cX3_coverage 40 = .ok (.getfield 96, 3) := dk_180 0 96 (dk_at dksX3_coverage_1 16 rfl rfl)
theorem dX3_coverage_43 : decode cX3_coverage 43 = .ok (.ifCond .ne 25, 3) := dk_154 0 25 (dk_at dksX3_coverage_1 19 rfl rfl)
theorem dX3_coverage_46 : decode cX3_coverage 46 = .ok (.iload_n 1, 1) := dk_27 (dk_at dksX3_coverage_1 22 rfl rfl)
theorem dX3_coverage_47 : decode cX3_coverage 47 = .ok (.aload_n 0, 1) := dk_42 (dk_at dksX3_coverage_1 23 rfl rfl)
theorem dX3_coverage_48 : decode cX3_coverage 48 = .ok (.iload_n 2, 1) := dk_28 (dk_at dksX3_coverage_2 0 rfl rfl)
theorem dX3_coverage_49 : decode cX3_coverage 49 = .ok (.invokevirtual 220, 3) := dk_182 0 220 (dk_at dksX3_coverage_2 1 rfl rfl)
theorem dX3_coverage_52 : decode cX3_coverage 52 = .ok (.ifCond .eq 7, 3) := dk_153 0 7 (dk_at dksX3_coverage_2 4 rfl rfl)
theorem dX3_coverage_55 : decode cX3_coverage 55 = .ok (.iconst 1, 1) := dk_4 (dk_at dksX3_coverage_2 7 rfl rfl)
theorem dX3_coverage_56 : decode cX3_coverage 56 = .ok (.goto 4, 3) := dk_167 0 4 (dk_at dksX3_coverage_2 8 rfl rfl)
theorem dX3_coverage_59 : decode cX3_coverage 59 = .ok (.iconst 0, 1) := dk_3 (dk_at dksX3_coverage_2 11 rfl rfl)
theorem dX3_coverage_60 : decode cX3_coverage 60 = .ok (.iadd, 1) := dk_96 (dk_at dksX3_coverage_2 12 rfl rfl)
theorem dX3_coverage_61 : decode cX3_coverage 61 = .ok (.istore_n 1, 1) := dk_60 (dk_at dksX3_coverage_2 13 rfl rfl)
theorem dX3_coverage_62 : decode cX3_coverage 62 = .ok (.iinc 2 1, 3) := dk_132 2 1 (dk_at dksX3_coverage_2 14 rfl rfl)
theorem dX3_coverage_65 : decode cX3_coverage 65 = .ok (.goto (-34), 3) := dk_167 255 222 (dk_at dksX3_coverage_2 17 rfl rfl)
theorem dX3_coverage_68 : decode cX3_coverage 68 = .ok (.aload_n 0, 1) := dk_42 (dk_at dksX3_coverage_2 20 rfl rfl)
theorem dX3_coverage_69 : decode cX3_coverage 69 = .ok (.getfield 96, 3) := dk_180 0 96 (dk_at dksX3_coverage_2 21 rfl rfl)
theorem dX3_coverage_72 : decode cX3_coverage 72 = .ok (.ifCond .ne 14, 3) := dk_154 0 14 (dk_at dksX3_coverage_3 0 rfl rfl)
theorem dX3_coverage_75 : decode cX3_coverage 75 = .ok (.iload_n 1, 1) := dk_27 (dk_at dksX3_coverage_3 3 rfl rfl)
theorem dX3_coverage_76 : decode cX3_coverage 76 = .ok (.i2d, 1) := dk_135 (dk_at dksX3_coverage_3 4 rfl rfl)
theorem dX3_coverage_77 : decode cX3_coverage 77 = .ok (.aload_n 0, 1) := dk_42 (dk_at dksX3_coverage_3 5 rfl rfl)
theorem dX3_coverage_78 : decode cX3_coverage 78 = .ok (.getfield 99, 3) := dk_180 0 99 (dk_at dksX3_coverage_3 6 rfl rfl)
theorem dX3_coverage_81 : decode cX3_coverage 81 = .ok (.i2d, 1) := dk_135 (dk_at dksX3_coverage_3 9 rfl rfl)
theorem dX3_coverage_82 : decode cX3_coverage 82 = .ok (.ddiv, 1) := dk_111 (dk_at dksX3_coverage_3 10 rfl rfl)
theorem dX3_coverage_83 : decode cX3_coverage 83 = .ok (.goto 4, 3) := dk_167 0 4 (dk_at dksX3_coverage_3 11 rfl rfl)
theorem dX3_coverage_86 : decode cX3_coverage 86 = .ok (.dconst 0, 1) := dk_14 (dk_at dksX3_coverage_3 14 rfl rfl)
theorem dX3_coverage_87 : decode cX3_coverage 87 = .ok (.dreturn, 1) := dk_175 (dk_at dksX3_coverage_3 15 rfl rfl)
abbrev cX3_averageBlock : ByteArray := prog_12_method_85_code
def yX3_averageBlock : MethodName := ⟨RX3, "averageBlock", "()F"⟩
def dkwX3_averageBlock_4 : List UInt8 := [27, 134, 110, 167, 0, 4, 11, 174]
abbrev dktX3_averageBlock_4 : List UInt8 := dkwX3_averageBlock_4 ++ []
def dkwX3_averageBlock_3 : List UInt8 := [182, 1, 12, 167, 0, 4, 3, 96, 61, 132, 3, 1, 167, 255, 218, 42, 180, 0, 96, 154, 0, 11, 28, 134]
abbrev dktX3_averageBlock_3 : List UInt8 := dkwX3_averageBlock_3 ++ dktX3_averageBlock_4
def dkwX3_averageBlock_2 : List UInt8 := [180, 0, 99, 162, 0, 36, 42, 180, 0, 96, 154, 0, 29, 28, 42, 29, 182, 1, 2, 153, 0, 11, 42, 29]
abbrev dktX3_averageBlock_2 : List UInt8 := dkwX3_averageBlock_2 ++ dktX3_averageBlock_3
def dkwX3_averageBlock_1 : List UInt8 := [27, 158, 0, 7, 3, 167, 0, 8, 5, 167, 0, 4, 4, 181, 0, 96, 3, 61, 3, 62, 29, 42]
abbrev dktX3_averageBlock_1 : List UInt8 := dkwX3_averageBlock_1 ++ dktX3_averageBlock_2
def dkwX3_averageBlock_0 : List UInt8 := [42, 180, 0, 106, 153, 0, 10, 42, 182, 1, 8, 167, 0, 4, 3, 60, 42, 42, 180, 0, 106, 153, 0, 15]
abbrev dktX3_averageBlock_0 : List UInt8 := dkwX3_averageBlock_0 ++ dktX3_averageBlock_1
theorem dksX3_averageBlock_0 : cX3_averageBlock.data.toList.drop 0 = dktX3_averageBlock_0 := by decide +kernel
theorem dksX3_averageBlock_1 : cX3_averageBlock.data.toList.drop 24 = dktX3_averageBlock_1 := dk_seg dksX3_averageBlock_0 24 rfl rfl
theorem dksX3_averageBlock_2 : cX3_averageBlock.data.toList.drop 46 = dktX3_averageBlock_2 := dk_seg dksX3_averageBlock_1 22 rfl rfl
theorem dksX3_averageBlock_3 : cX3_averageBlock.data.toList.drop 70 = dktX3_averageBlock_3 := dk_seg dksX3_averageBlock_2 24 rfl rfl
theorem dksX3_averageBlock_4 : cX3_averageBlock.data.toList.drop 94 = dktX3_averageBlock_4 := dk_seg dksX3_averageBlock_3 24 rfl rfl
theorem dX3_averageBlock_0 : decode cX3_averageBlock 0 = .ok (.aload_n 0, 1) := dk_42 (dk_at dksX3_averageBlock_0 0 rfl rfl)
theorem dX3_averageBlock_1 : decode cX3_averageBlock 1 = .ok (.getfield 106, 3) := dk_180 0 106 (dk_at dksX3_averageBlock_0 1 rfl rfl)
theorem dX3_averageBlock_4 : decode cX3_averageBlock 4 = .ok (.ifCond .eq 10, 3) := dk_153 0 10 (dk_at dksX3_averageBlock_0 4 rfl rfl)
theorem dX3_averageBlock_7 : decode cX3_averageBlock 7 = .ok (.aload_n 0, 1) := dk_42 (dk_at dksX3_averageBlock_0 7 rfl rfl)
theorem dX3_averageBlock_8 : decode cX3_averageBlock 8 = .ok (.invokevirtual 264, 3) := dk_182 1 8 (dk_at dksX3_averageBlock_0 8 rfl rfl)
theorem dX3_averageBlock_11 : decode cX3_averageBlock 11 = .ok (.goto 4, 3) := dk_167 0 4 (dk_at dksX3_averageBlock_0 11 rfl rfl)
theorem dX3_averageBlock_14 : decode cX3_averageBlock 14 = .ok (.iconst 0, 1) := dk_3 (dk_at dksX3_averageBlock_0 14 rfl rfl)
theorem dX3_averageBlock_15 : decode cX3_averageBlock 15 = .ok (.istore_n 1, 1) := dk_60 (dk_at dksX3_averageBlock_0 15 rfl rfl)
theorem dX3_averageBlock_16 : decode cX3_averageBlock 16 = .ok (.aload_n 0, 1) := dk_42 (dk_at dksX3_averageBlock_0 16 rfl rfl)
theorem dX3_averageBlock_17 : decode cX3_averageBlock 17 = .ok (.aload_n 0, 1) := dk_42 (dk_at dksX3_averageBlock_0 17 rfl rfl)
theorem dX3_averageBlock_18 : decode cX3_averageBlock 18 = .ok (.getfield 106, 3) := dk_180 0 106 (dk_at dksX3_averageBlock_0 18 rfl rfl)
theorem dX3_averageBlock_21 : decode cX3_averageBlock 21 = .ok (.ifCond .eq 15, 3) := dk_153 0 15 (dk_at dksX3_averageBlock_0 21 rfl rfl)
theorem dX3_averageBlock_24 : decode cX3_averageBlock 24 = .ok (.iload_n 1, 1) := dk_27 (dk_at dksX3_averageBlock_1 0 rfl rfl)
theorem dX3_averageBlock_25 : decode cX3_averageBlock 25 = .ok (.ifCond .le 7, 3) := dk_158 0 7 (dk_at dksX3_averageBlock_1 1 rfl rfl)
theorem dX3_averageBlock_28 : decode cX3_averageBlock 28 = .ok (.iconst 0, 1) := dk_3 (dk_at dksX3_averageBlock_1 4 rfl rfl)
theorem dX3_averageBlock_29 : decode cX3_averageBlock 29 = .ok (.goto 8, 3) := dk_167 0 8 (dk_at dksX3_averageBlock_1 5 rfl rfl)
theorem dX3_averageBlock_32 : decode cX3_averageBlock 32 = .ok (.iconst 2, 1) := dk_5 (dk_at dksX3_averageBlock_1 8 rfl rfl)
theorem dX3_averageBlock_33 : decode cX3_averageBlock 33 = .ok (.goto 4, 3) := dk_167 0 4 (dk_at dksX3_averageBlock_1 9 rfl rfl)
theorem dX3_averageBlock_36 : decode cX3_averageBlock 36 = .ok (.iconst 1, 1) := dk_4 (dk_at dksX3_averageBlock_1 12 rfl rfl)
theorem dX3_averageBlock_37 : decode cX3_averageBlock 37 = .ok (.putfield 96, 3) := dk_181 0 96 (dk_at dksX3_averageBlock_1 13 rfl rfl)
theorem dX3_averageBlock_40 : decode cX3_averageBlock 40 = .ok (.iconst 0, 1) := dk_3 (dk_at dksX3_averageBlock_1 16 rfl rfl)
theorem dX3_averageBlock_41 : decode cX3_averageBlock 41 = .ok (.istore_n 2, 1) := dk_61 (dk_at dksX3_averageBlock_1 17 rfl rfl)
theorem dX3_averageBlock_42 : decode cX3_averageBlock 42 = .ok (.iconst 0, 1) := dk_3 (dk_at dksX3_averageBlock_1 18 rfl rfl)
theorem dX3_averageBlock_43 : decode cX3_averageBlock 43 = .ok (.istore_n 3, 1) := dk_62 (dk_at dksX3_averageBlock_1 19 rfl rfl)
theorem dX3_averageBlock_44 : decode cX3_averageBlock 44 = .ok (.iload_n 3, 1) := dk_29 (dk_at dksX3_averageBlock_1 20 rfl rfl)
theorem dX3_averageBlock_45 : decode cX3_averageBlock 45 = .ok (.aload_n 0, 1) := dk_42 (dk_at dksX3_averageBlock_1 21 rfl rfl)
theorem dX3_averageBlock_46 : decode cX3_averageBlock 46 = .ok (.getfield 99, 3) := dk_180 0 99 (dk_at dksX3_averageBlock_2 0 rfl rfl)
theorem dX3_averageBlock_49 : decode cX3_averageBlock 49 = .ok (.if_icmp .ge 36, 3) := dk_162 0 36 (dk_at dksX3_averageBlock_2 3 rfl rfl)
theorem dX3_averageBlock_52 : decode cX3_averageBlock 52 = .ok (.aload_n 0, 1) := dk_42 (dk_at dksX3_averageBlock_2 6 rfl rfl)
theorem dX3_averageBlock_53 : decode cX3_averageBlock 53 = .ok (.getfield 96, 3) := dk_180 0 96 (dk_at dksX3_averageBlock_2 7 rfl rfl)
theorem dX3_averageBlock_56 : decode cX3_averageBlock 56 = .ok (.ifCond .ne 29, 3) := dk_154 0 29 (dk_at dksX3_averageBlock_2 10 rfl rfl)
theorem dX3_averageBlock_59 : decode cX3_averageBlock 59 = .ok (.iload_n 2, 1) := dk_28 (dk_at dksX3_averageBlock_2 13 rfl rfl)
theorem dX3_averageBlock_60 : decode cX3_averageBlock 60 = .ok (.aload_n 0, 1) := dk_42 (dk_at dksX3_averageBlock_2 14 rfl rfl)
theorem dX3_averageBlock_61 : decode cX3_averageBlock 61 = .ok (.iload_n 3, 1) := dk_29 (dk_at dksX3_averageBlock_2 15 rfl rfl)
theorem dX3_averageBlock_62 : decode cX3_averageBlock 62 = .ok (.invokevirtual 258, 3) := dk_182 1 2 (dk_at dksX3_averageBlock_2 16 rfl rfl)
theorem dX3_averageBlock_65 : decode cX3_averageBlock 65 = .ok (.ifCond .eq 11, 3) := dk_153 0 11 (dk_at dksX3_averageBlock_2 19 rfl rfl)
theorem dX3_averageBlock_68 : decode cX3_averageBlock 68 = .ok (.aload_n 0, 1) := dk_42 (dk_at dksX3_averageBlock_2 22 rfl rfl)
theorem dX3_averageBlock_69 : decode cX3_averageBlock 69 = .ok (.iload_n 3, 1) := dk_29 (dk_at dksX3_averageBlock_2 23 rfl rfl)
theorem dX3_averageBlock_70 : decode cX3_averageBlock 70 = .ok (.invokevirtual 268, 3) := dk_182 1 12 (dk_at dksX3_averageBlock_3 0 rfl rfl)
theorem dX3_averageBlock_73 : decode cX3_averageBlock 73 = .ok (.goto 4, 3) := dk_167 0 4 (dk_at dksX3_averageBlock_3 3 rfl rfl)
theorem dX3_averageBlock_76 : decode cX3_averageBlock 76 = .ok (.iconst 0, 1) := dk_3 (dk_at dksX3_averageBlock_3 6 rfl rfl)
theorem dX3_averageBlock_77 : decode cX3_averageBlock 77 = .ok (.iadd, 1) := dk_96 (dk_at dksX3_averageBlock_3 7 rfl rfl)
theorem dX3_averageBlock_78 : decode cX3_averageBlock 78 = .ok (.istore_n 2, 1) := dk_61 (dk_at dksX3_averageBlock_3 8 rfl rfl)
theorem dX3_averageBlock_79 : decode cX3_averageBlock 79 = .ok (.iinc 3 1, 3) := dk_132 3 1 (dk_at dksX3_averageBlock_3 9 rfl rfl)
theorem dX3_averageBlock_82 : decode cX3_averageBlock 82 = .ok (.goto (-38), 3) := dk_167 255 218 (dk_at dksX3_averageBlock_3 12 rfl rfl)
theorem dX3_averageBlock_85 : decode cX3_averageBlock 85 = .ok (.aload_n 0, 1) := dk_42 (dk_at dksX3_averageBlock_3 15 rfl rfl)
theorem dX3_averageBlock_86 : decode cX3_averageBlock 86 = .ok (.getfield 96, 3) := dk_180 0 96 (dk_at dksX3_averageBlock_3 16 rfl rfl)
theorem dX3_averageBlock_89 : decode cX3_averageBlock 89 = .ok (.ifCond .ne 11, 3) := dk_154 0 11 (dk_at dksX3_averageBlock_3 19 rfl rfl)
theorem dX3_averageBlock_92 : decode cX3_averageBlock 92 = .ok (.iload_n 2, 1) := dk_28 (dk_at dksX3_averageBlock_3 22 rfl rfl)
theorem dX3_averageBlock_93 : decode cX3_averageBlock 93 = .ok (.i2f, 1) := dk_134 (dk_at dksX3_averageBlock_3 23 rfl rfl)
theorem dX3_averageBlock_94 : decode cX3_averageBlock 94 = .ok (.iload_n 1, 1) := dk_27 (dk_at dksX3_averageBlock_4 0 rfl rfl)
theorem dX3_averageBlock_95 : decode cX3_averageBlock 95 = .ok (.i2f, 1) := dk_134 (dk_at dksX3_averageBlock_4 1 rfl rfl)
theorem dX3_averageBlock_96 : decode cX3_averageBlock 96 = .ok (.fdiv, 1) := dk_110 (dk_at dksX3_averageBlock_4 2 rfl rfl)
theorem dX3_averageBlock_97 : decode cX3_averageBlock 97 = .ok (.goto 4, 3) := dk_167 0 4 (dk_at dksX3_averageBlock_4 3 rfl rfl)
theorem dX3_averageBlock_100 : decode cX3_averageBlock 100 = .ok (.fconst 0, 1) := dk_11 (dk_at dksX3_averageBlock_4 6 rfl rfl)
theorem dX3_averageBlock_101 : decode cX3_averageBlock 101 = .ok (.freturn, 1) := dk_174 (dk_at dksX3_averageBlock_4 7 rfl rfl)
abbrev cX3_save : ByteArray := prog_12_method_86_code
def yX3_save : MethodName := ⟨RX3, "save", "()V"⟩
def dkwX3_save_3 : List UInt8 := [42, 42, 180, 0, 22, 181, 1, 49, 42, 4, 181, 1, 52, 177]
abbrev dktX3_save_3 : List UInt8 := dkwX3_save_3 ++ []
def dkwX3_save_2 : List UInt8 := [46, 79, 132, 1, 1, 167, 255, 236, 42, 42, 180, 0, 99, 181, 1, 43, 42, 42, 180, 0, 131, 181, 1, 46]
abbrev dktX3_save_2 : List UInt8 := dkwX3_save_2 ++ dktX3_save_3
def dkwX3_save_1 : List UInt8 := [79, 132, 1, 1, 167, 255, 235, 3, 60, 27, 7, 162, 0, 21, 42, 180, 0, 19, 27, 42, 180, 0, 16, 27]
abbrev dktX3_save_1 : List UInt8 := dkwX3_save_1 ++ dktX3_save_2
def dkwX3_save_0 : List UInt8 := [42, 3, 181, 0, 96, 3, 60, 27, 16, 96, 162, 0, 21, 42, 180, 0, 13, 27, 42, 180, 0, 9, 27, 46]
abbrev dktX3_save_0 : List UInt8 := dkwX3_save_0 ++ dktX3_save_1
theorem dksX3_save_0 : cX3_save.data.toList.drop 0 = dktX3_save_0 := by decide +kernel
theorem dksX3_save_1 : cX3_save.data.toList.drop 24 = dktX3_save_1 := dk_seg dksX3_save_0 24 rfl rfl
theorem dksX3_save_2 : cX3_save.data.toList.drop 48 = dktX3_save_2 := dk_seg dksX3_save_1 24 rfl rfl
theorem dksX3_save_3 : cX3_save.data.toList.drop 72 = dktX3_save_3 := dk_seg dksX3_save_2 24 rfl rfl
theorem dX3_save_0 : decode cX3_save 0 = .ok (.aload_n 0, 1) := dk_42 (dk_at dksX3_save_0 0 rfl rfl)
theorem dX3_save_1 : decode cX3_save 1 = .ok (.iconst 0, 1) := dk_3 (dk_at dksX3_save_0 1 rfl rfl)
theorem dX3_save_2 : decode cX3_save 2 = .ok (.putfield 96, 3) := dk_181 0 96 (dk_at dksX3_save_0 2 rfl rfl)
theorem dX3_save_5 : decode cX3_save 5 = .ok (.iconst 0, 1) := dk_3 (dk_at dksX3_save_0 5 rfl rfl)
theorem dX3_save_6 : decode cX3_save 6 = .ok (.istore_n 1, 1) := dk_60 (dk_at dksX3_save_0 6 rfl rfl)
theorem dX3_save_7 : decode cX3_save 7 = .ok (.iload_n 1, 1) := dk_27 (dk_at dksX3_save_0 7 rfl rfl)
theorem dX3_save_8 : decode cX3_save 8 = .ok (.bipush 96, 2) := dk_16 96 (dk_at dksX3_save_0 8 rfl rfl)
theorem dX3_save_10 : decode cX3_save 10 = .ok (.if_icmp .ge 21, 3) := dk_162 0 21 (dk_at dksX3_save_0 10 rfl rfl)
theorem dX3_save_13 : decode cX3_save 13 = .ok (.aload_n 0, 1) := dk_42 (dk_at dksX3_save_0 13 rfl rfl)
theorem dX3_save_14 : decode cX3_save 14 = .ok (.getfield 13, 3) := dk_180 0 13 (dk_at dksX3_save_0 14 rfl rfl)
theorem dX3_save_17 : decode cX3_save 17 = .ok (.iload_n 1, 1) := dk_27 (dk_at dksX3_save_0 17 rfl rfl)
theorem dX3_save_18 : decode cX3_save 18 = .ok (.aload_n 0, 1) := dk_42 (dk_at dksX3_save_0 18 rfl rfl)
theorem dX3_save_19 : decode cX3_save 19 = .ok (.getfield 9, 3) := dk_180 0 9 (dk_at dksX3_save_0 19 rfl rfl)
theorem dX3_save_22 : decode cX3_save 22 = .ok (.iload_n 1, 1) := dk_27 (dk_at dksX3_save_0 22 rfl rfl)
theorem dX3_save_23 : decode cX3_save 23 = .ok (.iaload, 1) := dk_46 (dk_at dksX3_save_0 23 rfl rfl)
theorem dX3_save_24 : decode cX3_save 24 = .ok (.iastore, 1) := dk_79 (dk_at dksX3_save_1 0 rfl rfl)
theorem dX3_save_25 : decode cX3_save 25 = .ok (.iinc 1 1, 3) := dk_132 1 1 (dk_at dksX3_save_1 1 rfl rfl)
theorem dX3_save_28 : decode cX3_save 28 = .ok (.goto (-21), 3) := dk_167 255 235 (dk_at dksX3_save_1 4 rfl rfl)
theorem dX3_save_31 : decode cX3_save 31 = .ok (.iconst 0, 1) := dk_3 (dk_at dksX3_save_1 7 rfl rfl)
theorem dX3_save_32 : decode cX3_save 32 = .ok (.istore_n 1, 1) := dk_60 (dk_at dksX3_save_1 8 rfl rfl)
theorem dX3_save_33 : decode cX3_save 33 = .ok (.iload_n 1, 1) := dk_27 (dk_at dksX3_save_1 9 rfl rfl)
theorem dX3_save_34 : decode cX3_save 34 = .ok (.iconst 4, 1) := dk_7 (dk_at dksX3_save_1 10 rfl rfl)
theorem dX3_save_35 : decode cX3_save 35 = .ok (.if_icmp .ge 21, 3) := dk_162 0 21 (dk_at dksX3_save_1 11 rfl rfl)
theorem dX3_save_38 : decode cX3_save 38 = .ok (.aload_n 0, 1) := dk_42 (dk_at dksX3_save_1 14 rfl rfl)
theorem dX3_save_39 : decode cX3_save 39 = .ok (.getfield 19, 3) := dk_180 0 19 (dk_at dksX3_save_1 15 rfl rfl)
theorem dX3_save_42 : decode cX3_save 42 = .ok (.iload_n 1, 1) := dk_27 (dk_at dksX3_save_1 18 rfl rfl)
theorem dX3_save_43 : decode cX3_save 43 = .ok (.aload_n 0, 1) := dk_42 (dk_at dksX3_save_1 19 rfl rfl)
theorem dX3_save_44 : decode cX3_save 44 = .ok (.getfield 16, 3) := dk_180 0 16 (dk_at dksX3_save_1 20 rfl rfl)
theorem dX3_save_47 : decode cX3_save 47 = .ok (.iload_n 1, 1) := dk_27 (dk_at dksX3_save_1 23 rfl rfl)
theorem dX3_save_48 : decode cX3_save 48 = .ok (.iaload, 1) := dk_46 (dk_at dksX3_save_2 0 rfl rfl)
theorem dX3_save_49 : decode cX3_save 49 = .ok (.iastore, 1) := dk_79 (dk_at dksX3_save_2 1 rfl rfl)
theorem dX3_save_50 : decode cX3_save 50 = .ok (.iinc 1 1, 3) := dk_132 1 1 (dk_at dksX3_save_2 2 rfl rfl)
theorem dX3_save_53 : decode cX3_save 53 = .ok (.goto (-20), 3) := dk_167 255 236 (dk_at dksX3_save_2 5 rfl rfl)
theorem dX3_save_56 : decode cX3_save 56 = .ok (.aload_n 0, 1) := dk_42 (dk_at dksX3_save_2 8 rfl rfl)
theorem dX3_save_57 : decode cX3_save 57 = .ok (.aload_n 0, 1) := dk_42 (dk_at dksX3_save_2 9 rfl rfl)
theorem dX3_save_58 : decode cX3_save 58 = .ok (.getfield 99, 3) := dk_180 0 99 (dk_at dksX3_save_2 10 rfl rfl)
theorem dX3_save_61 : decode cX3_save 61 = .ok (.putfield 299, 3) := dk_181 1 43 (dk_at dksX3_save_2 13 rfl rfl)
theorem dX3_save_64 : decode cX3_save 64 = .ok (.aload_n 0, 1) := dk_42 (dk_at dksX3_save_2 16 rfl rfl)
theorem dX3_save_65 : decode cX3_save 65 = .ok (.aload_n 0, 1) := dk_42 (dk_at dksX3_save_2 17 rfl rfl)
theorem dX3_save_66 : decode cX3_save 66 = .ok (.getfield 131, 3) := dk_180 0 131 (dk_at dksX3_save_2 18 rfl rfl)
theorem dX3_save_69 : decode cX3_save 69 = .ok (.putfield 302, 3) := dk_181 1 46 (dk_at dksX3_save_2 21 rfl rfl)
theorem dX3_save_72 : decode cX3_save 72 = .ok (.aload_n 0, 1) := dk_42 (dk_at dksX3_save_3 0 rfl rfl)
theorem dX3_save_73 : decode cX3_save 73 = .ok (.aload_n 0, 1) := dk_42 (dk_at dksX3_save_3 1 rfl rfl)
theorem dX3_save_74 : decode cX3_save 74 = .ok (.getfield 22, 3) := dk_180 0 22 (dk_at dksX3_save_3 2 rfl rfl)
theorem dX3_save_77 : decode cX3_save 77 = .ok (.putfield 305, 3) := dk_181 1 49 (dk_at dksX3_save_3 5 rfl rfl)
theorem dX3_save_80 : decode cX3_save 80 = .ok (.aload_n 0, 1) := dk_42 (dk_at dksX3_save_3 8 rfl rfl)
theorem dX3_save_81 : decode cX3_save 81 = .ok (.iconst 1, 1) := dk_4 (dk_at dksX3_save_3 9 rfl rfl)
theorem dX3_save_82 : decode cX3_save 82 = .ok (.putfield 308, 3) := dk_181 1 52 (dk_at dksX3_save_3 10 rfl rfl)
theorem dX3_save_85 : decode cX3_save 85 = .ok (.return_, 1) := dk_177 (dk_at dksX3_save_3 13 rfl rfl)
abbrev cX3_restore : ByteArray := prog_12_method_87_code
def yX3_restore : MethodName := ⟨RX3, "restore", "()V"⟩
def dkwX3_restore_4 : List UInt8 := [180, 1, 49, 181, 0, 22, 42, 4, 182, 0, 123, 177]
abbrev dktX3_restore_4 : List UInt8 := dkwX3_restore_4 ++ []
def dkwX3_restore_3 : List UInt8 := [132, 1, 1, 167, 255, 236, 42, 42, 180, 1, 43, 181, 0, 99, 42, 42, 180, 1, 46, 181, 0, 131, 42, 42]
abbrev dktX3_restore_3 : List UInt8 := dkwX3_restore_3 ++ dktX3_restore_4
def dkwX3_restore_2 : List UInt8 := [167, 255, 235, 3, 60, 27, 7, 162, 0, 21, 42, 180, 0, 16, 27, 42, 180, 0, 19, 27, 46, 79]
abbrev dktX3_restore_2 : List UInt8 := dkwX3_restore_2 ++ dktX3_restore_3
def dkwX3_restore_1 : List UInt8 := [3, 60, 27, 16, 96, 162, 0, 21, 42, 180, 0, 9, 27, 42, 180, 0, 13, 27, 46, 79, 132, 1, 1]
abbrev dktX3_restore_1 : List UInt8 := dkwX3_restore_1 ++ dktX3_restore_2
def dkwX3_restore_0 : List UInt8 := [42, 42, 180, 1, 52, 153, 0, 7, 3, 167, 0, 4, 4, 181, 0, 96, 42, 180, 1, 52, 154, 0, 4, 177]
abbrev dktX3_restore_0 : List UInt8 := dkwX3_restore_0 ++ dktX3_restore_1
theorem dksX3_restore_0 : cX3_restore.data.toList.drop 0 = dktX3_restore_0 := by decide +kernel
theorem dksX3_restore_1 : cX3_restore.data.toList.drop 24 = dktX3_restore_1 := dk_seg dksX3_restore_0 24 rfl rfl
theorem dksX3_restore_2 : cX3_restore.data.toList.drop 47 = dktX3_restore_2 := dk_seg dksX3_restore_1 23 rfl rfl
theorem dksX3_restore_3 : cX3_restore.data.toList.drop 69 = dktX3_restore_3 := dk_seg dksX3_restore_2 22 rfl rfl
theorem dksX3_restore_4 : cX3_restore.data.toList.drop 93 = dktX3_restore_4 := dk_seg dksX3_restore_3 24 rfl rfl
theorem dX3_restore_0 : decode cX3_restore 0 = .ok (.aload_n 0, 1) := dk_42 (dk_at dksX3_restore_0 0 rfl rfl)
theorem dX3_restore_1 : decode cX3_restore 1 = .ok (.aload_n 0, 1) := dk_42 (dk_at dksX3_restore_0 1 rfl rfl)
theorem dX3_restore_2 : decode cX3_restore 2 = .ok (.getfield 308, 3) := dk_180 1 52 (dk_at dksX3_restore_0 2 rfl rfl)
theorem dX3_restore_5 : decode cX3_restore 5 = .ok (.ifCond .eq 7, 3) := dk_153 0 7 (dk_at dksX3_restore_0 5 rfl rfl)
theorem dX3_restore_8 : decode cX3_restore 8 = .ok (.iconst 0, 1) := dk_3 (dk_at dksX3_restore_0 8 rfl rfl)
theorem dX3_restore_9 : decode cX3_restore 9 = .ok (.goto 4, 3) := dk_167 0 4 (dk_at dksX3_restore_0 9 rfl rfl)
theorem dX3_restore_12 : decode cX3_restore 12 = .ok (.iconst 1, 1) := dk_4 (dk_at dksX3_restore_0 12 rfl rfl)
theorem dX3_restore_13 : decode cX3_restore 13 = .ok (.putfield 96, 3) := dk_181 0 96 (dk_at dksX3_restore_0 13 rfl rfl)
theorem dX3_restore_16 : decode cX3_restore 16 = .ok (.aload_n 0, 1) := dk_42 (dk_at dksX3_restore_0 16 rfl rfl)
theorem dX3_restore_17 : decode cX3_restore 17 = .ok (.getfield 308, 3) := dk_180 1 52 (dk_at dksX3_restore_0 17 rfl rfl)
theorem dX3_restore_20 : decode cX3_restore 20 = .ok (.ifCond .ne 4, 3) := dk_154 0 4 (dk_at dksX3_restore_0 20 rfl rfl)
theorem dX3_restore_23 : decode cX3_restore 23 = .ok (.return_, 1) := dk_177 (dk_at dksX3_restore_0 23 rfl rfl)
theorem dX3_restore_24 : decode cX3_restore 24 = .ok (.iconst 0, 1) := dk_3 (dk_at dksX3_restore_1 0 rfl rfl)
theorem dX3_restore_25 : decode cX3_restore 25 = .ok (.istore_n 1, 1) := dk_60 (dk_at dksX3_restore_1 1 rfl rfl)
theorem dX3_restore_26 : decode cX3_restore 26 = .ok (.iload_n 1, 1) := dk_27 (dk_at dksX3_restore_1 2 rfl rfl)
theorem dX3_restore_27 : decode cX3_restore 27 = .ok (.bipush 96, 2) := dk_16 96 (dk_at dksX3_restore_1 3 rfl rfl)
theorem dX3_restore_29 : decode cX3_restore 29 = .ok (.if_icmp .ge 21, 3) := dk_162 0 21 (dk_at dksX3_restore_1 5 rfl rfl)
theorem dX3_restore_32 : decode cX3_restore 32 = .ok (.aload_n 0, 1) := dk_42 (dk_at dksX3_restore_1 8 rfl rfl)
theorem dX3_restore_33 : decode cX3_restore 33 = .ok (.getfield 9, 3) := dk_180 0 9 (dk_at dksX3_restore_1 9 rfl rfl)
theorem dX3_restore_36 : decode cX3_restore 36 = .ok (.iload_n 1, 1) := dk_27 (dk_at dksX3_restore_1 12 rfl rfl)
theorem dX3_restore_37 : decode cX3_restore 37 = .ok (.aload_n 0, 1) := dk_42 (dk_at dksX3_restore_1 13 rfl rfl)
theorem dX3_restore_38 : decode cX3_restore 38 = .ok (.getfield 13, 3) := dk_180 0 13 (dk_at dksX3_restore_1 14 rfl rfl)
theorem dX3_restore_41 : decode cX3_restore 41 = .ok (.iload_n 1, 1) := dk_27 (dk_at dksX3_restore_1 17 rfl rfl)
theorem dX3_restore_42 : decode cX3_restore 42 = .ok (.iaload, 1) := dk_46 (dk_at dksX3_restore_1 18 rfl rfl)
theorem dX3_restore_43 : decode cX3_restore 43 = .ok (.iastore, 1) := dk_79 (dk_at dksX3_restore_1 19 rfl rfl)
theorem dX3_restore_44 : decode cX3_restore 44 = .ok (.iinc 1 1, 3) := dk_132 1 1 (dk_at dksX3_restore_1 20 rfl rfl)
theorem dX3_restore_47 : decode cX3_restore 47 = .ok (.goto (-21), 3) := dk_167 255 235 (dk_at dksX3_restore_2 0 rfl rfl)
theorem dX3_restore_50 : decode cX3_restore 50 = .ok (.iconst 0, 1) := dk_3 (dk_at dksX3_restore_2 3 rfl rfl)
theorem dX3_restore_51 : decode cX3_restore 51 = .ok (.istore_n 1, 1) := dk_60 (dk_at dksX3_restore_2 4 rfl rfl)
theorem dX3_restore_52 : decode cX3_restore 52 = .ok (.iload_n 1, 1) := dk_27 (dk_at dksX3_restore_2 5 rfl rfl)
theorem dX3_restore_53 : decode cX3_restore 53 = .ok (.iconst 4, 1) := dk_7 (dk_at dksX3_restore_2 6 rfl rfl)
theorem dX3_restore_54 : decode cX3_restore 54 = .ok (.if_icmp .ge 21, 3) := dk_162 0 21 (dk_at dksX3_restore_2 7 rfl rfl)
theorem dX3_restore_57 : decode cX3_restore 57 = .ok (.aload_n 0, 1) := dk_42 (dk_at dksX3_restore_2 10 rfl rfl)
theorem dX3_restore_58 : decode cX3_restore 58 = .ok (.getfield 16, 3) := dk_180 0 16 (dk_at dksX3_restore_2 11 rfl rfl)
theorem dX3_restore_61 : decode cX3_restore 61 = .ok (.iload_n 1, 1) := dk_27 (dk_at dksX3_restore_2 14 rfl rfl)
theorem dX3_restore_62 : decode cX3_restore 62 = .ok (.aload_n 0, 1) := dk_42 (dk_at dksX3_restore_2 15 rfl rfl)
theorem dX3_restore_63 : decode cX3_restore 63 = .ok (.getfield 19, 3) := dk_180 0 19 (dk_at dksX3_restore_2 16 rfl rfl)
theorem dX3_restore_66 : decode cX3_restore 66 = .ok (.iload_n 1, 1) := dk_27 (dk_at dksX3_restore_2 19 rfl rfl)
theorem dX3_restore_67 : decode cX3_restore 67 = .ok (.iaload, 1) := dk_46 (dk_at dksX3_restore_2 20 rfl rfl)
theorem dX3_restore_68 : decode cX3_restore 68 = .ok (.iastore, 1) := dk_79 (dk_at dksX3_restore_2 21 rfl rfl)
theorem dX3_restore_69 : decode cX3_restore 69 = .ok (.iinc 1 1, 3) := dk_132 1 1 (dk_at dksX3_restore_3 0 rfl rfl)
theorem dX3_restore_72 : decode cX3_restore 72 = .ok (.goto (-20), 3) := dk_167 255 236 (dk_at dksX3_restore_3 3 rfl rfl)
theorem dX3_restore_75 : decode cX3_restore 75 = .ok (.aload_n 0, 1) := dk_42 (dk_at dksX3_restore_3 6 rfl rfl)
theorem dX3_restore_76 : decode cX3_restore 76 = .ok (.aload_n 0, 1) := dk_42 (dk_at dksX3_restore_3 7 rfl rfl)
theorem dX3_restore_77 : decode cX3_restore 77 = .ok (.getfield 299, 3) := dk_180 1 43 (dk_at dksX3_restore_3 8 rfl rfl)
theorem dX3_restore_80 : decode cX3_restore 80 = .ok (.putfield 99, 3) := dk_181 0 99 (dk_at dksX3_restore_3 11 rfl rfl)
theorem dX3_restore_83 : decode cX3_restore 83 = .ok (.aload_n 0, 1) := dk_42 (dk_at dksX3_restore_3 14 rfl rfl)
theorem dX3_restore_84 : decode cX3_restore 84 = .ok (.aload_n 0, 1) := dk_42 (dk_at dksX3_restore_3 15 rfl rfl)
theorem dX3_restore_85 : decode cX3_restore 85 = .ok (.getfield 302, 3) := dk_180 1 46 (dk_at dksX3_restore_3 16 rfl rfl)
theorem dX3_restore_88 : decode cX3_restore 88 = .ok (.putfield 131, 3) := dk_181 0 131 (dk_at dksX3_restore_3 19 rfl rfl)
theorem dX3_restore_91 : decode cX3_restore 91 = .ok (.aload_n 0, 1) := dk_42 (dk_at dksX3_restore_3 22 rfl rfl)
theorem dX3_restore_92 : decode cX3_restore 92 = .ok (.aload_n 0, 1) := dk_42 (dk_at dksX3_restore_3 23 rfl rfl)
theorem dX3_restore_93 : decode cX3_restore 93 = .ok (.getfield 305, 3) := dk_180 1 49 (dk_at dksX3_restore_4 0 rfl rfl)
theorem dX3_restore_96 : decode cX3_restore 96 = .ok (.putfield 22, 3) := dk_181 0 22 (dk_at dksX3_restore_4 3 rfl rfl)
theorem dX3_restore_99 : decode cX3_restore 99 = .ok (.aload_n 0, 1) := dk_42 (dk_at dksX3_restore_4 6 rfl rfl)
theorem dX3_restore_100 : decode cX3_restore 100 = .ok (.iconst 1, 1) := dk_4 (dk_at dksX3_restore_4 7 rfl rfl)
theorem dX3_restore_101 : decode cX3_restore 101 = .ok (.invokevirtual 123, 3) := dk_182 0 123 (dk_at dksX3_restore_4 8 rfl rfl)
theorem dX3_restore_104 : decode cX3_restore 104 = .ok (.return_, 1) := dk_177 (dk_at dksX3_restore_4 11 rfl rfl)
theorem q80 : (Jvm.Cond.initialized "CodeRecoveryModel") ∈ lw_all := lw_g (lw_at lw_m1 3 rfl) rfl
theorem q413 : (Jvm.Cond.selects "CodeRecoveryModel" ({ cls := "java/lang/Object", name := "getClass", desc := "()Ljava/lang/Class;" } : Jvm.MethodName) ({ cls := "java/lang/Object", name := "getClass", desc := "()Ljava/lang/Class;" } : Jvm.MethodName)) ∈ lw_all := lw_g (lw_at lw_m2 96 rfl) rfl
theorem q830 : (Jvm.Cond.selects "CodeRecoveryModel" ({ cls := "java/lang/Object", name := "equals", desc := "(Ljava/lang/Object;)Z" } : Jvm.MethodName) ({ cls := "java/lang/Object", name := "equals", desc := "(Ljava/lang/Object;)Z" } : Jvm.MethodName)) ∈ lw_all := lw_g (lw_at lw_m4 33 rfl) rfl
theorem q1679 : (Jvm.Cond.instantiable "CodeRecoveryModel" (50 : Nat)) ∈ lw_all := lw_g (lw_at lw_m7 162 rfl) rfl
theorem q1681 : (Jvm.Cond.instanceMethod ({ cls := "CodeRecoveryModel", name := "<init>", desc := "()V" } : Jvm.MethodName)) ∈ lw_all := lw_g (lw_at lw_m7 164 rfl) rfl
theorem q1682 : (Jvm.Cond.code ({ cls := "CodeRecoveryModel", name := "<init>", desc := "()V" } : Jvm.MethodName) prog_12_method_1_code (1 : Nat) (Option.none : Option Jvm.ClassFile.FieldType)) ∈ lw_all := lw_g (lw_at lw_m7 165 rfl) rfl
theorem q1683 : (Jvm.Cond.methodLink "CodeRecoveryModel" (1 : Nat) ({ cls := "java/lang/Object", name := "<init>", desc := "()V" } : Jvm.MethodName)) ∈ lw_all := lw_g (lw_at lw_m7 166 rfl) rfl
theorem q1684 : (Jvm.Cond.fieldLink "CodeRecoveryModel" (96 : Nat) "CodeRecoveryModel" "thrown" "I") ∈ lw_all := lw_g (lw_at lw_m7 167 rfl) rfl
theorem q1685 : (Jvm.Cond.fieldLink "CodeRecoveryModel" (9 : Nat) "CodeRecoveryModel" "memory" "[I") ∈ lw_all := lw_g (lw_at lw_m7 168 rfl) rfl
theorem q1686 : (Jvm.Cond.fieldLink "CodeRecoveryModel" (13 : Nat) "CodeRecoveryModel" "savedMemory" "[I") ∈ lw_all := lw_g (lw_at lw_m7 169 rfl) rfl
theorem q1687 : (Jvm.Cond.fieldLink "CodeRecoveryModel" (16 : Nat) "CodeRecoveryModel" "entries" "[I") ∈ lw_all := lw_g (lw_at lw_m7 170 rfl) rfl
theorem q1688 : (Jvm.Cond.fieldLink "CodeRecoveryModel" (19 : Nat) "CodeRecoveryModel" "savedEntries" "[I") ∈ lw_all := lw_g (lw_at lw_m7 171 rfl) rfl
theorem q1689 : (Jvm.Cond.fieldLink "CodeRecoveryModel" (99 : Nat) "CodeRecoveryModel" "size" "I") ∈ lw_all := lw_g (lw_at lw_m7 172 rfl) rfl
theorem q1690 : (Jvm.Cond.fieldLink "CodeRecoveryModel" (131 : Nat) "CodeRecoveryModel" "entryMany" "I") ∈ lw_all := lw_g (lw_at lw_m7 173 rfl) rfl
theorem q1691 : (Jvm.Cond.fieldLink "CodeRecoveryModel" (22 : Nat) "CodeRecoveryModel" "threshold" "I") ∈ lw_all := lw_g (lw_at lw_m7 174 rfl) rfl
theorem q1692 : (Jvm.Cond.fieldLink "CodeRecoveryModel" (299 : Nat) "CodeRecoveryModel" "savedSize" "I") ∈ lw_all := lw_g (lw_at lw_m7 175 rfl) rfl
theorem q1693 : (Jvm.Cond.fieldLink "CodeRecoveryModel" (302 : Nat) "CodeRecoveryModel" "savedEntryMany" "I") ∈ lw_all := lw_g (lw_at lw_m7 176 rfl) rfl
theorem q1694 : (Jvm.Cond.fieldLink "CodeRecoveryModel" (305 : Nat) "CodeRecoveryModel" "savedThreshold" "I") ∈ lw_all := lw_g (lw_at lw_m7 177 rfl) rfl
theorem q1695 : (Jvm.Cond.fieldLink "CodeRecoveryModel" (308 : Nat) "CodeRecoveryModel" "hasSaved" "Z") ∈ lw_all := lw_g (lw_at lw_m7 178 rfl) rfl
theorem q1696 : (Jvm.Cond.fieldLink "CodeRecoveryModel" (26 : Nat) "CodeRecoveryModel" "text" "[I") ∈ lw_all := lw_g (lw_at lw_m7 179 rfl) rfl
theorem q1697 : (Jvm.Cond.fieldLink "CodeRecoveryModel" (117 : Nat) "CodeRecoveryModel" "length" "I") ∈ lw_all := lw_g (lw_at lw_m7 180 rfl) rfl
theorem q1698 : (Jvm.Cond.fieldLink "CodeRecoveryModel" (29 : Nat) "CodeRecoveryModel" "faultAt" "I") ∈ lw_all := lw_g (lw_at lw_m7 181 rfl) rfl
theorem q1699 : (Jvm.Cond.fieldLink "CodeRecoveryModel" (106 : Nat) "CodeRecoveryModel" "isRecovered" "Z") ∈ lw_all := lw_g (lw_at lw_m7 182 rfl) rfl
theorem q1700 : (Jvm.Cond.fieldLink "CodeRecoveryModel" (32 : Nat) "CodeRecoveryModel" "begins" "[I") ∈ lw_all := lw_g (lw_at lw_m7 183 rfl) rfl
theorem q1701 : (Jvm.Cond.fieldLink "CodeRecoveryModel" (35 : Nat) "CodeRecoveryModel" "owner" "[I") ∈ lw_all := lw_g (lw_at lw_m7 184 rfl) rfl
theorem q1702 : (Jvm.Cond.fieldLink "CodeRecoveryModel" (38 : Nat) "CodeRecoveryModel" "speculates" "[I") ∈ lw_all := lw_g (lw_at lw_m7 185 rfl) rfl
theorem q1703 : (Jvm.Cond.fieldLink "CodeRecoveryModel" (41 : Nat) "CodeRecoveryModel" "speculateOwner" "[I") ∈ lw_all := lw_g (lw_at lw_m7 186 rfl) rfl
theorem q1704 : (Jvm.Cond.fieldLink "CodeRecoveryModel" (44 : Nat) "CodeRecoveryModel" "isTable" "[Z") ∈ lw_all := lw_g (lw_at lw_m7 187 rfl) rfl
theorem q1705 : (Jvm.Cond.fieldLink "CodeRecoveryModel" (48 : Nat) "CodeRecoveryModel" "isBad" "[Z") ∈ lw_all := lw_g (lw_at lw_m7 188 rfl) rfl
theorem q1706 : (Jvm.Cond.fieldLink "CodeRecoveryModel" (51 : Nat) "CodeRecoveryModel" "list" "[I") ∈ lw_all := lw_g (lw_at lw_m7 189 rfl) rfl
theorem q1707 : (Jvm.Cond.fieldLink "CodeRecoveryModel" (161 : Nat) "CodeRecoveryModel" "listed" "I") ∈ lw_all := lw_g (lw_at lw_m7 190 rfl) rfl
theorem q1708 : (Jvm.Cond.fieldLink "CodeRecoveryModel" (170 : Nat) "CodeRecoveryModel" "acceptedMany" "I") ∈ lw_all := lw_g (lw_at lw_m7 191 rfl) rfl
theorem q1709 : (Jvm.Cond.fieldLink "CodeRecoveryModel" (167 : Nat) "CodeRecoveryModel" "conflictMany" "I") ∈ lw_all := lw_g (lw_at lw_m7 192 rfl) rfl
theorem q1710 : (Jvm.Cond.fieldLink "CodeRecoveryModel" (164 : Nat) "CodeRecoveryModel" "badMany" "I") ∈ lw_all := lw_g (lw_at lw_m7 193 rfl) rfl
theorem q1711 : (Jvm.Cond.fieldLink "CodeRecoveryModel" (202 : Nat) "CodeRecoveryModel" "tableMany" "I") ∈ lw_all := lw_g (lw_at lw_m7 194 rfl) rfl
theorem q1712 : (Jvm.Cond.fieldLink "CodeRecoveryModel" (223 : Nat) "CodeRecoveryModel" "gapMany" "I") ∈ lw_all := lw_g (lw_at lw_m7 195 rfl) rfl
theorem q1713 : (Jvm.Cond.fieldLink "CodeRecoveryModel" (217 : Nat) "CodeRecoveryModel" "speculativeMany" "I") ∈ lw_all := lw_g (lw_at lw_m7 196 rfl) rfl
theorem q1714 : (Jvm.Cond.fieldLink "CodeRecoveryModel" (54 : Nat) "CodeRecoveryModel" "conflicts" "[I") ∈ lw_all := lw_g (lw_at lw_m7 197 rfl) rfl
theorem q1715 : (Jvm.Cond.fieldLink "CodeRecoveryModel" (57 : Nat) "CodeRecoveryModel" "tableJump" "[I") ∈ lw_all := lw_g (lw_at lw_m7 198 rfl) rfl
theorem q1716 : (Jvm.Cond.fieldLink "CodeRecoveryModel" (60 : Nat) "CodeRecoveryModel" "tableBase" "[I") ∈ lw_all := lw_g (lw_at lw_m7 199 rfl) rfl
theorem q1717 : (Jvm.Cond.fieldLink "CodeRecoveryModel" (63 : Nat) "CodeRecoveryModel" "tableBound" "[I") ∈ lw_all := lw_g (lw_at lw_m7 200 rfl) rfl
theorem q1718 : (Jvm.Cond.fieldLink "CodeRecoveryModel" (66 : Nat) "CodeRecoveryModel" "tableSize" "[I") ∈ lw_all := lw_g (lw_at lw_m7 201 rfl) rfl
theorem q1719 : (Jvm.Cond.fieldLink "CodeRecoveryModel" (69 : Nat) "CodeRecoveryModel" "tablePlaces" "[I") ∈ lw_all := lw_g (lw_at lw_m7 202 rfl) rfl
theorem q1720 : (Jvm.Cond.fieldLink "CodeRecoveryModel" (72 : Nat) "CodeRecoveryModel" "gapFirst" "[I") ∈ lw_all := lw_g (lw_at lw_m7 203 rfl) rfl
theorem q1721 : (Jvm.Cond.fieldLink "CodeRecoveryModel" (75 : Nat) "CodeRecoveryModel" "gapLength" "[I") ∈ lw_all := lw_g (lw_at lw_m7 204 rfl) rfl
theorem q1722 : (Jvm.Cond.fieldLink "CodeRecoveryModel" (78 : Nat) "CodeRecoveryModel" "gapScore" "[I") ∈ lw_all := lw_g (lw_at lw_m7 205 rfl) rfl
theorem q1723 : (Jvm.Cond.fieldLink "CodeRecoveryModel" (110 : Nat) "CodeRecoveryModel" "isRun" "Z") ∈ lw_all := lw_g (lw_at lw_m7 206 rfl) rfl
theorem q1724 : (Jvm.Cond.fieldLink "CodeRecoveryModel" (81 : Nat) "CodeRecoveryModel" "executed" "[I") ∈ lw_all := lw_g (lw_at lw_m7 207 rfl) rfl
theorem q1725 : (Jvm.Cond.fieldLink "CodeRecoveryModel" (84 : Nat) "CodeRecoveryModel" "registers" "[I") ∈ lw_all := lw_g (lw_at lw_m7 208 rfl) rfl
theorem q1726 : (Jvm.Cond.fieldLink "CodeRecoveryModel" (87 : Nat) "CodeRecoveryModel" "stack" "[I") ∈ lw_all := lw_g (lw_at lw_m7 209 rfl) rfl
theorem q1727 : (Jvm.Cond.fieldLink "CodeRecoveryModel" (192 : Nat) "CodeRecoveryModel" "only" "I") ∈ lw_all := lw_g (lw_at lw_m7 210 rfl) rfl
theorem q1728 : (Jvm.Cond.fieldLink "CodeRecoveryModel" (261 : Nat) "CodeRecoveryModel" "blockLast" "I") ∈ lw_all := lw_g (lw_at lw_m7 211 rfl) rfl
theorem q1729 : (Jvm.Cond.fieldLink "CodeRecoveryModel" (90 : Nat) "CodeRecoveryModel" "isReached" "[Z") ∈ lw_all := lw_g (lw_at lw_m7 212 rfl) rfl
theorem q1730 : (Jvm.Cond.fieldLink "CodeRecoveryModel" (93 : Nat) "CodeRecoveryModel" "open" "[I") ∈ lw_all := lw_g (lw_at lw_m7 213 rfl) rfl
theorem q1731 : (Jvm.Cond.fieldLink "CodeRecoveryModel" (274 : Nat) "CodeRecoveryModel" "opened" "I") ∈ lw_all := lw_g (lw_at lw_m7 214 rfl) rfl
theorem q1732 : (Jvm.Cond.fieldLink "CodeRecoveryModel" (293 : Nat) "CodeRecoveryModel" "stacked" "I") ∈ lw_all := lw_g (lw_at lw_m7 215 rfl) rfl
theorem q1733 : (Jvm.Cond.fieldLink "CodeRecoveryModel" (280 : Nat) "CodeRecoveryModel" "flag" "Z") ∈ lw_all := lw_g (lw_at lw_m7 216 rfl) rfl
theorem q1734 : (Jvm.Cond.lays "CodeRecoveryModel" "CodeRecoveryModel" "thrown" "I") ∈ lw_all := lw_g (lw_at lw_m7 217 rfl) rfl
theorem q1735 : (Jvm.Cond.soleField "CodeRecoveryModel" "thrown") ∈ lw_all := lw_g (lw_at lw_m7 218 rfl) rfl
theorem q1736 : (Jvm.Cond.laysFinal "CodeRecoveryModel" "CodeRecoveryModel" "memory" "[I") ∈ lw_all := lw_g (lw_at lw_m7 219 rfl) rfl
theorem q1737 : (Jvm.Cond.soleField "CodeRecoveryModel" "memory") ∈ lw_all := lw_g (lw_at lw_m7 220 rfl) rfl
theorem q1738 : (Jvm.Cond.laysFinal "CodeRecoveryModel" "CodeRecoveryModel" "savedMemory" "[I") ∈ lw_all := lw_g (lw_at lw_m7 221 rfl) rfl
theorem q1739 : (Jvm.Cond.soleField "CodeRecoveryModel" "savedMemory") ∈ lw_all := lw_g (lw_at lw_m7 222 rfl) rfl
theorem q1740 : (Jvm.Cond.laysFinal "CodeRecoveryModel" "CodeRecoveryModel" "entries" "[I") ∈ lw_all := lw_g (lw_at lw_m7 223 rfl) rfl
theorem q1741 : (Jvm.Cond.soleField "CodeRecoveryModel" "entries") ∈ lw_all := lw_g (lw_at lw_m7 224 rfl) rfl
theorem q1742 : (Jvm.Cond.laysFinal "CodeRecoveryModel" "CodeRecoveryModel" "savedEntries" "[I") ∈ lw_all := lw_g (lw_at lw_m7 225 rfl) rfl
theorem q1743 : (Jvm.Cond.soleField "CodeRecoveryModel" "savedEntries") ∈ lw_all := lw_g (lw_at lw_m7 226 rfl) rfl
theorem q1744 : (Jvm.Cond.lays "CodeRecoveryModel" "CodeRecoveryModel" "size" "I") ∈ lw_all := lw_g (lw_at lw_m7 227 rfl) rfl
theorem q1745 : (Jvm.Cond.soleField "CodeRecoveryModel" "size") ∈ lw_all := lw_g (lw_at lw_m7 228 rfl) rfl
theorem q1746 : (Jvm.Cond.lays "CodeRecoveryModel" "CodeRecoveryModel" "entryMany" "I") ∈ lw_all := lw_g (lw_at lw_m7 229 rfl) rfl
theorem q1747 : (Jvm.Cond.soleField "CodeRecoveryModel" "entryMany") ∈ lw_all := lw_g (lw_at lw_m7 230 rfl) rfl
theorem q1748 : (Jvm.Cond.lays "CodeRecoveryModel" "CodeRecoveryModel" "threshold" "I") ∈ lw_all := lw_g (lw_at lw_m7 231 rfl) rfl
theorem q1749 : (Jvm.Cond.soleField "CodeRecoveryModel" "threshold") ∈ lw_all := lw_g (lw_at lw_m7 232 rfl) rfl
theorem q1750 : (Jvm.Cond.lays "CodeRecoveryModel" "CodeRecoveryModel" "savedSize" "I") ∈ lw_all := lw_g (lw_at lw_m7 233 rfl) rfl
theorem q1751 : (Jvm.Cond.soleField "CodeRecoveryModel" "savedSize") ∈ lw_all := lw_g (lw_at lw_m7 234 rfl) rfl
theorem q1752 : (Jvm.Cond.lays "CodeRecoveryModel" "CodeRecoveryModel" "savedEntryMany" "I") ∈ lw_all := lw_g (lw_at lw_m7 235 rfl) rfl
theorem q1753 : (Jvm.Cond.soleField "CodeRecoveryModel" "savedEntryMany") ∈ lw_all := lw_g (lw_at lw_m7 236 rfl) rfl
theorem q1754 : (Jvm.Cond.lays "CodeRecoveryModel" "CodeRecoveryModel" "savedThreshold" "I") ∈ lw_all := lw_g (lw_at lw_m7 237 rfl) rfl
theorem q1755 : (Jvm.Cond.soleField "CodeRecoveryModel" "savedThreshold") ∈ lw_all := lw_g (lw_at lw_m7 238 rfl) rfl
theorem q1756 : (Jvm.Cond.lays "CodeRecoveryModel" "CodeRecoveryModel" "hasSaved" "Z") ∈ lw_all := lw_g (lw_at lw_m7 239 rfl) rfl
theorem q1757 : (Jvm.Cond.soleField "CodeRecoveryModel" "hasSaved") ∈ lw_all := lw_g (lw_at lw_m8 0 rfl) rfl
theorem q1758 : (Jvm.Cond.laysFinal "CodeRecoveryModel" "CodeRecoveryModel" "text" "[I") ∈ lw_all := lw_g (lw_at lw_m8 1 rfl) rfl
theorem q1759 : (Jvm.Cond.soleField "CodeRecoveryModel" "text") ∈ lw_all := lw_g (lw_at lw_m8 2 rfl) rfl
theorem q1760 : (Jvm.Cond.lays "CodeRecoveryModel" "CodeRecoveryModel" "length" "I") ∈ lw_all := lw_g (lw_at lw_m8 3 rfl) rfl
theorem q1761 : (Jvm.Cond.soleField "CodeRecoveryModel" "length") ∈ lw_all := lw_g (lw_at lw_m8 4 rfl) rfl
theorem q1762 : (Jvm.Cond.lays "CodeRecoveryModel" "CodeRecoveryModel" "faultAt" "I") ∈ lw_all := lw_g (lw_at lw_m8 5 rfl) rfl
theorem q1763 : (Jvm.Cond.soleField "CodeRecoveryModel" "faultAt") ∈ lw_all := lw_g (lw_at lw_m8 6 rfl) rfl
theorem q1764 : (Jvm.Cond.lays "CodeRecoveryModel" "CodeRecoveryModel" "isRecovered" "Z") ∈ lw_all := lw_g (lw_at lw_m8 7 rfl) rfl
theorem q1765 : (Jvm.Cond.soleField "CodeRecoveryModel" "isRecovered") ∈ lw_all := lw_g (lw_at lw_m8 8 rfl) rfl
theorem q1766 : (Jvm.Cond.laysFinal "CodeRecoveryModel" "CodeRecoveryModel" "begins" "[I") ∈ lw_all := lw_g (lw_at lw_m8 9 rfl) rfl
theorem q1767 : (Jvm.Cond.soleField "CodeRecoveryModel" "begins") ∈ lw_all := lw_g (lw_at lw_m8 10 rfl) rfl
theorem q1768 : (Jvm.Cond.laysFinal "CodeRecoveryModel" "CodeRecoveryModel" "owner" "[I") ∈ lw_all := lw_g (lw_at lw_m8 11 rfl) rfl
theorem q1769 : (Jvm.Cond.soleField "CodeRecoveryModel" "owner") ∈ lw_all := lw_g (lw_at lw_m8 12 rfl) rfl
theorem q1770 : (Jvm.Cond.laysFinal "CodeRecoveryModel" "CodeRecoveryModel" "speculates" "[I") ∈ lw_all := lw_g (lw_at lw_m8 13 rfl) rfl
theorem q1771 : (Jvm.Cond.soleField "CodeRecoveryModel" "speculates") ∈ lw_all := lw_g (lw_at lw_m8 14 rfl) rfl
theorem q1772 : (Jvm.Cond.laysFinal "CodeRecoveryModel" "CodeRecoveryModel" "speculateOwner" "[I") ∈ lw_all := lw_g (lw_at lw_m8 15 rfl) rfl
theorem q1773 : (Jvm.Cond.soleField "CodeRecoveryModel" "speculateOwner") ∈ lw_all := lw_g (lw_at lw_m8 16 rfl) rfl
theorem q1774 : (Jvm.Cond.laysFinal "CodeRecoveryModel" "CodeRecoveryModel" "isTable" "[Z") ∈ lw_all := lw_g (lw_at lw_m8 17 rfl) rfl
theorem q1775 : (Jvm.Cond.soleField "CodeRecoveryModel" "isTable") ∈ lw_all := lw_g (lw_at lw_m8 18 rfl) rfl
theorem q1776 : (Jvm.Cond.laysFinal "CodeRecoveryModel" "CodeRecoveryModel" "isBad" "[Z") ∈ lw_all := lw_g (lw_at lw_m8 19 rfl) rfl
theorem q1777 : (Jvm.Cond.soleField "CodeRecoveryModel" "isBad") ∈ lw_all := lw_g (lw_at lw_m8 20 rfl) rfl
theorem q1778 : (Jvm.Cond.laysFinal "CodeRecoveryModel" "CodeRecoveryModel" "list" "[I") ∈ lw_all := lw_g (lw_at lw_m8 21 rfl) rfl
theorem q1779 : (Jvm.Cond.soleField "CodeRecoveryModel" "list") ∈ lw_all := lw_g (lw_at lw_m8 22 rfl) rfl
theorem q1780 : (Jvm.Cond.lays "CodeRecoveryModel" "CodeRecoveryModel" "listed" "I") ∈ lw_all := lw_g (lw_at lw_m8 23 rfl) rfl
theorem q1781 : (Jvm.Cond.soleField "CodeRecoveryModel" "listed") ∈ lw_all := lw_g (lw_at lw_m8 24 rfl) rfl
theorem q1782 : (Jvm.Cond.lays "CodeRecoveryModel" "CodeRecoveryModel" "acceptedMany" "I") ∈ lw_all := lw_g (lw_at lw_m8 25 rfl) rfl
theorem q1783 : (Jvm.Cond.soleField "CodeRecoveryModel" "acceptedMany") ∈ lw_all := lw_g (lw_at lw_m8 26 rfl) rfl
theorem q1784 : (Jvm.Cond.lays "CodeRecoveryModel" "CodeRecoveryModel" "conflictMany" "I") ∈ lw_all := lw_g (lw_at lw_m8 27 rfl) rfl
theorem q1785 : (Jvm.Cond.soleField "CodeRecoveryModel" "conflictMany") ∈ lw_all := lw_g (lw_at lw_m8 28 rfl) rfl
theorem q1786 : (Jvm.Cond.lays "CodeRecoveryModel" "CodeRecoveryModel" "badMany" "I") ∈ lw_all := lw_g (lw_at lw_m8 29 rfl) rfl
theorem q1787 : (Jvm.Cond.soleField "CodeRecoveryModel" "badMany") ∈ lw_all := lw_g (lw_at lw_m8 30 rfl) rfl
theorem q1788 : (Jvm.Cond.lays "CodeRecoveryModel" "CodeRecoveryModel" "tableMany" "I") ∈ lw_all := lw_g (lw_at lw_m8 31 rfl) rfl
theorem q1789 : (Jvm.Cond.soleField "CodeRecoveryModel" "tableMany") ∈ lw_all := lw_g (lw_at lw_m8 32 rfl) rfl
theorem q1790 : (Jvm.Cond.lays "CodeRecoveryModel" "CodeRecoveryModel" "gapMany" "I") ∈ lw_all := lw_g (lw_at lw_m8 33 rfl) rfl
theorem q1791 : (Jvm.Cond.soleField "CodeRecoveryModel" "gapMany") ∈ lw_all := lw_g (lw_at lw_m8 34 rfl) rfl
theorem q1792 : (Jvm.Cond.lays "CodeRecoveryModel" "CodeRecoveryModel" "speculativeMany" "I") ∈ lw_all := lw_g (lw_at lw_m8 35 rfl) rfl
theorem q1793 : (Jvm.Cond.soleField "CodeRecoveryModel" "speculativeMany") ∈ lw_all := lw_g (lw_at lw_m8 36 rfl) rfl
theorem q1794 : (Jvm.Cond.laysFinal "CodeRecoveryModel" "CodeRecoveryModel" "conflicts" "[I") ∈ lw_all := lw_g (lw_at lw_m8 37 rfl) rfl
theorem q1795 : (Jvm.Cond.soleField "CodeRecoveryModel" "conflicts") ∈ lw_all := lw_g (lw_at lw_m8 38 rfl) rfl
theorem q1796 : (Jvm.Cond.laysFinal "CodeRecoveryModel" "CodeRecoveryModel" "tableJump" "[I") ∈ lw_all := lw_g (lw_at lw_m8 39 rfl) rfl
theorem q1797 : (Jvm.Cond.soleField "CodeRecoveryModel" "tableJump") ∈ lw_all := lw_g (lw_at lw_m8 40 rfl) rfl
theorem q1798 : (Jvm.Cond.laysFinal "CodeRecoveryModel" "CodeRecoveryModel" "tableBase" "[I") ∈ lw_all := lw_g (lw_at lw_m8 41 rfl) rfl
theorem q1799 : (Jvm.Cond.soleField "CodeRecoveryModel" "tableBase") ∈ lw_all := lw_g (lw_at lw_m8 42 rfl) rfl
theorem q1800 : (Jvm.Cond.laysFinal "CodeRecoveryModel" "CodeRecoveryModel" "tableBound" "[I") ∈ lw_all := lw_g (lw_at lw_m8 43 rfl) rfl
theorem q1801 : (Jvm.Cond.soleField "CodeRecoveryModel" "tableBound") ∈ lw_all := lw_g (lw_at lw_m8 44 rfl) rfl
theorem q1802 : (Jvm.Cond.laysFinal "CodeRecoveryModel" "CodeRecoveryModel" "tableSize" "[I") ∈ lw_all := lw_g (lw_at lw_m8 45 rfl) rfl
theorem q1803 : (Jvm.Cond.soleField "CodeRecoveryModel" "tableSize") ∈ lw_all := lw_g (lw_at lw_m8 46 rfl) rfl
theorem q1804 : (Jvm.Cond.laysFinal "CodeRecoveryModel" "CodeRecoveryModel" "tablePlaces" "[I") ∈ lw_all := lw_g (lw_at lw_m8 47 rfl) rfl
theorem q1805 : (Jvm.Cond.soleField "CodeRecoveryModel" "tablePlaces") ∈ lw_all := lw_g (lw_at lw_m8 48 rfl) rfl
theorem q1806 : (Jvm.Cond.laysFinal "CodeRecoveryModel" "CodeRecoveryModel" "gapFirst" "[I") ∈ lw_all := lw_g (lw_at lw_m8 49 rfl) rfl
theorem q1807 : (Jvm.Cond.soleField "CodeRecoveryModel" "gapFirst") ∈ lw_all := lw_g (lw_at lw_m8 50 rfl) rfl
theorem q1808 : (Jvm.Cond.laysFinal "CodeRecoveryModel" "CodeRecoveryModel" "gapLength" "[I") ∈ lw_all := lw_g (lw_at lw_m8 51 rfl) rfl
theorem q1809 : (Jvm.Cond.soleField "CodeRecoveryModel" "gapLength") ∈ lw_all := lw_g (lw_at lw_m8 52 rfl) rfl
theorem q1810 : (Jvm.Cond.laysFinal "CodeRecoveryModel" "CodeRecoveryModel" "gapScore" "[I") ∈ lw_all := lw_g (lw_at lw_m8 53 rfl) rfl
theorem q1811 : (Jvm.Cond.soleField "CodeRecoveryModel" "gapScore") ∈ lw_all := lw_g (lw_at lw_m8 54 rfl) rfl
theorem q1812 : (Jvm.Cond.lays "CodeRecoveryModel" "CodeRecoveryModel" "isRun" "Z") ∈ lw_all := lw_g (lw_at lw_m8 55 rfl) rfl
theorem q1813 : (Jvm.Cond.soleField "CodeRecoveryModel" "isRun") ∈ lw_all := lw_g (lw_at lw_m8 56 rfl) rfl
theorem q1814 : (Jvm.Cond.laysFinal "CodeRecoveryModel" "CodeRecoveryModel" "executed" "[I") ∈ lw_all := lw_g (lw_at lw_m8 57 rfl) rfl
theorem q1815 : (Jvm.Cond.soleField "CodeRecoveryModel" "executed") ∈ lw_all := lw_g (lw_at lw_m8 58 rfl) rfl
theorem q1816 : (Jvm.Cond.laysFinal "CodeRecoveryModel" "CodeRecoveryModel" "registers" "[I") ∈ lw_all := lw_g (lw_at lw_m8 59 rfl) rfl
theorem q1817 : (Jvm.Cond.soleField "CodeRecoveryModel" "registers") ∈ lw_all := lw_g (lw_at lw_m8 60 rfl) rfl
theorem q1818 : (Jvm.Cond.laysFinal "CodeRecoveryModel" "CodeRecoveryModel" "stack" "[I") ∈ lw_all := lw_g (lw_at lw_m8 61 rfl) rfl
theorem q1819 : (Jvm.Cond.soleField "CodeRecoveryModel" "stack") ∈ lw_all := lw_g (lw_at lw_m8 62 rfl) rfl
theorem q1820 : (Jvm.Cond.lays "CodeRecoveryModel" "CodeRecoveryModel" "only" "I") ∈ lw_all := lw_g (lw_at lw_m8 63 rfl) rfl
theorem q1821 : (Jvm.Cond.soleField "CodeRecoveryModel" "only") ∈ lw_all := lw_g (lw_at lw_m8 64 rfl) rfl
theorem q1822 : (Jvm.Cond.lays "CodeRecoveryModel" "CodeRecoveryModel" "blockLast" "I") ∈ lw_all := lw_g (lw_at lw_m8 65 rfl) rfl
theorem q1823 : (Jvm.Cond.soleField "CodeRecoveryModel" "blockLast") ∈ lw_all := lw_g (lw_at lw_m8 66 rfl) rfl
theorem q1824 : (Jvm.Cond.laysFinal "CodeRecoveryModel" "CodeRecoveryModel" "isReached" "[Z") ∈ lw_all := lw_g (lw_at lw_m8 67 rfl) rfl
theorem q1825 : (Jvm.Cond.soleField "CodeRecoveryModel" "isReached") ∈ lw_all := lw_g (lw_at lw_m8 68 rfl) rfl
theorem q1826 : (Jvm.Cond.laysFinal "CodeRecoveryModel" "CodeRecoveryModel" "open" "[I") ∈ lw_all := lw_g (lw_at lw_m8 69 rfl) rfl
theorem q1827 : (Jvm.Cond.soleField "CodeRecoveryModel" "open") ∈ lw_all := lw_g (lw_at lw_m8 70 rfl) rfl
theorem q1828 : (Jvm.Cond.lays "CodeRecoveryModel" "CodeRecoveryModel" "opened" "I") ∈ lw_all := lw_g (lw_at lw_m8 71 rfl) rfl
theorem q1829 : (Jvm.Cond.soleField "CodeRecoveryModel" "opened") ∈ lw_all := lw_g (lw_at lw_m8 72 rfl) rfl
theorem q1830 : (Jvm.Cond.lays "CodeRecoveryModel" "CodeRecoveryModel" "stacked" "I") ∈ lw_all := lw_g (lw_at lw_m8 73 rfl) rfl
theorem q1831 : (Jvm.Cond.soleField "CodeRecoveryModel" "stacked") ∈ lw_all := lw_g (lw_at lw_m8 74 rfl) rfl
theorem q1832 : (Jvm.Cond.lays "CodeRecoveryModel" "CodeRecoveryModel" "flag" "Z") ∈ lw_all := lw_g (lw_at lw_m8 75 rfl) rfl
theorem q1833 : (Jvm.Cond.soleField "CodeRecoveryModel" "flag") ∈ lw_all := lw_g (lw_at lw_m8 76 rfl) rfl
theorem q1834 : (Jvm.Cond.superclass "CodeRecoveryModel" "java/lang/Object") ∈ lw_all := lw_g (lw_at lw_m8 77 rfl) rfl
theorem q1837 : (Jvm.Cond.instanceMethod ({ cls := "CodeRecoveryModel", name := "thrown", desc := "()I" } : Jvm.MethodName)) ∈ lw_all := lw_g (lw_at lw_m8 80 rfl) rfl
theorem q1838 : (Jvm.Cond.selects "CodeRecoveryModel" ({ cls := "CodeRecoveryModel", name := "thrown", desc := "()I" } : Jvm.MethodName) ({ cls := "CodeRecoveryModel", name := "thrown", desc := "()I" } : Jvm.MethodName)) ∈ lw_all := lw_g (lw_at lw_m8 81 rfl) rfl
theorem q1839 : (Jvm.Cond.code ({ cls := "CodeRecoveryModel", name := "thrown", desc := "()I" } : Jvm.MethodName) prog_12_method_2_code (1 : Nat) (Option.some Jvm.ClassFile.FieldType.int)) ∈ lw_all := lw_g (lw_at lw_m8 82 rfl) rfl
theorem q1841 : (Jvm.Cond.instanceMethod ({ cls := "CodeRecoveryModel", name := "appendCharacter", desc := "(I)I" } : Jvm.MethodName)) ∈ lw_all := lw_g (lw_at lw_m8 84 rfl) rfl
theorem q1842 : (Jvm.Cond.selects "CodeRecoveryModel" ({ cls := "CodeRecoveryModel", name := "appendCharacter", desc := "(I)I" } : Jvm.MethodName) ({ cls := "CodeRecoveryModel", name := "appendCharacter", desc := "(I)I" } : Jvm.MethodName)) ∈ lw_all := lw_g (lw_at lw_m8 85 rfl) rfl
theorem q1843 : (Jvm.Cond.code ({ cls := "CodeRecoveryModel", name := "appendCharacter", desc := "(I)I" } : Jvm.MethodName) prog_12_method_7_code (2 : Nat) (Option.some Jvm.ClassFile.FieldType.int)) ∈ lw_all := lw_g (lw_at lw_m8 86 rfl) rfl
theorem q1844 : (Jvm.Cond.methodLink "CodeRecoveryModel" (102 : Nat) ({ cls := "CodeRecoveryModel", name := "in", desc := "(III)Z" } : Jvm.MethodName)) ∈ lw_all := lw_g (lw_at lw_m8 87 rfl) rfl
theorem q1845 : (Jvm.Cond.static ({ cls := "CodeRecoveryModel", name := "in", desc := "(III)Z" } : Jvm.MethodName)) ∈ lw_all := lw_g (lw_at lw_m8 88 rfl) rfl
theorem q1846 : (Jvm.Cond.code ({ cls := "CodeRecoveryModel", name := "in", desc := "(III)Z" } : Jvm.MethodName) prog_12_method_4_code (3 : Nat) (Option.some Jvm.ClassFile.FieldType.boolean)) ∈ lw_all := lw_g (lw_at lw_m8 89 rfl) rfl
theorem q1847 : (Jvm.Cond.methodLink "CodeRecoveryModel" (113 : Nat) ({ cls := "CodeRecoveryModel", name := "fails", desc := "(I)I" } : Jvm.MethodName)) ∈ lw_all := lw_g (lw_at lw_m8 90 rfl) rfl
theorem q1848 : (Jvm.Cond.privateMethod ({ cls := "CodeRecoveryModel", name := "fails", desc := "(I)I" } : Jvm.MethodName)) ∈ lw_tbl := lw_at lw_m8 91 rfl
theorem q1849 : (Jvm.Cond.instanceMethod ({ cls := "CodeRecoveryModel", name := "fails", desc := "(I)I" } : Jvm.MethodName)) ∈ lw_all := lw_g (lw_at lw_m8 92 rfl) rfl
theorem q1850 : (Jvm.Cond.code ({ cls := "CodeRecoveryModel", name := "fails", desc := "(I)I" } : Jvm.MethodName) prog_12_method_3_code (2 : Nat) (Option.some Jvm.ClassFile.FieldType.int)) ∈ lw_all := lw_g (lw_at lw_m8 93 rfl) rfl
theorem q1852 : (Jvm.Cond.instanceMethod ({ cls := "CodeRecoveryModel", name := "addBytes", desc := "()I" } : Jvm.MethodName)) ∈ lw_all := lw_g (lw_at lw_m8 95 rfl) rfl
theorem q1853 : (Jvm.Cond.selects "CodeRecoveryModel" ({ cls := "CodeRecoveryModel", name := "addBytes", desc := "()I" } : Jvm.MethodName) ({ cls := "CodeRecoveryModel", name := "addBytes", desc := "()I" } : Jvm.MethodName)) ∈ lw_all := lw_g (lw_at lw_m8 96 rfl) rfl
theorem q1854 : (Jvm.Cond.code ({ cls := "CodeRecoveryModel", name := "addBytes", desc := "()I" } : Jvm.MethodName) prog_12_method_9_code (4 : Nat) (Option.some Jvm.ClassFile.FieldType.int)) ∈ lw_all := lw_g (lw_at lw_m8 97 rfl) rfl
theorem q1855 : (Jvm.Cond.methodLink "CodeRecoveryModel" (120 : Nat) ({ cls := "CodeRecoveryModel", name := "digitOf", desc := "(I)I" } : Jvm.MethodName)) ∈ lw_all := lw_g (lw_at lw_m8 98 rfl) rfl
theorem q1856 : (Jvm.Cond.static ({ cls := "CodeRecoveryModel", name := "digitOf", desc := "(I)I" } : Jvm.MethodName)) ∈ lw_all := lw_g (lw_at lw_m8 99 rfl) rfl
theorem q1857 : (Jvm.Cond.code ({ cls := "CodeRecoveryModel", name := "digitOf", desc := "(I)I" } : Jvm.MethodName) prog_12_method_8_code (1 : Nat) (Option.some Jvm.ClassFile.FieldType.int)) ∈ lw_all := lw_g (lw_at lw_m8 100 rfl) rfl
theorem q1858 : (Jvm.Cond.methodLink "CodeRecoveryModel" (123 : Nat) ({ cls := "CodeRecoveryModel", name := "changes", desc := "(Z)V" } : Jvm.MethodName)) ∈ lw_all := lw_g (lw_at lw_m8 101 rfl) rfl
theorem q1859 : (Jvm.Cond.privateMethod ({ cls := "CodeRecoveryModel", name := "changes", desc := "(Z)V" } : Jvm.MethodName)) ∈ lw_tbl := lw_at lw_m8 102 rfl
theorem q1860 : (Jvm.Cond.instanceMethod ({ cls := "CodeRecoveryModel", name := "changes", desc := "(Z)V" } : Jvm.MethodName)) ∈ lw_all := lw_g (lw_at lw_m8 103 rfl) rfl
theorem q1861 : (Jvm.Cond.code ({ cls := "CodeRecoveryModel", name := "changes", desc := "(Z)V" } : Jvm.MethodName) prog_12_method_6_code (2 : Nat) (Option.none : Option Jvm.ClassFile.FieldType)) ∈ lw_all := lw_g (lw_at lw_m8 104 rfl) rfl
theorem q1863 : (Jvm.Cond.instanceMethod ({ cls := "CodeRecoveryModel", name := "faultPosition", desc := "()I" } : Jvm.MethodName)) ∈ lw_all := lw_g (lw_at lw_m8 106 rfl) rfl
theorem q1864 : (Jvm.Cond.selects "CodeRecoveryModel" ({ cls := "CodeRecoveryModel", name := "faultPosition", desc := "()I" } : Jvm.MethodName) ({ cls := "CodeRecoveryModel", name := "faultPosition", desc := "()I" } : Jvm.MethodName)) ∈ lw_all := lw_g (lw_at lw_m8 107 rfl) rfl
theorem q1865 : (Jvm.Cond.code ({ cls := "CodeRecoveryModel", name := "faultPosition", desc := "()I" } : Jvm.MethodName) prog_12_method_10_code (1 : Nat) (Option.some Jvm.ClassFile.FieldType.int)) ∈ lw_all := lw_g (lw_at lw_m8 108 rfl) rfl
theorem q1867 : (Jvm.Cond.instanceMethod ({ cls := "CodeRecoveryModel", name := "setByte", desc := "(II)I" } : Jvm.MethodName)) ∈ lw_all := lw_g (lw_at lw_m8 110 rfl) rfl
theorem q1868 : (Jvm.Cond.selects "CodeRecoveryModel" ({ cls := "CodeRecoveryModel", name := "setByte", desc := "(II)I" } : Jvm.MethodName) ({ cls := "CodeRecoveryModel", name := "setByte", desc := "(II)I" } : Jvm.MethodName)) ∈ lw_all := lw_g (lw_at lw_m8 111 rfl) rfl
theorem q1869 : (Jvm.Cond.code ({ cls := "CodeRecoveryModel", name := "setByte", desc := "(II)I" } : Jvm.MethodName) prog_12_method_11_code (4 : Nat) (Option.some Jvm.ClassFile.FieldType.int)) ∈ lw_all := lw_g (lw_at lw_m8 112 rfl) rfl
theorem q1870 : (Jvm.Cond.methodLink "CodeRecoveryModel" (127 : Nat) ({ cls := "CodeRecoveryModel", name := "isAddress", desc := "(I)Z" } : Jvm.MethodName)) ∈ lw_all := lw_g (lw_at lw_m8 113 rfl) rfl
theorem q1871 : (Jvm.Cond.privateMethod ({ cls := "CodeRecoveryModel", name := "isAddress", desc := "(I)Z" } : Jvm.MethodName)) ∈ lw_tbl := lw_at lw_m8 114 rfl
theorem q1872 : (Jvm.Cond.instanceMethod ({ cls := "CodeRecoveryModel", name := "isAddress", desc := "(I)Z" } : Jvm.MethodName)) ∈ lw_all := lw_g (lw_at lw_m8 115 rfl) rfl
theorem q1873 : (Jvm.Cond.code ({ cls := "CodeRecoveryModel", name := "isAddress", desc := "(I)Z" } : Jvm.MethodName) prog_12_method_5_code (2 : Nat) (Option.some Jvm.ClassFile.FieldType.boolean)) ∈ lw_all := lw_g (lw_at lw_m8 116 rfl) rfl
theorem q1875 : (Jvm.Cond.instanceMethod ({ cls := "CodeRecoveryModel", name := "byteAt", desc := "(I)I" } : Jvm.MethodName)) ∈ lw_all := lw_g (lw_at lw_m8 118 rfl) rfl
theorem q1876 : (Jvm.Cond.selects "CodeRecoveryModel" ({ cls := "CodeRecoveryModel", name := "byteAt", desc := "(I)I" } : Jvm.MethodName) ({ cls := "CodeRecoveryModel", name := "byteAt", desc := "(I)I" } : Jvm.MethodName)) ∈ lw_all := lw_g (lw_at lw_m8 119 rfl) rfl
theorem q1877 : (Jvm.Cond.code ({ cls := "CodeRecoveryModel", name := "byteAt", desc := "(I)I" } : Jvm.MethodName) prog_12_method_12_code (2 : Nat) (Option.some Jvm.ClassFile.FieldType.int)) ∈ lw_all := lw_g (lw_at lw_m8 120 rfl) rfl
theorem q1879 : (Jvm.Cond.instanceMethod ({ cls := "CodeRecoveryModel", name := "clear", desc := "()I" } : Jvm.MethodName)) ∈ lw_all := lw_g (lw_at lw_m8 122 rfl) rfl
theorem q1880 : (Jvm.Cond.selects "CodeRecoveryModel" ({ cls := "CodeRecoveryModel", name := "clear", desc := "()I" } : Jvm.MethodName) ({ cls := "CodeRecoveryModel", name := "clear", desc := "()I" } : Jvm.MethodName)) ∈ lw_all := lw_g (lw_at lw_m8 123 rfl) rfl
theorem q1881 : (Jvm.Cond.code ({ cls := "CodeRecoveryModel", name := "clear", desc := "()I" } : Jvm.MethodName) prog_12_method_13_code (2 : Nat) (Option.some Jvm.ClassFile.FieldType.int)) ∈ lw_all := lw_g (lw_at lw_m8 124 rfl) rfl
theorem q1883 : (Jvm.Cond.instanceMethod ({ cls := "CodeRecoveryModel", name := "size", desc := "()I" } : Jvm.MethodName)) ∈ lw_all := lw_g (lw_at lw_m8 126 rfl) rfl
theorem q1884 : (Jvm.Cond.selects "CodeRecoveryModel" ({ cls := "CodeRecoveryModel", name := "size", desc := "()I" } : Jvm.MethodName) ({ cls := "CodeRecoveryModel", name := "size", desc := "()I" } : Jvm.MethodName)) ∈ lw_all := lw_g (lw_at lw_m8 127 rfl) rfl
theorem q1885 : (Jvm.Cond.code ({ cls := "CodeRecoveryModel", name := "size", desc := "()I" } : Jvm.MethodName) prog_12_method_14_code (1 : Nat) (Option.some Jvm.ClassFile.FieldType.int)) ∈ lw_all := lw_g (lw_at lw_m8 128 rfl) rfl
theorem q1887 : (Jvm.Cond.instanceMethod ({ cls := "CodeRecoveryModel", name := "addEntry", desc := "(I)I" } : Jvm.MethodName)) ∈ lw_all := lw_g (lw_at lw_m8 130 rfl) rfl
theorem q1888 : (Jvm.Cond.selects "CodeRecoveryModel" ({ cls := "CodeRecoveryModel", name := "addEntry", desc := "(I)I" } : Jvm.MethodName) ({ cls := "CodeRecoveryModel", name := "addEntry", desc := "(I)I" } : Jvm.MethodName)) ∈ lw_all := lw_g (lw_at lw_m8 131 rfl) rfl
theorem q1889 : (Jvm.Cond.code ({ cls := "CodeRecoveryModel", name := "addEntry", desc := "(I)I" } : Jvm.MethodName) prog_12_method_16_code (2 : Nat) (Option.some Jvm.ClassFile.FieldType.int)) ∈ lw_all := lw_g (lw_at lw_m8 132 rfl) rfl
theorem q1890 : (Jvm.Cond.methodLink "CodeRecoveryModel" (134 : Nat) ({ cls := "CodeRecoveryModel", name := "isEntry", desc := "(I)Z" } : Jvm.MethodName)) ∈ lw_all := lw_g (lw_at lw_m8 133 rfl) rfl
theorem q1891 : (Jvm.Cond.privateMethod ({ cls := "CodeRecoveryModel", name := "isEntry", desc := "(I)Z" } : Jvm.MethodName)) ∈ lw_tbl := lw_at lw_m8 134 rfl
theorem q1892 : (Jvm.Cond.instanceMethod ({ cls := "CodeRecoveryModel", name := "isEntry", desc := "(I)Z" } : Jvm.MethodName)) ∈ lw_all := lw_g (lw_at lw_m8 135 rfl) rfl
theorem q1893 : (Jvm.Cond.code ({ cls := "CodeRecoveryModel", name := "isEntry", desc := "(I)Z" } : Jvm.MethodName) prog_12_method_15_code (4 : Nat) (Option.some Jvm.ClassFile.FieldType.boolean)) ∈ lw_all := lw_g (lw_at lw_m8 136 rfl) rfl
theorem q1895 : (Jvm.Cond.instanceMethod ({ cls := "CodeRecoveryModel", name := "removeEntry", desc := "(I)I" } : Jvm.MethodName)) ∈ lw_all := lw_g (lw_at lw_m8 138 rfl) rfl
theorem q1896 : (Jvm.Cond.selects "CodeRecoveryModel" ({ cls := "CodeRecoveryModel", name := "removeEntry", desc := "(I)I" } : Jvm.MethodName) ({ cls := "CodeRecoveryModel", name := "removeEntry", desc := "(I)I" } : Jvm.MethodName)) ∈ lw_all := lw_g (lw_at lw_m8 139 rfl) rfl
theorem q1897 : (Jvm.Cond.code ({ cls := "CodeRecoveryModel", name := "removeEntry", desc := "(I)I" } : Jvm.MethodName) prog_12_method_17_code (4 : Nat) (Option.some Jvm.ClassFile.FieldType.int)) ∈ lw_all := lw_g (lw_at lw_m8 140 rfl) rfl
theorem q1899 : (Jvm.Cond.instanceMethod ({ cls := "CodeRecoveryModel", name := "entryCount", desc := "()I" } : Jvm.MethodName)) ∈ lw_all := lw_g (lw_at lw_m8 142 rfl) rfl
theorem q1900 : (Jvm.Cond.selects "CodeRecoveryModel" ({ cls := "CodeRecoveryModel", name := "entryCount", desc := "()I" } : Jvm.MethodName) ({ cls := "CodeRecoveryModel", name := "entryCount", desc := "()I" } : Jvm.MethodName)) ∈ lw_all := lw_g (lw_at lw_m8 143 rfl) rfl
theorem q1901 : (Jvm.Cond.code ({ cls := "CodeRecoveryModel", name := "entryCount", desc := "()I" } : Jvm.MethodName) prog_12_method_18_code (1 : Nat) (Option.some Jvm.ClassFile.FieldType.int)) ∈ lw_all := lw_g (lw_at lw_m8 144 rfl) rfl
theorem q1903 : (Jvm.Cond.instanceMethod ({ cls := "CodeRecoveryModel", name := "setThreshold", desc := "(I)I" } : Jvm.MethodName)) ∈ lw_all := lw_g (lw_at lw_m8 146 rfl) rfl
theorem q1904 : (Jvm.Cond.selects "CodeRecoveryModel" ({ cls := "CodeRecoveryModel", name := "setThreshold", desc := "(I)I" } : Jvm.MethodName) ({ cls := "CodeRecoveryModel", name := "setThreshold", desc := "(I)I" } : Jvm.MethodName)) ∈ lw_all := lw_g (lw_at lw_m8 147 rfl) rfl
theorem q1905 : (Jvm.Cond.code ({ cls := "CodeRecoveryModel", name := "setThreshold", desc := "(I)I" } : Jvm.MethodName) prog_12_method_19_code (3 : Nat) (Option.some Jvm.ClassFile.FieldType.int)) ∈ lw_all := lw_g (lw_at lw_m8 148 rfl) rfl
theorem q1907 : (Jvm.Cond.instanceMethod ({ cls := "CodeRecoveryModel", name := "isValid", desc := "(I)Z" } : Jvm.MethodName)) ∈ lw_all := lw_g (lw_at lw_m8 150 rfl) rfl
theorem q1908 : (Jvm.Cond.selects "CodeRecoveryModel" ({ cls := "CodeRecoveryModel", name := "isValid", desc := "(I)Z" } : Jvm.MethodName) ({ cls := "CodeRecoveryModel", name := "isValid", desc := "(I)Z" } : Jvm.MethodName)) ∈ lw_all := lw_g (lw_at lw_m8 151 rfl) rfl
theorem q1909 : (Jvm.Cond.code ({ cls := "CodeRecoveryModel", name := "isValid", desc := "(I)Z" } : Jvm.MethodName) prog_12_method_29_code (2 : Nat) (Option.some Jvm.ClassFile.FieldType.boolean)) ∈ lw_all := lw_g (lw_at lw_m8 152 rfl) rfl
theorem q1910 : (Jvm.Cond.methodLink "CodeRecoveryModel" (155 : Nat) ({ cls := "CodeRecoveryModel", name := "isSound", desc := "(I)Z" } : Jvm.MethodName)) ∈ lw_all := lw_g (lw_at lw_m8 153 rfl) rfl
theorem q1911 : (Jvm.Cond.privateMethod ({ cls := "CodeRecoveryModel", name := "isSound", desc := "(I)Z" } : Jvm.MethodName)) ∈ lw_tbl := lw_at lw_m8 154 rfl
theorem q1912 : (Jvm.Cond.instanceMethod ({ cls := "CodeRecoveryModel", name := "isSound", desc := "(I)Z" } : Jvm.MethodName)) ∈ lw_all := lw_g (lw_at lw_m8 155 rfl) rfl
theorem q1913 : (Jvm.Cond.code ({ cls := "CodeRecoveryModel", name := "isSound", desc := "(I)Z" } : Jvm.MethodName) prog_12_method_26_code (2 : Nat) (Option.some Jvm.ClassFile.FieldType.boolean)) ∈ lw_all := lw_g (lw_at lw_m8 156 rfl) rfl
theorem q1914 : (Jvm.Cond.methodLink "CodeRecoveryModel" (140 : Nat) ({ cls := "CodeRecoveryModel", name := "sort", desc := "(I)I" } : Jvm.MethodName)) ∈ lw_all := lw_g (lw_at lw_m8 157 rfl) rfl
theorem q1915 : (Jvm.Cond.privateMethod ({ cls := "CodeRecoveryModel", name := "sort", desc := "(I)I" } : Jvm.MethodName)) ∈ lw_tbl := lw_at lw_m8 158 rfl
theorem q1916 : (Jvm.Cond.instanceMethod ({ cls := "CodeRecoveryModel", name := "sort", desc := "(I)I" } : Jvm.MethodName)) ∈ lw_all := lw_g (lw_at lw_m8 159 rfl) rfl
theorem q1917 : (Jvm.Cond.code ({ cls := "CodeRecoveryModel", name := "sort", desc := "(I)I" } : Jvm.MethodName) prog_12_method_20_code (2 : Nat) (Option.some Jvm.ClassFile.FieldType.int)) ∈ lw_all := lw_g (lw_at lw_m8 160 rfl) rfl
theorem q1918 : (Jvm.Cond.methodLink "CodeRecoveryModel" (143 : Nat) ({ cls := "CodeRecoveryModel", name := "lengthOf", desc := "(I)I" } : Jvm.MethodName)) ∈ lw_all := lw_g (lw_at lw_m8 161 rfl) rfl
theorem q1919 : (Jvm.Cond.static ({ cls := "CodeRecoveryModel", name := "lengthOf", desc := "(I)I" } : Jvm.MethodName)) ∈ lw_all := lw_g (lw_at lw_m8 162 rfl) rfl
theorem q1920 : (Jvm.Cond.code ({ cls := "CodeRecoveryModel", name := "lengthOf", desc := "(I)I" } : Jvm.MethodName) prog_12_method_22_code (1 : Nat) (Option.some Jvm.ClassFile.FieldType.int)) ∈ lw_all := lw_g (lw_at lw_m8 163 rfl) rfl
theorem q1921 : (Jvm.Cond.methodLink "CodeRecoveryModel" (146 : Nat) ({ cls := "CodeRecoveryModel", name := "hasGoal", desc := "(I)Z" } : Jvm.MethodName)) ∈ lw_all := lw_g (lw_at lw_m8 164 rfl) rfl
theorem q1922 : (Jvm.Cond.privateMethod ({ cls := "CodeRecoveryModel", name := "hasGoal", desc := "(I)Z" } : Jvm.MethodName)) ∈ lw_tbl := lw_at lw_m8 165 rfl
theorem q1923 : (Jvm.Cond.instanceMethod ({ cls := "CodeRecoveryModel", name := "hasGoal", desc := "(I)Z" } : Jvm.MethodName)) ∈ lw_all := lw_g (lw_at lw_m8 166 rfl) rfl
theorem q1924 : (Jvm.Cond.code ({ cls := "CodeRecoveryModel", name := "hasGoal", desc := "(I)Z" } : Jvm.MethodName) prog_12_method_25_code (2 : Nat) (Option.some Jvm.ClassFile.FieldType.boolean)) ∈ lw_all := lw_g (lw_at lw_m8 167 rfl) rfl
theorem q1925 : (Jvm.Cond.methodLink "CodeRecoveryModel" (149 : Nat) ({ cls := "CodeRecoveryModel", name := "goal", desc := "(I)I" } : Jvm.MethodName)) ∈ lw_all := lw_g (lw_at lw_m8 168 rfl) rfl
theorem q1926 : (Jvm.Cond.privateMethod ({ cls := "CodeRecoveryModel", name := "goal", desc := "(I)I" } : Jvm.MethodName)) ∈ lw_tbl := lw_at lw_m8 169 rfl
theorem q1927 : (Jvm.Cond.instanceMethod ({ cls := "CodeRecoveryModel", name := "goal", desc := "(I)I" } : Jvm.MethodName)) ∈ lw_all := lw_g (lw_at lw_m8 170 rfl) rfl
theorem q1928 : (Jvm.Cond.code ({ cls := "CodeRecoveryModel", name := "goal", desc := "(I)I" } : Jvm.MethodName) prog_12_method_24_code (2 : Nat) (Option.some Jvm.ClassFile.FieldType.int)) ∈ lw_all := lw_g (lw_at lw_m8 171 rfl) rfl
theorem q1929 : (Jvm.Cond.methodLink "CodeRecoveryModel" (137 : Nat) ({ cls := "CodeRecoveryModel", name := "operand", desc := "(I)I" } : Jvm.MethodName)) ∈ lw_all := lw_g (lw_at lw_m8 172 rfl) rfl
theorem q1930 : (Jvm.Cond.privateMethod ({ cls := "CodeRecoveryModel", name := "operand", desc := "(I)I" } : Jvm.MethodName)) ∈ lw_tbl := lw_at lw_m8 173 rfl
theorem q1931 : (Jvm.Cond.instanceMethod ({ cls := "CodeRecoveryModel", name := "operand", desc := "(I)I" } : Jvm.MethodName)) ∈ lw_all := lw_g (lw_at lw_m8 174 rfl) rfl
theorem q1932 : (Jvm.Cond.code ({ cls := "CodeRecoveryModel", name := "operand", desc := "(I)I" } : Jvm.MethodName) prog_12_method_23_code (2 : Nat) (Option.some Jvm.ClassFile.FieldType.int)) ∈ lw_all := lw_g (lw_at lw_m8 175 rfl) rfl
theorem q1934 : (Jvm.Cond.instanceMethod ({ cls := "CodeRecoveryModel", name := "decode", desc := "(II)I" } : Jvm.MethodName)) ∈ lw_all := lw_g (lw_at lw_m8 177 rfl) rfl
theorem q1935 : (Jvm.Cond.selects "CodeRecoveryModel" ({ cls := "CodeRecoveryModel", name := "decode", desc := "(II)I" } : Jvm.MethodName) ({ cls := "CodeRecoveryModel", name := "decode", desc := "(II)I" } : Jvm.MethodName)) ∈ lw_all := lw_g (lw_at lw_m8 178 rfl) rfl
theorem q1936 : (Jvm.Cond.code ({ cls := "CodeRecoveryModel", name := "decode", desc := "(II)I" } : Jvm.MethodName) prog_12_method_30_code (3 : Nat) (Option.some Jvm.ClassFile.FieldType.int)) ∈ lw_all := lw_g (lw_at lw_m8 179 rfl) rfl
theorem q1937 : (Jvm.Cond.methodLink "CodeRecoveryModel" (158 : Nat) ({ cls := "CodeRecoveryModel", name := "first", desc := "(I)I" } : Jvm.MethodName)) ∈ lw_all := lw_g (lw_at lw_m8 180 rfl) rfl
theorem q1938 : (Jvm.Cond.privateMethod ({ cls := "CodeRecoveryModel", name := "first", desc := "(I)I" } : Jvm.MethodName)) ∈ lw_tbl := lw_at lw_m8 181 rfl
theorem q1939 : (Jvm.Cond.instanceMethod ({ cls := "CodeRecoveryModel", name := "first", desc := "(I)I" } : Jvm.MethodName)) ∈ lw_all := lw_g (lw_at lw_m8 182 rfl) rfl
theorem q1940 : (Jvm.Cond.code ({ cls := "CodeRecoveryModel", name := "first", desc := "(I)I" } : Jvm.MethodName) prog_12_method_21_code (2 : Nat) (Option.some Jvm.ClassFile.FieldType.int)) ∈ lw_all := lw_g (lw_at lw_m8 183 rfl) rfl
theorem q1942 : (Jvm.Cond.instanceMethod ({ cls := "CodeRecoveryModel", name := "recover", desc := "()I" } : Jvm.MethodName)) ∈ lw_all := lw_g (lw_at lw_m8 185 rfl) rfl
theorem q1943 : (Jvm.Cond.selects "CodeRecoveryModel" ({ cls := "CodeRecoveryModel", name := "recover", desc := "()I" } : Jvm.MethodName) ({ cls := "CodeRecoveryModel", name := "recover", desc := "()I" } : Jvm.MethodName)) ∈ lw_all := lw_g (lw_at lw_m8 186 rfl) rfl
theorem q1944 : (Jvm.Cond.code ({ cls := "CodeRecoveryModel", name := "recover", desc := "()I" } : Jvm.MethodName) prog_12_method_48_code (2 : Nat) (Option.some Jvm.ClassFile.FieldType.int)) ∈ lw_all := lw_g (lw_at lw_m8 187 rfl) rfl
theorem q1945 : (Jvm.Cond.methodLink "CodeRecoveryModel" (173 : Nat) ({ cls := "CodeRecoveryModel", name := "adds", desc := "(I)V" } : Jvm.MethodName)) ∈ lw_all := lw_g (lw_at lw_m8 188 rfl) rfl
theorem q1946 : (Jvm.Cond.privateMethod ({ cls := "CodeRecoveryModel", name := "adds", desc := "(I)V" } : Jvm.MethodName)) ∈ lw_tbl := lw_at lw_m8 189 rfl
theorem q1947 : (Jvm.Cond.instanceMethod ({ cls := "CodeRecoveryModel", name := "adds", desc := "(I)V" } : Jvm.MethodName)) ∈ lw_all := lw_g (lw_at lw_m8 190 rfl) rfl
theorem q1948 : (Jvm.Cond.code ({ cls := "CodeRecoveryModel", name := "adds", desc := "(I)V" } : Jvm.MethodName) prog_12_method_31_code (2 : Nat) (Option.none : Option Jvm.ClassFile.FieldType)) ∈ lw_all := lw_g (lw_at lw_m8 191 rfl) rfl
theorem q1949 : (Jvm.Cond.methodLink "CodeRecoveryModel" (232 : Nat) ({ cls := "CodeRecoveryModel", name := "follows", desc := "(I)V" } : Jvm.MethodName)) ∈ lw_all := lw_g (lw_at lw_m8 192 rfl) rfl
theorem q1950 : (Jvm.Cond.privateMethod ({ cls := "CodeRecoveryModel", name := "follows", desc := "(I)V" } : Jvm.MethodName)) ∈ lw_tbl := lw_at lw_m8 193 rfl
theorem q1951 : (Jvm.Cond.instanceMethod ({ cls := "CodeRecoveryModel", name := "follows", desc := "(I)V" } : Jvm.MethodName)) ∈ lw_all := lw_g (lw_at lw_m8 194 rfl) rfl
theorem q1952 : (Jvm.Cond.code ({ cls := "CodeRecoveryModel", name := "follows", desc := "(I)V" } : Jvm.MethodName) prog_12_method_36_code (4 : Nat) (Option.none : Option Jvm.ClassFile.FieldType)) ∈ lw_all := lw_g (lw_at lw_m8 195 rfl) rfl
theorem q1953 : (Jvm.Cond.methodLink "CodeRecoveryModel" (180 : Nat) ({ cls := "CodeRecoveryModel", name := "isBadAt", desc := "(I)V" } : Jvm.MethodName)) ∈ lw_all := lw_g (lw_at lw_m8 196 rfl) rfl
theorem q1954 : (Jvm.Cond.privateMethod ({ cls := "CodeRecoveryModel", name := "isBadAt", desc := "(I)V" } : Jvm.MethodName)) ∈ lw_tbl := lw_at lw_m8 197 rfl
theorem q1955 : (Jvm.Cond.instanceMethod ({ cls := "CodeRecoveryModel", name := "isBadAt", desc := "(I)V" } : Jvm.MethodName)) ∈ lw_all := lw_g (lw_at lw_m8 198 rfl) rfl
theorem q1956 : (Jvm.Cond.code ({ cls := "CodeRecoveryModel", name := "isBadAt", desc := "(I)V" } : Jvm.MethodName) prog_12_method_32_code (2 : Nat) (Option.none : Option Jvm.ClassFile.FieldType)) ∈ lw_all := lw_g (lw_at lw_m8 199 rfl) rfl
theorem q1957 : (Jvm.Cond.methodLink "CodeRecoveryModel" (183 : Nat) ({ cls := "CodeRecoveryModel", name := "isFree", desc := "(I)Z" } : Jvm.MethodName)) ∈ lw_all := lw_g (lw_at lw_m8 200 rfl) rfl
theorem q1958 : (Jvm.Cond.privateMethod ({ cls := "CodeRecoveryModel", name := "isFree", desc := "(I)Z" } : Jvm.MethodName)) ∈ lw_tbl := lw_at lw_m8 201 rfl
theorem q1959 : (Jvm.Cond.instanceMethod ({ cls := "CodeRecoveryModel", name := "isFree", desc := "(I)Z" } : Jvm.MethodName)) ∈ lw_all := lw_g (lw_at lw_m8 202 rfl) rfl
theorem q1960 : (Jvm.Cond.code ({ cls := "CodeRecoveryModel", name := "isFree", desc := "(I)Z" } : Jvm.MethodName) prog_12_method_34_code (4 : Nat) (Option.some Jvm.ClassFile.FieldType.boolean)) ∈ lw_all := lw_g (lw_at lw_m8 203 rfl) rfl
theorem q1961 : (Jvm.Cond.methodLink "CodeRecoveryModel" (186 : Nat) ({ cls := "CodeRecoveryModel", name := "conflictAt", desc := "(I)V" } : Jvm.MethodName)) ∈ lw_all := lw_g (lw_at lw_m8 204 rfl) rfl
theorem q1962 : (Jvm.Cond.privateMethod ({ cls := "CodeRecoveryModel", name := "conflictAt", desc := "(I)V" } : Jvm.MethodName)) ∈ lw_tbl := lw_at lw_m8 205 rfl
theorem q1963 : (Jvm.Cond.instanceMethod ({ cls := "CodeRecoveryModel", name := "conflictAt", desc := "(I)V" } : Jvm.MethodName)) ∈ lw_all := lw_g (lw_at lw_m8 206 rfl) rfl
theorem q1964 : (Jvm.Cond.code ({ cls := "CodeRecoveryModel", name := "conflictAt", desc := "(I)V" } : Jvm.MethodName) prog_12_method_33_code (3 : Nat) (Option.none : Option Jvm.ClassFile.FieldType)) ∈ lw_all := lw_g (lw_at lw_m8 207 rfl) rfl
theorem q1965 : (Jvm.Cond.methodLink "CodeRecoveryModel" (189 : Nat) ({ cls := "CodeRecoveryModel", name := "accepts", desc := "(I)V" } : Jvm.MethodName)) ∈ lw_all := lw_g (lw_at lw_m8 208 rfl) rfl
theorem q1966 : (Jvm.Cond.privateMethod ({ cls := "CodeRecoveryModel", name := "accepts", desc := "(I)V" } : Jvm.MethodName)) ∈ lw_tbl := lw_at lw_m8 209 rfl
theorem q1967 : (Jvm.Cond.instanceMethod ({ cls := "CodeRecoveryModel", name := "accepts", desc := "(I)V" } : Jvm.MethodName)) ∈ lw_all := lw_g (lw_at lw_m8 210 rfl) rfl
theorem q1968 : (Jvm.Cond.code ({ cls := "CodeRecoveryModel", name := "accepts", desc := "(I)V" } : Jvm.MethodName) prog_12_method_35_code (4 : Nat) (Option.none : Option Jvm.ClassFile.FieldType)) ∈ lw_all := lw_g (lw_at lw_m8 211 rfl) rfl
theorem q1969 : (Jvm.Cond.methodLink "CodeRecoveryModel" (177 : Nat) ({ cls := "CodeRecoveryModel", name := "tabulates", desc := "(I)V" } : Jvm.MethodName)) ∈ lw_all := lw_g (lw_at lw_m8 212 rfl) rfl
theorem q1970 : (Jvm.Cond.privateMethod ({ cls := "CodeRecoveryModel", name := "tabulates", desc := "(I)V" } : Jvm.MethodName)) ∈ lw_tbl := lw_at lw_m8 213 rfl
theorem q1971 : (Jvm.Cond.instanceMethod ({ cls := "CodeRecoveryModel", name := "tabulates", desc := "(I)V" } : Jvm.MethodName)) ∈ lw_all := lw_g (lw_at lw_m8 214 rfl) rfl
theorem q1972 : (Jvm.Cond.code ({ cls := "CodeRecoveryModel", name := "tabulates", desc := "(I)V" } : Jvm.MethodName) prog_12_method_41_code (6 : Nat) (Option.none : Option Jvm.ClassFile.FieldType)) ∈ lw_all := lw_g (lw_at lw_m8 215 rfl) rfl
theorem q1973 : (Jvm.Cond.methodLink "CodeRecoveryModel" (205 : Nat) ({ cls := "CodeRecoveryModel", name := "boundOf", desc := "(I)I" } : Jvm.MethodName)) ∈ lw_all := lw_g (lw_at lw_m8 216 rfl) rfl
theorem q1974 : (Jvm.Cond.privateMethod ({ cls := "CodeRecoveryModel", name := "boundOf", desc := "(I)I" } : Jvm.MethodName)) ∈ lw_tbl := lw_at lw_m8 217 rfl
theorem q1975 : (Jvm.Cond.instanceMethod ({ cls := "CodeRecoveryModel", name := "boundOf", desc := "(I)I" } : Jvm.MethodName)) ∈ lw_all := lw_g (lw_at lw_m8 218 rfl) rfl
theorem q1976 : (Jvm.Cond.code ({ cls := "CodeRecoveryModel", name := "boundOf", desc := "(I)I" } : Jvm.MethodName) prog_12_method_39_code (6 : Nat) (Option.some Jvm.ClassFile.FieldType.int)) ∈ lw_all := lw_g (lw_at lw_m8 219 rfl) rfl
theorem q1977 : (Jvm.Cond.methodLink "CodeRecoveryModel" (195 : Nat) ({ cls := "CodeRecoveryModel", name := "ahead", desc := "(I)I" } : Jvm.MethodName)) ∈ lw_all := lw_g (lw_at lw_m8 220 rfl) rfl
theorem q1978 : (Jvm.Cond.privateMethod ({ cls := "CodeRecoveryModel", name := "ahead", desc := "(I)I" } : Jvm.MethodName)) ∈ lw_tbl := lw_at lw_m8 221 rfl
theorem q1979 : (Jvm.Cond.instanceMethod ({ cls := "CodeRecoveryModel", name := "ahead", desc := "(I)I" } : Jvm.MethodName)) ∈ lw_all := lw_g (lw_at lw_m8 222 rfl) rfl
theorem q1980 : (Jvm.Cond.code ({ cls := "CodeRecoveryModel", name := "ahead", desc := "(I)I" } : Jvm.MethodName) prog_12_method_37_code (3 : Nat) (Option.some Jvm.ClassFile.FieldType.int)) ∈ lw_all := lw_g (lw_at lw_m8 223 rfl) rfl
theorem q1981 : (Jvm.Cond.methodLink "CodeRecoveryModel" (152 : Nat) ({ cls := "CodeRecoveryModel", name := "endsFlow", desc := "(I)Z" } : Jvm.MethodName)) ∈ lw_all := lw_g (lw_at lw_m8 224 rfl) rfl
theorem q1982 : (Jvm.Cond.privateMethod ({ cls := "CodeRecoveryModel", name := "endsFlow", desc := "(I)Z" } : Jvm.MethodName)) ∈ lw_tbl := lw_at lw_m8 225 rfl
theorem q1983 : (Jvm.Cond.instanceMethod ({ cls := "CodeRecoveryModel", name := "endsFlow", desc := "(I)Z" } : Jvm.MethodName)) ∈ lw_all := lw_g (lw_at lw_m8 226 rfl) rfl
theorem q1984 : (Jvm.Cond.code ({ cls := "CodeRecoveryModel", name := "endsFlow", desc := "(I)Z" } : Jvm.MethodName) prog_12_method_27_code (2 : Nat) (Option.some Jvm.ClassFile.FieldType.boolean)) ∈ lw_all := lw_g (lw_at lw_m8 227 rfl) rfl
theorem q1985 : (Jvm.Cond.methodLink "CodeRecoveryModel" (198 : Nat) ({ cls := "CodeRecoveryModel", name := "sets", desc := "(II)Z" } : Jvm.MethodName)) ∈ lw_all := lw_g (lw_at lw_m8 228 rfl) rfl
theorem q1986 : (Jvm.Cond.privateMethod ({ cls := "CodeRecoveryModel", name := "sets", desc := "(II)Z" } : Jvm.MethodName)) ∈ lw_tbl := lw_at lw_m8 229 rfl
theorem q1987 : (Jvm.Cond.instanceMethod ({ cls := "CodeRecoveryModel", name := "sets", desc := "(II)Z" } : Jvm.MethodName)) ∈ lw_all := lw_g (lw_at lw_m8 230 rfl) rfl
theorem q1988 : (Jvm.Cond.code ({ cls := "CodeRecoveryModel", name := "sets", desc := "(II)Z" } : Jvm.MethodName) prog_12_method_38_code (4 : Nat) (Option.some Jvm.ClassFile.FieldType.boolean)) ∈ lw_all := lw_g (lw_at lw_m8 231 rfl) rfl
theorem q1989 : (Jvm.Cond.methodLink "CodeRecoveryModel" (208 : Nat) ({ cls := "CodeRecoveryModel", name := "entersTable", desc := "(I)V" } : Jvm.MethodName)) ∈ lw_all := lw_g (lw_at lw_m8 232 rfl) rfl
theorem q1990 : (Jvm.Cond.privateMethod ({ cls := "CodeRecoveryModel", name := "entersTable", desc := "(I)V" } : Jvm.MethodName)) ∈ lw_tbl := lw_at lw_m8 233 rfl
theorem q1991 : (Jvm.Cond.instanceMethod ({ cls := "CodeRecoveryModel", name := "entersTable", desc := "(I)V" } : Jvm.MethodName)) ∈ lw_all := lw_g (lw_at lw_m8 234 rfl) rfl
theorem q1992 : (Jvm.Cond.code ({ cls := "CodeRecoveryModel", name := "entersTable", desc := "(I)V" } : Jvm.MethodName) prog_12_method_40_code (2 : Nat) (Option.none : Option Jvm.ClassFile.FieldType)) ∈ lw_all := lw_g (lw_at lw_m8 235 rfl) rfl
theorem q1993 : (Jvm.Cond.methodLink "CodeRecoveryModel" (235 : Nat) ({ cls := "CodeRecoveryModel", name := "looksAtGaps", desc := "()V" } : Jvm.MethodName)) ∈ lw_all := lw_g (lw_at lw_m8 236 rfl) rfl
theorem q1994 : (Jvm.Cond.privateMethod ({ cls := "CodeRecoveryModel", name := "looksAtGaps", desc := "()V" } : Jvm.MethodName)) ∈ lw_tbl := lw_at lw_m8 237 rfl
theorem q1995 : (Jvm.Cond.instanceMethod ({ cls := "CodeRecoveryModel", name := "looksAtGaps", desc := "()V" } : Jvm.MethodName)) ∈ lw_all := lw_g (lw_at lw_m8 238 rfl) rfl
theorem q1996 : (Jvm.Cond.code ({ cls := "CodeRecoveryModel", name := "looksAtGaps", desc := "()V" } : Jvm.MethodName) prog_12_method_47_code (3 : Nat) (Option.none : Option Jvm.ClassFile.FieldType)) ∈ lw_all := lw_g (lw_at lw_m8 239 rfl) rfl
theorem q1997 : (Jvm.Cond.methodLink "CodeRecoveryModel" (220 : Nat) ({ cls := "CodeRecoveryModel", name := "isUsed", desc := "(I)Z" } : Jvm.MethodName)) ∈ lw_all := lw_g (lw_at lw_m9 0 rfl) rfl
theorem q1998 : (Jvm.Cond.privateMethod ({ cls := "CodeRecoveryModel", name := "isUsed", desc := "(I)Z" } : Jvm.MethodName)) ∈ lw_tbl := lw_at lw_m9 1 rfl
theorem q1999 : (Jvm.Cond.instanceMethod ({ cls := "CodeRecoveryModel", name := "isUsed", desc := "(I)Z" } : Jvm.MethodName)) ∈ lw_all := lw_g (lw_at lw_m9 2 rfl) rfl
theorem q2000 : (Jvm.Cond.code ({ cls := "CodeRecoveryModel", name := "isUsed", desc := "(I)Z" } : Jvm.MethodName) prog_12_method_46_code (2 : Nat) (Option.some Jvm.ClassFile.FieldType.boolean)) ∈ lw_all := lw_g (lw_at lw_m9 3 rfl) rfl
theorem q2001 : (Jvm.Cond.methodLink "CodeRecoveryModel" (226 : Nat) ({ cls := "CodeRecoveryModel", name := "tested", desc := "(II)I" } : Jvm.MethodName)) ∈ lw_all := lw_g (lw_at lw_m9 4 rfl) rfl
theorem q2002 : (Jvm.Cond.privateMethod ({ cls := "CodeRecoveryModel", name := "tested", desc := "(II)I" } : Jvm.MethodName)) ∈ lw_tbl := lw_at lw_m9 5 rfl
theorem q2003 : (Jvm.Cond.instanceMethod ({ cls := "CodeRecoveryModel", name := "tested", desc := "(II)I" } : Jvm.MethodName)) ∈ lw_all := lw_g (lw_at lw_m9 6 rfl) rfl
theorem q2004 : (Jvm.Cond.code ({ cls := "CodeRecoveryModel", name := "tested", desc := "(II)I" } : Jvm.MethodName) prog_12_method_43_code (6 : Nat) (Option.some Jvm.ClassFile.FieldType.int)) ∈ lw_all := lw_g (lw_at lw_m9 7 rfl) rfl
theorem q2005 : (Jvm.Cond.methodLink "CodeRecoveryModel" (211 : Nat) ({ cls := "CodeRecoveryModel", name := "isInGap", desc := "(II)Z" } : Jvm.MethodName)) ∈ lw_all := lw_g (lw_at lw_m9 8 rfl) rfl
theorem q2006 : (Jvm.Cond.privateMethod ({ cls := "CodeRecoveryModel", name := "isInGap", desc := "(II)Z" } : Jvm.MethodName)) ∈ lw_tbl := lw_at lw_m9 9 rfl
theorem q2007 : (Jvm.Cond.instanceMethod ({ cls := "CodeRecoveryModel", name := "isInGap", desc := "(II)Z" } : Jvm.MethodName)) ∈ lw_all := lw_g (lw_at lw_m9 10 rfl) rfl
theorem q2008 : (Jvm.Cond.code ({ cls := "CodeRecoveryModel", name := "isInGap", desc := "(II)Z" } : Jvm.MethodName) prog_12_method_42_code (3 : Nat) (Option.some Jvm.ClassFile.FieldType.boolean)) ∈ lw_all := lw_g (lw_at lw_m9 11 rfl) rfl
theorem q2009 : (Jvm.Cond.methodLink "CodeRecoveryModel" (214 : Nat) ({ cls := "CodeRecoveryModel", name := "isTestBegin", desc := "(III)Z" } : Jvm.MethodName)) ∈ lw_all := lw_g (lw_at lw_m9 12 rfl) rfl
theorem q2010 : (Jvm.Cond.privateMethod ({ cls := "CodeRecoveryModel", name := "isTestBegin", desc := "(III)Z" } : Jvm.MethodName)) ∈ lw_tbl := lw_at lw_m9 13 rfl
theorem q2011 : (Jvm.Cond.instanceMethod ({ cls := "CodeRecoveryModel", name := "isTestBegin", desc := "(III)Z" } : Jvm.MethodName)) ∈ lw_all := lw_g (lw_at lw_m9 14 rfl) rfl
theorem q2012 : (Jvm.Cond.code ({ cls := "CodeRecoveryModel", name := "isTestBegin", desc := "(III)Z" } : Jvm.MethodName) prog_12_method_44_code (6 : Nat) (Option.some Jvm.ClassFile.FieldType.boolean)) ∈ lw_all := lw_g (lw_at lw_m9 15 rfl) rfl
theorem q2013 : (Jvm.Cond.methodLink "CodeRecoveryModel" (230 : Nat) ({ cls := "CodeRecoveryModel", name := "speculates", desc := "(I)V" } : Jvm.MethodName)) ∈ lw_all := lw_g (lw_at lw_m9 16 rfl) rfl
theorem q2014 : (Jvm.Cond.privateMethod ({ cls := "CodeRecoveryModel", name := "speculates", desc := "(I)V" } : Jvm.MethodName)) ∈ lw_tbl := lw_at lw_m9 17 rfl
theorem q2015 : (Jvm.Cond.instanceMethod ({ cls := "CodeRecoveryModel", name := "speculates", desc := "(I)V" } : Jvm.MethodName)) ∈ lw_all := lw_g (lw_at lw_m9 18 rfl) rfl
theorem q2016 : (Jvm.Cond.code ({ cls := "CodeRecoveryModel", name := "speculates", desc := "(I)V" } : Jvm.MethodName) prog_12_method_45_code (6 : Nat) (Option.none : Option Jvm.ClassFile.FieldType)) ∈ lw_all := lw_g (lw_at lw_m9 19 rfl) rfl
theorem q2018 : (Jvm.Cond.instanceMethod ({ cls := "CodeRecoveryModel", name := "accepted", desc := "()I" } : Jvm.MethodName)) ∈ lw_all := lw_g (lw_at lw_m9 21 rfl) rfl
theorem q2019 : (Jvm.Cond.selects "CodeRecoveryModel" ({ cls := "CodeRecoveryModel", name := "accepted", desc := "()I" } : Jvm.MethodName) ({ cls := "CodeRecoveryModel", name := "accepted", desc := "()I" } : Jvm.MethodName)) ∈ lw_all := lw_g (lw_at lw_m9 22 rfl) rfl
theorem q2020 : (Jvm.Cond.code ({ cls := "CodeRecoveryModel", name := "accepted", desc := "()I" } : Jvm.MethodName) prog_12_method_51_code (1 : Nat) (Option.some Jvm.ClassFile.FieldType.int)) ∈ lw_all := lw_g (lw_at lw_m9 23 rfl) rfl
theorem q2021 : (Jvm.Cond.methodLink "CodeRecoveryModel" (238 : Nat) ({ cls := "CodeRecoveryModel", name := "ofRecovery", desc := "(I)I" } : Jvm.MethodName)) ∈ lw_all := lw_g (lw_at lw_m9 24 rfl) rfl
theorem q2022 : (Jvm.Cond.privateMethod ({ cls := "CodeRecoveryModel", name := "ofRecovery", desc := "(I)I" } : Jvm.MethodName)) ∈ lw_tbl := lw_at lw_m9 25 rfl
theorem q2023 : (Jvm.Cond.instanceMethod ({ cls := "CodeRecoveryModel", name := "ofRecovery", desc := "(I)I" } : Jvm.MethodName)) ∈ lw_all := lw_g (lw_at lw_m9 26 rfl) rfl
theorem q2024 : (Jvm.Cond.code ({ cls := "CodeRecoveryModel", name := "ofRecovery", desc := "(I)I" } : Jvm.MethodName) prog_12_method_49_code (2 : Nat) (Option.some Jvm.ClassFile.FieldType.int)) ∈ lw_all := lw_g (lw_at lw_m9 27 rfl) rfl
theorem q2026 : (Jvm.Cond.instanceMethod ({ cls := "CodeRecoveryModel", name := "acceptedAt", desc := "(I)I" } : Jvm.MethodName)) ∈ lw_all := lw_g (lw_at lw_m9 29 rfl) rfl
theorem q2027 : (Jvm.Cond.selects "CodeRecoveryModel" ({ cls := "CodeRecoveryModel", name := "acceptedAt", desc := "(I)I" } : Jvm.MethodName) ({ cls := "CodeRecoveryModel", name := "acceptedAt", desc := "(I)I" } : Jvm.MethodName)) ∈ lw_all := lw_g (lw_at lw_m9 30 rfl) rfl
theorem q2028 : (Jvm.Cond.code ({ cls := "CodeRecoveryModel", name := "acceptedAt", desc := "(I)I" } : Jvm.MethodName) prog_12_method_52_code (4 : Nat) (Option.some Jvm.ClassFile.FieldType.int)) ∈ lw_all := lw_g (lw_at lw_m9 31 rfl) rfl
theorem q2029 : (Jvm.Cond.methodLink "CodeRecoveryModel" (241 : Nat) ({ cls := "CodeRecoveryModel", name := "refusal", desc := "(Z)I" } : Jvm.MethodName)) ∈ lw_all := lw_g (lw_at lw_m9 32 rfl) rfl
theorem q2030 : (Jvm.Cond.privateMethod ({ cls := "CodeRecoveryModel", name := "refusal", desc := "(Z)I" } : Jvm.MethodName)) ∈ lw_tbl := lw_at lw_m9 33 rfl
theorem q2031 : (Jvm.Cond.instanceMethod ({ cls := "CodeRecoveryModel", name := "refusal", desc := "(Z)I" } : Jvm.MethodName)) ∈ lw_all := lw_g (lw_at lw_m9 34 rfl) rfl
theorem q2032 : (Jvm.Cond.code ({ cls := "CodeRecoveryModel", name := "refusal", desc := "(Z)I" } : Jvm.MethodName) prog_12_method_50_code (2 : Nat) (Option.some Jvm.ClassFile.FieldType.int)) ∈ lw_all := lw_g (lw_at lw_m9 35 rfl) rfl
theorem q2034 : (Jvm.Cond.instanceMethod ({ cls := "CodeRecoveryModel", name := "use", desc := "(I)I" } : Jvm.MethodName)) ∈ lw_all := lw_g (lw_at lw_m9 37 rfl) rfl
theorem q2035 : (Jvm.Cond.selects "CodeRecoveryModel" ({ cls := "CodeRecoveryModel", name := "use", desc := "(I)I" } : Jvm.MethodName) ({ cls := "CodeRecoveryModel", name := "use", desc := "(I)I" } : Jvm.MethodName)) ∈ lw_all := lw_g (lw_at lw_m9 38 rfl) rfl
theorem q2036 : (Jvm.Cond.code ({ cls := "CodeRecoveryModel", name := "use", desc := "(I)I" } : Jvm.MethodName) prog_12_method_53_code (2 : Nat) (Option.some Jvm.ClassFile.FieldType.int)) ∈ lw_all := lw_g (lw_at lw_m9 39 rfl) rfl
theorem q2038 : (Jvm.Cond.instanceMethod ({ cls := "CodeRecoveryModel", name := "conflictCount", desc := "()I" } : Jvm.MethodName)) ∈ lw_all := lw_g (lw_at lw_m9 41 rfl) rfl
theorem q2039 : (Jvm.Cond.selects "CodeRecoveryModel" ({ cls := "CodeRecoveryModel", name := "conflictCount", desc := "()I" } : Jvm.MethodName) ({ cls := "CodeRecoveryModel", name := "conflictCount", desc := "()I" } : Jvm.MethodName)) ∈ lw_all := lw_g (lw_at lw_m9 42 rfl) rfl
theorem q2040 : (Jvm.Cond.code ({ cls := "CodeRecoveryModel", name := "conflictCount", desc := "()I" } : Jvm.MethodName) prog_12_method_54_code (1 : Nat) (Option.some Jvm.ClassFile.FieldType.int)) ∈ lw_all := lw_g (lw_at lw_m9 43 rfl) rfl
theorem q2042 : (Jvm.Cond.instanceMethod ({ cls := "CodeRecoveryModel", name := "conflict", desc := "(I)I" } : Jvm.MethodName)) ∈ lw_all := lw_g (lw_at lw_m9 45 rfl) rfl
theorem q2043 : (Jvm.Cond.selects "CodeRecoveryModel" ({ cls := "CodeRecoveryModel", name := "conflict", desc := "(I)I" } : Jvm.MethodName) ({ cls := "CodeRecoveryModel", name := "conflict", desc := "(I)I" } : Jvm.MethodName)) ∈ lw_all := lw_g (lw_at lw_m9 46 rfl) rfl
theorem q2044 : (Jvm.Cond.code ({ cls := "CodeRecoveryModel", name := "conflict", desc := "(I)I" } : Jvm.MethodName) prog_12_method_55_code (2 : Nat) (Option.some Jvm.ClassFile.FieldType.int)) ∈ lw_all := lw_g (lw_at lw_m9 47 rfl) rfl
theorem q2046 : (Jvm.Cond.instanceMethod ({ cls := "CodeRecoveryModel", name := "badTargets", desc := "()I" } : Jvm.MethodName)) ∈ lw_all := lw_g (lw_at lw_m9 49 rfl) rfl
theorem q2047 : (Jvm.Cond.selects "CodeRecoveryModel" ({ cls := "CodeRecoveryModel", name := "badTargets", desc := "()I" } : Jvm.MethodName) ({ cls := "CodeRecoveryModel", name := "badTargets", desc := "()I" } : Jvm.MethodName)) ∈ lw_all := lw_g (lw_at lw_m9 50 rfl) rfl
theorem q2048 : (Jvm.Cond.code ({ cls := "CodeRecoveryModel", name := "badTargets", desc := "()I" } : Jvm.MethodName) prog_12_method_56_code (1 : Nat) (Option.some Jvm.ClassFile.FieldType.int)) ∈ lw_all := lw_g (lw_at lw_m9 51 rfl) rfl
theorem q2050 : (Jvm.Cond.instanceMethod ({ cls := "CodeRecoveryModel", name := "tableCount", desc := "()I" } : Jvm.MethodName)) ∈ lw_all := lw_g (lw_at lw_m9 53 rfl) rfl
theorem q2051 : (Jvm.Cond.selects "CodeRecoveryModel" ({ cls := "CodeRecoveryModel", name := "tableCount", desc := "()I" } : Jvm.MethodName) ({ cls := "CodeRecoveryModel", name := "tableCount", desc := "()I" } : Jvm.MethodName)) ∈ lw_all := lw_g (lw_at lw_m9 54 rfl) rfl
theorem q2052 : (Jvm.Cond.code ({ cls := "CodeRecoveryModel", name := "tableCount", desc := "()I" } : Jvm.MethodName) prog_12_method_57_code (1 : Nat) (Option.some Jvm.ClassFile.FieldType.int)) ∈ lw_all := lw_g (lw_at lw_m9 55 rfl) rfl
theorem q2054 : (Jvm.Cond.instanceMethod ({ cls := "CodeRecoveryModel", name := "table", desc := "(II)I" } : Jvm.MethodName)) ∈ lw_all := lw_g (lw_at lw_m9 57 rfl) rfl
theorem q2055 : (Jvm.Cond.selects "CodeRecoveryModel" ({ cls := "CodeRecoveryModel", name := "table", desc := "(II)I" } : Jvm.MethodName) ({ cls := "CodeRecoveryModel", name := "table", desc := "(II)I" } : Jvm.MethodName)) ∈ lw_all := lw_g (lw_at lw_m9 58 rfl) rfl
theorem q2056 : (Jvm.Cond.code ({ cls := "CodeRecoveryModel", name := "table", desc := "(II)I" } : Jvm.MethodName) prog_12_method_58_code (3 : Nat) (Option.some Jvm.ClassFile.FieldType.int)) ∈ lw_all := lw_g (lw_at lw_m9 59 rfl) rfl
theorem q2058 : (Jvm.Cond.instanceMethod ({ cls := "CodeRecoveryModel", name := "tableEntry", desc := "(II)I" } : Jvm.MethodName)) ∈ lw_all := lw_g (lw_at lw_m9 61 rfl) rfl
theorem q2059 : (Jvm.Cond.selects "CodeRecoveryModel" ({ cls := "CodeRecoveryModel", name := "tableEntry", desc := "(II)I" } : Jvm.MethodName) ({ cls := "CodeRecoveryModel", name := "tableEntry", desc := "(II)I" } : Jvm.MethodName)) ∈ lw_all := lw_g (lw_at lw_m9 62 rfl) rfl
theorem q2060 : (Jvm.Cond.code ({ cls := "CodeRecoveryModel", name := "tableEntry", desc := "(II)I" } : Jvm.MethodName) prog_12_method_59_code (4 : Nat) (Option.some Jvm.ClassFile.FieldType.int)) ∈ lw_all := lw_g (lw_at lw_m9 63 rfl) rfl
theorem q2062 : (Jvm.Cond.instanceMethod ({ cls := "CodeRecoveryModel", name := "isComplete", desc := "(I)Z" } : Jvm.MethodName)) ∈ lw_all := lw_g (lw_at lw_m9 65 rfl) rfl
theorem q2063 : (Jvm.Cond.selects "CodeRecoveryModel" ({ cls := "CodeRecoveryModel", name := "isComplete", desc := "(I)Z" } : Jvm.MethodName) ({ cls := "CodeRecoveryModel", name := "isComplete", desc := "(I)Z" } : Jvm.MethodName)) ∈ lw_all := lw_g (lw_at lw_m9 66 rfl) rfl
theorem q2064 : (Jvm.Cond.code ({ cls := "CodeRecoveryModel", name := "isComplete", desc := "(I)Z" } : Jvm.MethodName) prog_12_method_61_code (4 : Nat) (Option.some Jvm.ClassFile.FieldType.boolean)) ∈ lw_all := lw_g (lw_at lw_m9 67 rfl) rfl
theorem q2065 : (Jvm.Cond.methodLink "CodeRecoveryModel" (245 : Nat) ({ cls := "CodeRecoveryModel", name := "isBegin", desc := "(I)Z" } : Jvm.MethodName)) ∈ lw_all := lw_g (lw_at lw_m9 68 rfl) rfl
theorem q2066 : (Jvm.Cond.privateMethod ({ cls := "CodeRecoveryModel", name := "isBegin", desc := "(I)Z" } : Jvm.MethodName)) ∈ lw_tbl := lw_at lw_m9 69 rfl
theorem q2067 : (Jvm.Cond.instanceMethod ({ cls := "CodeRecoveryModel", name := "isBegin", desc := "(I)Z" } : Jvm.MethodName)) ∈ lw_all := lw_g (lw_at lw_m9 70 rfl) rfl
theorem q2068 : (Jvm.Cond.code ({ cls := "CodeRecoveryModel", name := "isBegin", desc := "(I)Z" } : Jvm.MethodName) prog_12_method_60_code (2 : Nat) (Option.some Jvm.ClassFile.FieldType.boolean)) ∈ lw_all := lw_g (lw_at lw_m9 71 rfl) rfl
theorem q2070 : (Jvm.Cond.instanceMethod ({ cls := "CodeRecoveryModel", name := "gapCount", desc := "()I" } : Jvm.MethodName)) ∈ lw_all := lw_g (lw_at lw_m9 73 rfl) rfl
theorem q2071 : (Jvm.Cond.selects "CodeRecoveryModel" ({ cls := "CodeRecoveryModel", name := "gapCount", desc := "()I" } : Jvm.MethodName) ({ cls := "CodeRecoveryModel", name := "gapCount", desc := "()I" } : Jvm.MethodName)) ∈ lw_all := lw_g (lw_at lw_m9 74 rfl) rfl
theorem q2072 : (Jvm.Cond.code ({ cls := "CodeRecoveryModel", name := "gapCount", desc := "()I" } : Jvm.MethodName) prog_12_method_62_code (1 : Nat) (Option.some Jvm.ClassFile.FieldType.int)) ∈ lw_all := lw_g (lw_at lw_m9 75 rfl) rfl
theorem q2074 : (Jvm.Cond.instanceMethod ({ cls := "CodeRecoveryModel", name := "gap", desc := "(II)I" } : Jvm.MethodName)) ∈ lw_all := lw_g (lw_at lw_m9 77 rfl) rfl
theorem q2075 : (Jvm.Cond.selects "CodeRecoveryModel" ({ cls := "CodeRecoveryModel", name := "gap", desc := "(II)I" } : Jvm.MethodName) ({ cls := "CodeRecoveryModel", name := "gap", desc := "(II)I" } : Jvm.MethodName)) ∈ lw_all := lw_g (lw_at lw_m9 78 rfl) rfl
theorem q2076 : (Jvm.Cond.code ({ cls := "CodeRecoveryModel", name := "gap", desc := "(II)I" } : Jvm.MethodName) prog_12_method_63_code (3 : Nat) (Option.some Jvm.ClassFile.FieldType.int)) ∈ lw_all := lw_g (lw_at lw_m9 79 rfl) rfl
theorem q2078 : (Jvm.Cond.instanceMethod ({ cls := "CodeRecoveryModel", name := "speculative", desc := "()I" } : Jvm.MethodName)) ∈ lw_all := lw_g (lw_at lw_m9 81 rfl) rfl
theorem q2079 : (Jvm.Cond.selects "CodeRecoveryModel" ({ cls := "CodeRecoveryModel", name := "speculative", desc := "()I" } : Jvm.MethodName) ({ cls := "CodeRecoveryModel", name := "speculative", desc := "()I" } : Jvm.MethodName)) ∈ lw_all := lw_g (lw_at lw_m9 82 rfl) rfl
theorem q2080 : (Jvm.Cond.code ({ cls := "CodeRecoveryModel", name := "speculative", desc := "()I" } : Jvm.MethodName) prog_12_method_64_code (1 : Nat) (Option.some Jvm.ClassFile.FieldType.int)) ∈ lw_all := lw_g (lw_at lw_m9 83 rfl) rfl
theorem q2082 : (Jvm.Cond.instanceMethod ({ cls := "CodeRecoveryModel", name := "blockCount", desc := "()I" } : Jvm.MethodName)) ∈ lw_all := lw_g (lw_at lw_m9 85 rfl) rfl
theorem q2083 : (Jvm.Cond.selects "CodeRecoveryModel" ({ cls := "CodeRecoveryModel", name := "blockCount", desc := "()I" } : Jvm.MethodName) ({ cls := "CodeRecoveryModel", name := "blockCount", desc := "()I" } : Jvm.MethodName)) ∈ lw_all := lw_g (lw_at lw_m9 86 rfl) rfl
theorem q2084 : (Jvm.Cond.code ({ cls := "CodeRecoveryModel", name := "blockCount", desc := "()I" } : Jvm.MethodName) prog_12_method_70_code (1 : Nat) (Option.some Jvm.ClassFile.FieldType.int)) ∈ lw_all := lw_g (lw_at lw_m9 87 rfl) rfl
theorem q2085 : (Jvm.Cond.methodLink "CodeRecoveryModel" (264 : Nat) ({ cls := "CodeRecoveryModel", name := "blocks", desc := "()I" } : Jvm.MethodName)) ∈ lw_all := lw_g (lw_at lw_m9 88 rfl) rfl
theorem q2086 : (Jvm.Cond.privateMethod ({ cls := "CodeRecoveryModel", name := "blocks", desc := "()I" } : Jvm.MethodName)) ∈ lw_tbl := lw_at lw_m9 89 rfl
theorem q2087 : (Jvm.Cond.instanceMethod ({ cls := "CodeRecoveryModel", name := "blocks", desc := "()I" } : Jvm.MethodName)) ∈ lw_all := lw_g (lw_at lw_m9 90 rfl) rfl
theorem q2088 : (Jvm.Cond.code ({ cls := "CodeRecoveryModel", name := "blocks", desc := "()I" } : Jvm.MethodName) prog_12_method_68_code (3 : Nat) (Option.some Jvm.ClassFile.FieldType.int)) ∈ lw_all := lw_g (lw_at lw_m9 91 rfl) rfl
theorem q2089 : (Jvm.Cond.methodLink "CodeRecoveryModel" (258 : Nat) ({ cls := "CodeRecoveryModel", name := "isLeader", desc := "(I)Z" } : Jvm.MethodName)) ∈ lw_all := lw_g (lw_at lw_m9 92 rfl) rfl
theorem q2090 : (Jvm.Cond.privateMethod ({ cls := "CodeRecoveryModel", name := "isLeader", desc := "(I)Z" } : Jvm.MethodName)) ∈ lw_tbl := lw_at lw_m9 93 rfl
theorem q2091 : (Jvm.Cond.instanceMethod ({ cls := "CodeRecoveryModel", name := "isLeader", desc := "(I)Z" } : Jvm.MethodName)) ∈ lw_all := lw_g (lw_at lw_m9 94 rfl) rfl
theorem q2092 : (Jvm.Cond.code ({ cls := "CodeRecoveryModel", name := "isLeader", desc := "(I)Z" } : Jvm.MethodName) prog_12_method_67_code (3 : Nat) (Option.some Jvm.ClassFile.FieldType.boolean)) ∈ lw_all := lw_g (lw_at lw_m9 95 rfl) rfl
theorem q2093 : (Jvm.Cond.methodLink "CodeRecoveryModel" (248 : Nat) ({ cls := "CodeRecoveryModel", name := "isGoal", desc := "(IZ)Z" } : Jvm.MethodName)) ∈ lw_all := lw_g (lw_at lw_m9 96 rfl) rfl
theorem q2094 : (Jvm.Cond.privateMethod ({ cls := "CodeRecoveryModel", name := "isGoal", desc := "(IZ)Z" } : Jvm.MethodName)) ∈ lw_tbl := lw_at lw_m9 97 rfl
theorem q2095 : (Jvm.Cond.instanceMethod ({ cls := "CodeRecoveryModel", name := "isGoal", desc := "(IZ)Z" } : Jvm.MethodName)) ∈ lw_all := lw_g (lw_at lw_m9 98 rfl) rfl
theorem q2096 : (Jvm.Cond.code ({ cls := "CodeRecoveryModel", name := "isGoal", desc := "(IZ)Z" } : Jvm.MethodName) prog_12_method_66_code (5 : Nat) (Option.some Jvm.ClassFile.FieldType.boolean)) ∈ lw_all := lw_g (lw_at lw_m9 99 rfl) rfl
theorem q2097 : (Jvm.Cond.methodLink "CodeRecoveryModel" (252 : Nat) ({ cls := "CodeRecoveryModel", name := "isTableGoal", desc := "(I)Z" } : Jvm.MethodName)) ∈ lw_all := lw_g (lw_at lw_m9 100 rfl) rfl
theorem q2098 : (Jvm.Cond.privateMethod ({ cls := "CodeRecoveryModel", name := "isTableGoal", desc := "(I)Z" } : Jvm.MethodName)) ∈ lw_tbl := lw_at lw_m9 101 rfl
theorem q2099 : (Jvm.Cond.instanceMethod ({ cls := "CodeRecoveryModel", name := "isTableGoal", desc := "(I)Z" } : Jvm.MethodName)) ∈ lw_all := lw_g (lw_at lw_m9 102 rfl) rfl
theorem q2100 : (Jvm.Cond.code ({ cls := "CodeRecoveryModel", name := "isTableGoal", desc := "(I)Z" } : Jvm.MethodName) prog_12_method_65_code (5 : Nat) (Option.some Jvm.ClassFile.FieldType.boolean)) ∈ lw_all := lw_g (lw_at lw_m9 103 rfl) rfl
theorem q2101 : (Jvm.Cond.methodLink "CodeRecoveryModel" (255 : Nat) ({ cls := "CodeRecoveryModel", name := "endsBlock", desc := "(I)Z" } : Jvm.MethodName)) ∈ lw_all := lw_g (lw_at lw_m9 104 rfl) rfl
theorem q2102 : (Jvm.Cond.privateMethod ({ cls := "CodeRecoveryModel", name := "endsBlock", desc := "(I)Z" } : Jvm.MethodName)) ∈ lw_tbl := lw_at lw_m9 105 rfl
theorem q2103 : (Jvm.Cond.instanceMethod ({ cls := "CodeRecoveryModel", name := "endsBlock", desc := "(I)Z" } : Jvm.MethodName)) ∈ lw_all := lw_g (lw_at lw_m9 106 rfl) rfl
theorem q2104 : (Jvm.Cond.code ({ cls := "CodeRecoveryModel", name := "endsBlock", desc := "(I)Z" } : Jvm.MethodName) prog_12_method_28_code (2 : Nat) (Option.some Jvm.ClassFile.FieldType.boolean)) ∈ lw_all := lw_g (lw_at lw_m9 107 rfl) rfl
theorem q2106 : (Jvm.Cond.instanceMethod ({ cls := "CodeRecoveryModel", name := "block", desc := "(II)I" } : Jvm.MethodName)) ∈ lw_all := lw_g (lw_at lw_m9 109 rfl) rfl
theorem q2107 : (Jvm.Cond.selects "CodeRecoveryModel" ({ cls := "CodeRecoveryModel", name := "block", desc := "(II)I" } : Jvm.MethodName) ({ cls := "CodeRecoveryModel", name := "block", desc := "(II)I" } : Jvm.MethodName)) ∈ lw_all := lw_g (lw_at lw_m9 110 rfl) rfl
theorem q2108 : (Jvm.Cond.code ({ cls := "CodeRecoveryModel", name := "block", desc := "(II)I" } : Jvm.MethodName) prog_12_method_71_code (6 : Nat) (Option.some Jvm.ClassFile.FieldType.int)) ∈ lw_all := lw_g (lw_at lw_m9 111 rfl) rfl
theorem q2109 : (Jvm.Cond.methodLink "CodeRecoveryModel" (268 : Nat) ({ cls := "CodeRecoveryModel", name := "blockSize", desc := "(I)I" } : Jvm.MethodName)) ∈ lw_all := lw_g (lw_at lw_m9 112 rfl) rfl
theorem q2110 : (Jvm.Cond.privateMethod ({ cls := "CodeRecoveryModel", name := "blockSize", desc := "(I)I" } : Jvm.MethodName)) ∈ lw_tbl := lw_at lw_m9 113 rfl
theorem q2111 : (Jvm.Cond.instanceMethod ({ cls := "CodeRecoveryModel", name := "blockSize", desc := "(I)I" } : Jvm.MethodName)) ∈ lw_all := lw_g (lw_at lw_m9 114 rfl) rfl
theorem q2112 : (Jvm.Cond.code ({ cls := "CodeRecoveryModel", name := "blockSize", desc := "(I)I" } : Jvm.MethodName) prog_12_method_69_code (4 : Nat) (Option.some Jvm.ClassFile.FieldType.int)) ∈ lw_all := lw_g (lw_at lw_m9 115 rfl) rfl
theorem q2114 : (Jvm.Cond.instanceMethod ({ cls := "CodeRecoveryModel", name := "functionCount", desc := "()I" } : Jvm.MethodName)) ∈ lw_all := lw_g (lw_at lw_m9 117 rfl) rfl
theorem q2115 : (Jvm.Cond.selects "CodeRecoveryModel" ({ cls := "CodeRecoveryModel", name := "functionCount", desc := "()I" } : Jvm.MethodName) ({ cls := "CodeRecoveryModel", name := "functionCount", desc := "()I" } : Jvm.MethodName)) ∈ lw_all := lw_g (lw_at lw_m9 118 rfl) rfl
theorem q2116 : (Jvm.Cond.code ({ cls := "CodeRecoveryModel", name := "functionCount", desc := "()I" } : Jvm.MethodName) prog_12_method_73_code (3 : Nat) (Option.some Jvm.ClassFile.FieldType.int)) ∈ lw_all := lw_g (lw_at lw_m9 119 rfl) rfl
theorem q2117 : (Jvm.Cond.methodLink "CodeRecoveryModel" (271 : Nat) ({ cls := "CodeRecoveryModel", name := "isHead", desc := "(I)Z" } : Jvm.MethodName)) ∈ lw_all := lw_g (lw_at lw_m9 120 rfl) rfl
theorem q2118 : (Jvm.Cond.privateMethod ({ cls := "CodeRecoveryModel", name := "isHead", desc := "(I)Z" } : Jvm.MethodName)) ∈ lw_tbl := lw_at lw_m9 121 rfl
theorem q2119 : (Jvm.Cond.instanceMethod ({ cls := "CodeRecoveryModel", name := "isHead", desc := "(I)Z" } : Jvm.MethodName)) ∈ lw_all := lw_g (lw_at lw_m9 122 rfl) rfl
theorem q2120 : (Jvm.Cond.code ({ cls := "CodeRecoveryModel", name := "isHead", desc := "(I)Z" } : Jvm.MethodName) prog_12_method_72_code (2 : Nat) (Option.some Jvm.ClassFile.FieldType.boolean)) ∈ lw_all := lw_g (lw_at lw_m9 123 rfl) rfl
theorem q2122 : (Jvm.Cond.instanceMethod ({ cls := "CodeRecoveryModel", name := "functionSize", desc := "(I)I" } : Jvm.MethodName)) ∈ lw_all := lw_g (lw_at lw_m9 125 rfl) rfl
theorem q2123 : (Jvm.Cond.selects "CodeRecoveryModel" ({ cls := "CodeRecoveryModel", name := "functionSize", desc := "(I)I" } : Jvm.MethodName) ({ cls := "CodeRecoveryModel", name := "functionSize", desc := "(I)I" } : Jvm.MethodName)) ∈ lw_all := lw_g (lw_at lw_m9 126 rfl) rfl
theorem q2124 : (Jvm.Cond.code ({ cls := "CodeRecoveryModel", name := "functionSize", desc := "(I)I" } : Jvm.MethodName) prog_12_method_75_code (6 : Nat) (Option.some Jvm.ClassFile.FieldType.int)) ∈ lw_all := lw_g (lw_at lw_m9 127 rfl) rfl
theorem q2125 : (Jvm.Cond.methodLink "CodeRecoveryModel" (277 : Nat) ({ cls := "CodeRecoveryModel", name := "reaches", desc := "(I)V" } : Jvm.MethodName)) ∈ lw_all := lw_g (lw_at lw_m9 128 rfl) rfl
theorem q2126 : (Jvm.Cond.privateMethod ({ cls := "CodeRecoveryModel", name := "reaches", desc := "(I)V" } : Jvm.MethodName)) ∈ lw_tbl := lw_at lw_m9 129 rfl
theorem q2127 : (Jvm.Cond.instanceMethod ({ cls := "CodeRecoveryModel", name := "reaches", desc := "(I)V" } : Jvm.MethodName)) ∈ lw_all := lw_g (lw_at lw_m9 130 rfl) rfl
theorem q2128 : (Jvm.Cond.code ({ cls := "CodeRecoveryModel", name := "reaches", desc := "(I)V" } : Jvm.MethodName) prog_12_method_74_code (2 : Nat) (Option.none : Option Jvm.ClassFile.FieldType)) ∈ lw_all := lw_g (lw_at lw_m9 131 rfl) rfl
theorem q2130 : (Jvm.Cond.instanceMethod ({ cls := "CodeRecoveryModel", name := "run", desc := "(I)I" } : Jvm.MethodName)) ∈ lw_all := lw_g (lw_at lw_m9 133 rfl) rfl
theorem q2131 : (Jvm.Cond.selects "CodeRecoveryModel" ({ cls := "CodeRecoveryModel", name := "run", desc := "(I)I" } : Jvm.MethodName) ({ cls := "CodeRecoveryModel", name := "run", desc := "(I)I" } : Jvm.MethodName)) ∈ lw_all := lw_g (lw_at lw_m9 134 rfl) rfl
theorem q2132 : (Jvm.Cond.code ({ cls := "CodeRecoveryModel", name := "run", desc := "(I)I" } : Jvm.MethodName) prog_12_method_80_code (4 : Nat) (Option.some Jvm.ClassFile.FieldType.int)) ∈ lw_all := lw_g (lw_at lw_m9 135 rfl) rfl
theorem q2133 : (Jvm.Cond.methodLink "CodeRecoveryModel" (296 : Nat) ({ cls := "CodeRecoveryModel", name := "executes", desc := "(I)I" } : Jvm.MethodName)) ∈ lw_all := lw_g (lw_at lw_m9 136 rfl) rfl
theorem q2134 : (Jvm.Cond.privateMethod ({ cls := "CodeRecoveryModel", name := "executes", desc := "(I)I" } : Jvm.MethodName)) ∈ lw_tbl := lw_at lw_m9 137 rfl
theorem q2135 : (Jvm.Cond.instanceMethod ({ cls := "CodeRecoveryModel", name := "executes", desc := "(I)I" } : Jvm.MethodName)) ∈ lw_all := lw_g (lw_at lw_m9 138 rfl) rfl
theorem q2136 : (Jvm.Cond.code ({ cls := "CodeRecoveryModel", name := "executes", desc := "(I)I" } : Jvm.MethodName) prog_12_method_76_code (6 : Nat) (Option.some Jvm.ClassFile.FieldType.int)) ∈ lw_all := lw_g (lw_at lw_m9 139 rfl) rfl
theorem q2137 : (Jvm.Cond.methodLink "CodeRecoveryModel" (283 : Nat) ({ cls := "CodeRecoveryModel", name := "calls", desc := "(II)I" } : Jvm.MethodName)) ∈ lw_all := lw_g (lw_at lw_m9 140 rfl) rfl
theorem q2138 : (Jvm.Cond.privateMethod ({ cls := "CodeRecoveryModel", name := "calls", desc := "(II)I" } : Jvm.MethodName)) ∈ lw_tbl := lw_at lw_m9 141 rfl
theorem q2139 : (Jvm.Cond.instanceMethod ({ cls := "CodeRecoveryModel", name := "calls", desc := "(II)I" } : Jvm.MethodName)) ∈ lw_all := lw_g (lw_at lw_m9 142 rfl) rfl
theorem q2140 : (Jvm.Cond.code ({ cls := "CodeRecoveryModel", name := "calls", desc := "(II)I" } : Jvm.MethodName) prog_12_method_77_code (3 : Nat) (Option.some Jvm.ClassFile.FieldType.int)) ∈ lw_all := lw_g (lw_at lw_m9 143 rfl) rfl
theorem q2141 : (Jvm.Cond.methodLink "CodeRecoveryModel" (286 : Nat) ({ cls := "CodeRecoveryModel", name := "returns", desc := "()I" } : Jvm.MethodName)) ∈ lw_all := lw_g (lw_at lw_m9 144 rfl) rfl
theorem q2142 : (Jvm.Cond.privateMethod ({ cls := "CodeRecoveryModel", name := "returns", desc := "()I" } : Jvm.MethodName)) ∈ lw_tbl := lw_at lw_m9 145 rfl
theorem q2143 : (Jvm.Cond.instanceMethod ({ cls := "CodeRecoveryModel", name := "returns", desc := "()I" } : Jvm.MethodName)) ∈ lw_all := lw_g (lw_at lw_m9 146 rfl) rfl
theorem q2144 : (Jvm.Cond.code ({ cls := "CodeRecoveryModel", name := "returns", desc := "()I" } : Jvm.MethodName) prog_12_method_78_code (1 : Nat) (Option.some Jvm.ClassFile.FieldType.int)) ∈ lw_all := lw_g (lw_at lw_m9 147 rfl) rfl
theorem q2145 : (Jvm.Cond.methodLink "CodeRecoveryModel" (289 : Nat) ({ cls := "CodeRecoveryModel", name := "loads", desc := "(III)I" } : Jvm.MethodName)) ∈ lw_all := lw_g (lw_at lw_m9 148 rfl) rfl
theorem q2146 : (Jvm.Cond.privateMethod ({ cls := "CodeRecoveryModel", name := "loads", desc := "(III)I" } : Jvm.MethodName)) ∈ lw_tbl := lw_at lw_m9 149 rfl
theorem q2147 : (Jvm.Cond.instanceMethod ({ cls := "CodeRecoveryModel", name := "loads", desc := "(III)I" } : Jvm.MethodName)) ∈ lw_all := lw_g (lw_at lw_m9 150 rfl) rfl
theorem q2148 : (Jvm.Cond.code ({ cls := "CodeRecoveryModel", name := "loads", desc := "(III)I" } : Jvm.MethodName) prog_12_method_79_code (4 : Nat) (Option.some Jvm.ClassFile.FieldType.int)) ∈ lw_all := lw_g (lw_at lw_m9 151 rfl) rfl
theorem q2150 : (Jvm.Cond.instanceMethod ({ cls := "CodeRecoveryModel", name := "executedAt", desc := "(I)I" } : Jvm.MethodName)) ∈ lw_all := lw_g (lw_at lw_m9 153 rfl) rfl
theorem q2151 : (Jvm.Cond.selects "CodeRecoveryModel" ({ cls := "CodeRecoveryModel", name := "executedAt", desc := "(I)I" } : Jvm.MethodName) ({ cls := "CodeRecoveryModel", name := "executedAt", desc := "(I)I" } : Jvm.MethodName)) ∈ lw_all := lw_g (lw_at lw_m9 154 rfl) rfl
theorem q2152 : (Jvm.Cond.code ({ cls := "CodeRecoveryModel", name := "executedAt", desc := "(I)I" } : Jvm.MethodName) prog_12_method_81_code (2 : Nat) (Option.some Jvm.ClassFile.FieldType.int)) ∈ lw_all := lw_g (lw_at lw_m9 155 rfl) rfl
theorem q2154 : (Jvm.Cond.instanceMethod ({ cls := "CodeRecoveryModel", name := "unrecovered", desc := "()I" } : Jvm.MethodName)) ∈ lw_all := lw_g (lw_at lw_m9 157 rfl) rfl
theorem q2155 : (Jvm.Cond.selects "CodeRecoveryModel" ({ cls := "CodeRecoveryModel", name := "unrecovered", desc := "()I" } : Jvm.MethodName) ({ cls := "CodeRecoveryModel", name := "unrecovered", desc := "()I" } : Jvm.MethodName)) ∈ lw_all := lw_g (lw_at lw_m9 158 rfl) rfl
theorem q2156 : (Jvm.Cond.code ({ cls := "CodeRecoveryModel", name := "unrecovered", desc := "()I" } : Jvm.MethodName) prog_12_method_82_code (3 : Nat) (Option.some Jvm.ClassFile.FieldType.int)) ∈ lw_all := lw_g (lw_at lw_m9 159 rfl) rfl
theorem q2158 : (Jvm.Cond.instanceMethod ({ cls := "CodeRecoveryModel", name := "register", desc := "(I)I" } : Jvm.MethodName)) ∈ lw_all := lw_g (lw_at lw_m9 161 rfl) rfl
theorem q2159 : (Jvm.Cond.selects "CodeRecoveryModel" ({ cls := "CodeRecoveryModel", name := "register", desc := "(I)I" } : Jvm.MethodName) ({ cls := "CodeRecoveryModel", name := "register", desc := "(I)I" } : Jvm.MethodName)) ∈ lw_all := lw_g (lw_at lw_m9 162 rfl) rfl
theorem q2160 : (Jvm.Cond.code ({ cls := "CodeRecoveryModel", name := "register", desc := "(I)I" } : Jvm.MethodName) prog_12_method_83_code (2 : Nat) (Option.some Jvm.ClassFile.FieldType.int)) ∈ lw_all := lw_g (lw_at lw_m9 163 rfl) rfl
theorem q2162 : (Jvm.Cond.instanceMethod ({ cls := "CodeRecoveryModel", name := "coverage", desc := "()D" } : Jvm.MethodName)) ∈ lw_all := lw_g (lw_at lw_m9 165 rfl) rfl
theorem q2163 : (Jvm.Cond.selects "CodeRecoveryModel" ({ cls := "CodeRecoveryModel", name := "coverage", desc := "()D" } : Jvm.MethodName) ({ cls := "CodeRecoveryModel", name := "coverage", desc := "()D" } : Jvm.MethodName)) ∈ lw_all := lw_g (lw_at lw_m9 166 rfl) rfl
theorem q2164 : (Jvm.Cond.code ({ cls := "CodeRecoveryModel", name := "coverage", desc := "()D" } : Jvm.MethodName) prog_12_method_84_code (3 : Nat) (Option.some Jvm.ClassFile.FieldType.double)) ∈ lw_all := lw_g (lw_at lw_m9 167 rfl) rfl
theorem q2166 : (Jvm.Cond.instanceMethod ({ cls := "CodeRecoveryModel", name := "averageBlock", desc := "()F" } : Jvm.MethodName)) ∈ lw_all := lw_g (lw_at lw_m9 169 rfl) rfl
theorem q2167 : (Jvm.Cond.selects "CodeRecoveryModel" ({ cls := "CodeRecoveryModel", name := "averageBlock", desc := "()F" } : Jvm.MethodName) ({ cls := "CodeRecoveryModel", name := "averageBlock", desc := "()F" } : Jvm.MethodName)) ∈ lw_all := lw_g (lw_at lw_m9 170 rfl) rfl
theorem q2168 : (Jvm.Cond.code ({ cls := "CodeRecoveryModel", name := "averageBlock", desc := "()F" } : Jvm.MethodName) prog_12_method_85_code (4 : Nat) (Option.some Jvm.ClassFile.FieldType.float)) ∈ lw_all := lw_g (lw_at lw_m9 171 rfl) rfl
theorem q2170 : (Jvm.Cond.instanceMethod ({ cls := "CodeRecoveryModel", name := "save", desc := "()V" } : Jvm.MethodName)) ∈ lw_all := lw_g (lw_at lw_m9 173 rfl) rfl
theorem q2171 : (Jvm.Cond.selects "CodeRecoveryModel" ({ cls := "CodeRecoveryModel", name := "save", desc := "()V" } : Jvm.MethodName) ({ cls := "CodeRecoveryModel", name := "save", desc := "()V" } : Jvm.MethodName)) ∈ lw_all := lw_g (lw_at lw_m9 174 rfl) rfl
theorem q2172 : (Jvm.Cond.code ({ cls := "CodeRecoveryModel", name := "save", desc := "()V" } : Jvm.MethodName) prog_12_method_86_code (2 : Nat) (Option.none : Option Jvm.ClassFile.FieldType)) ∈ lw_all := lw_g (lw_at lw_m9 175 rfl) rfl
theorem q2174 : (Jvm.Cond.instanceMethod ({ cls := "CodeRecoveryModel", name := "restore", desc := "()V" } : Jvm.MethodName)) ∈ lw_all := lw_g (lw_at lw_m9 177 rfl) rfl
theorem q2175 : (Jvm.Cond.selects "CodeRecoveryModel" ({ cls := "CodeRecoveryModel", name := "restore", desc := "()V" } : Jvm.MethodName) ({ cls := "CodeRecoveryModel", name := "restore", desc := "()V" } : Jvm.MethodName)) ∈ lw_all := lw_g (lw_at lw_m9 178 rfl) rfl
theorem q2176 : (Jvm.Cond.code ({ cls := "CodeRecoveryModel", name := "restore", desc := "()V" } : Jvm.MethodName) prog_12_method_87_code (2 : Nat) (Option.none : Option Jvm.ClassFile.FieldType)) ∈ lw_all := lw_g (lw_at lw_m9 179 rfl) rfl
theorem q2192 : (Jvm.Cond.castable "CodeRecoveryModel" "java/lang/Object") ∈ lw_tbl := lw_at lw_m9 195 rfl
theorem in_X3 : ∀ w ∈ wsX30, w ∈ lw_all := lw_in wsX30 [1734, 1736, 1738, 1740, 1742, 1744, 1746, 1748, 1750, 1752, 1754, 1756, 1758, 1760, 1762, 1764, 1766, 1768, 1770, 1772, 1774, 1776, 1778, 1780, 1782, 1784, 1786, 1788, 1790, 1792, 1794, 1796, 1798, 1800, 1802, 1804, 1806, 1808, 1810, 1812, 1814, 1816, 1818, 1820, 1822, 1824, 1826, 1828, 1830, 1832] (by decide +kernel) (by decide +kernel)
