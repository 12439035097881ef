/-! RoadHouses -/
set_option maxRecDepth 100000
def RX0 : String := "RoadHouses"
def TX0 : u_T := fun k => match k with
  | 0 => ("RoadHouses", "now", "I", false)
  | 1 => ("RoadHouses", "places", "Ljava/util/List;", true)
  | 2 => ("RoadHouses", "ways", "[[I", true)
  | 3 => ("RoadHouses", "fars", "[I", true)
  | 4 => ("RoadHouses", "changes", "Ljava/util/List;", true)
  | 5 => ("RoadHouses", "persons", "Ljava/util/List;", true)
  | 6 => ("RoadHouses", "party", "Ljava/util/List;", true)
  | 7 => ("RoadHouses", "hunters", "Ljava/util/List;", true)
  | 8 => ("RoadHouses", "raids", "Ljava/util/List;", true)
  | 9 => ("RoadHouses", "laws", "Ljava/util/List;", true)
  | 10 => ("RoadHouses", "fault", "LRoadHouses$Fault;", true)
  | 11 => ("RoadHouses", "tape", "[B", true)
  | 12 => ("RoadHouses", "taped", "I", false)
  | 13 => ("RoadHouses", "at", "I", false)
  | 14 => ("RoadHouses", "open", "I", false)
  | 15 => ("RoadHouses", "names", "[I", true)
  | 16 => ("RoadHouses", "band", "Ljava/util/List;", true)
  | 17 => ("RoadHouses", "units", "[I", true)
  | 18 => ("RoadHouses", "unitMany", "[I", true)
  | 19 => ("RoadHouses", "unitStrength", "[I", true)
  | 20 => ("RoadHouses", "steps", "[I", true)
  | 21 => ("RoadHouses", "cuts", "[I", true)
  | 22 => ("RoadHouses", "warned", "[I", true)
  | 23 => ("RoadHouses", "tieFrom", "[I", true)
  | 24 => ("RoadHouses", "tieTo", "[I", true)
  | 25 => ("RoadHouses", "ties", "I", false)
  | _ => ("RoadHouses", "sheets", "[LRoadHouses$Sheet;", true)
def tyX0 : Nat → FieldType := fun k => match k with
  | 0 => .int
  | 1 => .object "java/util/List"
  | 2 => .array (.array .int)
  | 3 => .array .int
  | 4 => .object "java/util/List"
  | 5 => .object "java/util/List"
  | 6 => .object "java/util/List"
  | 7 => .object "java/util/List"
  | 8 => .object "java/util/List"
  | 9 => .object "java/util/List"
  | 10 => .object "RoadHouses$Fault"
  | 11 => .array .byte
  | 12 => .int
  | 13 => .int
  | 14 => .int
  | 15 => .array .int
  | 16 => .object "java/util/List"
  | 17 => .array .int
  | 18 => .array .int
  | 19 => .array .int
  | 20 => .array .int
  | 21 => .array .int
  | 22 => .array .int
  | 23 => .array .int
  | 24 => .array .int
  | 25 => .int
  | _ => .array (.object "RoadHouses$Sheet")
abbrev wsX00 : List Cond := u_ws RX0 TX0 27
set_option maxRecDepth 100000 in
theorem nmX0 : ∀ a, a < 27 → ∀ b, b < 27 → a ≠ b → (TX0 a).2.1 ≠ (TX0 b).2.1 := by decide +kernel
set_option maxRecDepth 100000 in
theorem tyX0_ok : ∀ k, k < 27 → parseFieldDescriptor (TX0 k).2.2.1 = some (tyX0 k) := by decide +kernel
abbrev cX0_init : ByteArray := prog_1_method_4_code
def yX0_init : MethodName := ⟨RX0, "<init>", "()V"⟩
def dkwX0_init_10 : List UInt8 := [167, 255, 235, 177]
abbrev dktX0_init_10 : List UInt8 := dkwX0_init_10 ++ []
def dkwX0_init_9 : List UInt8 := [3, 60, 27, 7, 162, 0, 22, 42, 180, 0, 86, 27, 187, 0, 84, 89, 183, 0, 90, 83, 132, 1, 1]
abbrev dktX0_init_9 : List UInt8 := dkwX0_init_9 ++ dktX0_init_10
def dkwX0_init_8 : List UInt8 := [42, 16, 8, 188, 10, 181, 0, 78, 42, 16, 8, 188, 10, 181, 0, 81, 42, 7, 189, 0, 84, 181, 0, 86]
abbrev dktX0_init_8 : List UInt8 := dkwX0_init_8 ++ dktX0_init_9
def dkwX0_init_7 : List UInt8 := [42, 16, 16, 188, 10, 181, 0, 69, 42, 16, 16, 188, 10, 181, 0, 72, 42, 16, 16, 188, 10, 181, 0, 75]
abbrev dktX0_init_7 : List UInt8 := dkwX0_init_7 ++ dktX0_init_8
def dkwX0_init_6 : List UInt8 := [42, 16, 9, 188, 10, 181, 0, 60, 42, 16, 9, 188, 10, 181, 0, 63, 42, 16, 9, 188, 10, 181, 0, 66]
abbrev dktX0_init_6 : List UInt8 := dkwX0_init_6 ++ dktX0_init_7
def dkwX0_init_5 : List UInt8 := [188, 8, 181, 0, 50, 42, 16, 6, 188, 10, 181, 0, 54, 42, 187, 0, 9, 89, 183, 0, 11, 181, 0, 57]
abbrev dktX0_init_5 : List UInt8 := dkwX0_init_5 ++ dktX0_init_6
def dkwX0_init_4 : List UInt8 := [187, 0, 9, 89, 183, 0, 11, 181, 0, 40, 42, 187, 0, 43, 89, 183, 0, 45, 181, 0, 46, 42, 16, 80]
abbrev dktX0_init_4 : List UInt8 := dkwX0_init_4 ++ dktX0_init_5
def dkwX0_init_3 : List UInt8 := [187, 0, 9, 89, 183, 0, 11, 181, 0, 34, 42, 187, 0, 9, 89, 183, 0, 11, 181, 0, 37, 42]
abbrev dktX0_init_3 : List UInt8 := dkwX0_init_3 ++ dktX0_init_4
def dkwX0_init_2 : List UInt8 := [187, 0, 9, 89, 183, 0, 11, 181, 0, 28, 42, 187, 0, 9, 89, 183, 0, 11, 181, 0, 31, 42]
abbrev dktX0_init_2 : List UInt8 := dkwX0_init_2 ++ dktX0_init_3
def dkwX0_init_1 : List UInt8 := [181, 0, 18, 42, 16, 16, 188, 10, 181, 0, 21, 42, 187, 0, 9, 89, 183, 0, 11, 181, 0, 25, 42]
abbrev dktX0_init_1 : List UInt8 := dkwX0_init_1 ++ dktX0_init_2
def dkwX0_init_0 : List UInt8 := [42, 183, 0, 3, 42, 187, 0, 9, 89, 183, 0, 11, 181, 0, 12, 42, 16, 16, 16, 16, 197, 0, 16, 2]
abbrev dktX0_init_0 : List UInt8 := dkwX0_init_0 ++ dktX0_init_1
theorem dksX0_init_0 : cX0_init.data.toList.drop 0 = dktX0_init_0 := by decide +kernel
theorem dksX0_init_1 : cX0_init.data.toList.drop 24 = dktX0_init_1 := dk_seg dksX0_init_0 24 rfl rfl
theorem dksX0_init_2 : cX0_init.data.toList.drop 47 = dktX0_init_2 := dk_seg dksX0_init_1 23 rfl rfl
theorem dksX0_init_3 : cX0_init.data.toList.drop 69 = dktX0_init_3 := dk_seg dksX0_init_2 22 rfl rfl
theorem dksX0_init_4 : cX0_init.data.toList.drop 91 = dktX0_init_4 := dk_seg dksX0_init_3 22 rfl rfl
theorem dksX0_init_5 : cX0_init.data.toList.drop 115 = dktX0_init_5 := dk_seg dksX0_init_4 24 rfl rfl
theorem dksX0_init_6 : cX0_init.data.toList.drop 139 = dktX0_init_6 := dk_seg dksX0_init_5 24 rfl rfl
theorem dksX0_init_7 : cX0_init.data.toList.drop 163 = dktX0_init_7 := dk_seg dksX0_init_6 24 rfl rfl
theorem dksX0_init_8 : cX0_init.data.toList.drop 187 = dktX0_init_8 := dk_seg dksX0_init_7 24 rfl rfl
theorem dksX0_init_9 : cX0_init.data.toList.drop 211 = dktX0_init_9 := dk_seg dksX0_init_8 24 rfl rfl
theorem dksX0_init_10 : cX0_init.data.toList.drop 234 = dktX0_init_10 := dk_seg dksX0_init_9 23 rfl rfl
theorem dX0_init_0 : decode cX0_init 0 = .ok (.aload_n 0, 1) := dk_42 (dk_at dksX0_init_0 0 rfl rfl)
theorem dX0_init_1 : decode cX0_init 1 = .ok (.invokespecial 3, 3) := dk_183 0 3 (dk_at dksX0_init_0 1 rfl rfl)
theorem dX0_init_4 : decode cX0_init 4 = .ok (.aload_n 0, 1) := dk_42 (dk_at dksX0_init_0 4 rfl rfl)
theorem dX0_init_5 : decode cX0_init 5 = .ok (.new 9, 3) := dk_187 0 9 (dk_at dksX0_init_0 5 rfl rfl)
theorem dX0_init_8 : decode cX0_init 8 = .ok (.dup, 1) := dk_89 (dk_at dksX0_init_0 8 rfl rfl)
theorem dX0_init_9 : decode cX0_init 9 = .ok (.invokespecial 11, 3) := dk_183 0 11 (dk_at dksX0_init_0 9 rfl rfl)
theorem dX0_init_12 : decode cX0_init 12 = .ok (.putfield 12, 3) := dk_181 0 12 (dk_at dksX0_init_0 12 rfl rfl)
theorem dX0_init_15 : decode cX0_init 15 = .ok (.aload_n 0, 1) := dk_42 (dk_at dksX0_init_0 15 rfl rfl)
theorem dX0_init_16 : decode cX0_init 16 = .ok (.bipush 16, 2) := dk_16 16 (dk_at dksX0_init_0 16 rfl rfl)
theorem dX0_init_18 : decode cX0_init 18 = .ok (.bipush 16, 2) := dk_16 16 (dk_at dksX0_init_0 18 rfl rfl)
theorem dX0_init_20 : decode cX0_init 20 = .ok (.multianewarray 16 2, 4) := by decide +kernel
theorem dX0_init_24 : decode cX0_init 24 = .ok (.putfield 18, 3) := dk_181 0 18 (dk_at dksX0_init_1 0 rfl rfl)
theorem dX0_init_27 : decode cX0_init 27 = .ok (.aload_n 0, 1) := dk_42 (dk_at dksX0_init_1 3 rfl rfl)
theorem dX0_init_28 : decode cX0_init 28 = .ok (.bipush 16, 2) := dk_16 16 (dk_at dksX0_init_1 4 rfl rfl)
theorem dX0_init_30 : decode cX0_init 30 = .ok (.newarray .int, 2) := dk_188_10 (dk_at dksX0_init_1 6 rfl rfl)
theorem dX0_init_32 : decode cX0_init 32 = .ok (.putfield 21, 3) := dk_181 0 21 (dk_at dksX0_init_1 8 rfl rfl)
theorem dX0_init_35 : decode cX0_init 35 = .ok (.aload_n 0, 1) := dk_42 (dk_at dksX0_init_1 11 rfl rfl)
theorem dX0_init_36 : decode cX0_init 36 = .ok (.new 9, 3) := dk_187 0 9 (dk_at dksX0_init_1 12 rfl rfl)
theorem dX0_init_39 : decode cX0_init 39 = .ok (.dup, 1) := dk_89 (dk_at dksX0_init_1 15 rfl rfl)
theorem dX0_init_40 : decode cX0_init 40 = .ok (.invokespecial 11, 3) := dk_183 0 11 (dk_at dksX0_init_1 16 rfl rfl)
theorem dX0_init_43 : decode cX0_init 43 = .ok (.putfield 25, 3) := dk_181 0 25 (dk_at dksX0_init_1 19 rfl rfl)
theorem dX0_init_46 : decode cX0_init 46 = .ok (.aload_n 0, 1) := dk_42 (dk_at dksX0_init_1 22 rfl rfl)
theorem dX0_init_47 : decode cX0_init 47 = .ok (.new 9, 3) := dk_187 0 9 (dk_at dksX0_init_2 0 rfl rfl)
theorem dX0_init_50 : decode cX0_init 50 = .ok (.dup, 1) := dk_89 (dk_at dksX0_init_2 3 rfl rfl)
theorem dX0_init_51 : decode cX0_init 51 = .ok (.invokespecial 11, 3) := dk_183 0 11 (dk_at dksX0_init_2 4 rfl rfl)
theorem dX0_init_54 : decode cX0_init 54 = .ok (.putfield 28, 3) := dk_181 0 28 (dk_at dksX0_init_2 7 rfl rfl)
theorem dX0_init_57 : decode cX0_init 57 = .ok (.aload_n 0, 1) := dk_42 (dk_at dksX0_init_2 10 rfl rfl)
theorem dX0_init_58 : decode cX0_init 58 = .ok (.new 9, 3) := dk_187 0 9 (dk_at dksX0_init_2 11 rfl rfl)
theorem dX0_init_61 : decode cX0_init 61 = .ok (.dup, 1) := dk_89 (dk_at dksX0_init_2 14 rfl rfl)
theorem dX0_init_62 : decode cX0_init 62 = .ok (.invokespecial 11, 3) := dk_183 0 11 (dk_at dksX0_init_2 15 rfl rfl)
theorem dX0_init_65 : decode cX0_init 65 = .ok (.putfield 31, 3) := dk_181 0 31 (dk_at dksX0_init_2 18 rfl rfl)
theorem dX0_init_68 : decode cX0_init 68 = .ok (.aload_n 0, 1) := dk_42 (dk_at dksX0_init_2 21 rfl rfl)
theorem dX0_init_69 : decode cX0_init 69 = .ok (.new 9, 3) := dk_187 0 9 (dk_at dksX0_init_3 0 rfl rfl)
theorem dX0_init_72 : decode cX0_init 72 = .ok (.dup, 1) := dk_89 (dk_at dksX0_init_3 3 rfl rfl)
theorem dX0_init_73 : decode cX0_init 73 = .ok (.invokespecial 11, 3) := dk_183 0 11 (dk_at dksX0_init_3 4 rfl rfl)
theorem dX0_init_76 : decode cX0_init 76 = .ok (.putfield 34, 3) := dk_181 0 34 (dk_at dksX0_init_3 7 rfl rfl)
theorem dX0_init_79 : decode cX0_init 79 = .ok (.aload_n 0, 1) := dk_42 (dk_at dksX0_init_3 10 rfl rfl)
theorem dX0_init_80 : decode cX0_init 80 = .ok (.new 9, 3) := dk_187 0 9 (dk_at dksX0_init_3 11 rfl rfl)
theorem dX0_init_83 : decode cX0_init 83 = .ok (.dup, 1) := dk_89 (dk_at dksX0_init_3 14 rfl rfl)
theorem dX0_init_84 : decode cX0_init 84 = .ok (.invokespecial 11, 3) := dk_183 0 11 (dk_at dksX0_init_3 15 rfl rfl)
theorem dX0_init_87 : decode cX0_init 87 = .ok (.putfield 37, 3) := dk_181 0 37 (dk_at dksX0_init_3 18 rfl rfl)
theorem dX0_init_90 : decode cX0_init 90 = .ok (.aload_n 0, 1) := dk_42 (dk_at dksX0_init_3 21 rfl rfl)
theorem dX0_init_91 : decode cX0_init 91 = .ok (.new 9, 3) := dk_187 0 9 (dk_at dksX0_init_4 0 rfl rfl)
theorem dX0_init_94 : decode cX0_init 94 = .ok (.dup, 1) := dk_89 (dk_at dksX0_init_4 3 rfl rfl)
theorem dX0_init_95 : decode cX0_init 95 = .ok (.invokespecial 11, 3) := dk_183 0 11 (dk_at dksX0_init_4 4 rfl rfl)
theorem dX0_init_98 : decode cX0_init 98 = .ok (.putfield 40, 3) := dk_181 0 40 (dk_at dksX0_init_4 7 rfl rfl)
theorem dX0_init_101 : decode cX0_init 101 = .ok (.aload_n 0, 1) := dk_42 (dk_at dksX0_init_4 10 rfl rfl)
theorem dX0_init_102 : decode cX0_init 102 = .ok (.new 43, 3) := dk_187 0 43 (dk_at dksX0_init_4 11 rfl rfl)
theorem dX0_init_105 : decode cX0_init 105 = .ok (.dup, 1) := dk_89 (dk_at dksX0_init_4 14 rfl rfl)
theorem dX0_init_106 : decode cX0_init 106 = .ok (.invokespecial 45, 3) := dk_183 0 45 (dk_at dksX0_init_4 15 rfl rfl)
theorem dX0_init_109 : decode cX0_init 109 = .ok (.putfield 46, 3) := dk_181 0 46 (dk_at dksX0_init_4 18 rfl rfl)
theorem dX0_init_112 : decode cX0_init 112 = .ok (.aload_n 0, 1) := dk_42 (dk_at dksX0_init_4 21 rfl rfl)
theorem dX0_init_113 : decode cX0_init 113 = .ok (.bipush 80, 2) := dk_16 80 (dk_at dksX0_init_4 22 rfl rfl)
theorem dX0_init_115 : decode cX0_init 115 = .ok (.newarray .byte, 2) := dk_188_8 (dk_at dksX0_init_5 0 rfl rfl)
theorem dX0_init_117 : decode cX0_init 117 = .ok (.putfield 50, 3) := dk_181 0 50 (dk_at dksX0_init_5 2 rfl rfl)
theorem dX0_init_120 : decode cX0_init 120 = .ok (.aload_n 0, 1) := dk_42 (dk_at dksX0_init_5 5 rfl rfl)
theorem dX0_init_121 : decode cX0_init 121 = .ok (.bipush 6, 2) := dk_16 6 (dk_at dksX0_init_5 6 rfl rfl)
theorem dX0_init_123 : decode cX0_init 123 = .ok (.newarray .int, 2) := dk_188_10 (dk_at dksX0_init_5 8 rfl rfl)
theorem dX0_init_125 : decode cX0_init 125 = .ok (.putfield 54, 3) := dk_181 0 54 (dk_at dksX0_init_5 10 rfl rfl)
theorem dX0_init_128 : decode cX0_init 128 = .ok (.aload_n 0, 1) := dk_42 (dk_at dksX0_init_5 13 rfl rfl)
theorem dX0_init_129 : decode cX0_init 129 = .ok (.new 9, 3) := dk_187 0 9 (dk_at dksX0_init_5 14 rfl rfl)
theorem dX0_init_132 : decode cX0_init 132 = .ok (.dup, 1) := dk_89 (dk_at dksX0_init_5 17 rfl rfl)
theorem dX0_init_133 : decode cX0_init 133 = .ok (.invokespecial 11, 3) := dk_183 0 11 (dk_at dksX0_init_5 18 rfl rfl)
theorem dX0_init_136 : decode cX0_init 136 = .ok (.putfield 57, 3) := dk_181 0 57 (dk_at dksX0_init_5 21 rfl rfl)
theorem dX0_init_139 : decode cX0_init 139 = .ok (.aload_n 0, 1) := dk_42 (dk_at dksX0_init_6 0 rfl rfl)
theorem dX0_init_140 : decode cX0_init 140 = .ok (.bipush 9, 2) := dk_16 9 (dk_at dksX0_init_6 1 rfl rfl)
theorem dX0_init_142 : decode cX0_init 142 = .ok (.newarray .int, 2) := dk_188_10 (dk_at dksX0_init_6 3 rfl rfl)
theorem dX0_init_144 : decode cX0_init 144 = .ok (.putfield 60, 3) := dk_181 0 60 (dk_at dksX0_init_6 5 rfl rfl)
theorem dX0_init_147 : decode cX0_init 147 = .ok (.aload_n 0, 1) := dk_42 (dk_at dksX0_init_6 8 rfl rfl)
theorem dX0_init_148 : decode cX0_init 148 = .ok (.bipush 9, 2) := dk_16 9 (dk_at dksX0_init_6 9 rfl rfl)
theorem dX0_init_150 : decode cX0_init 150 = .ok (.newarray .int, 2) := dk_188_10 (dk_at dksX0_init_6 11 rfl rfl)
theorem dX0_init_152 : decode cX0_init 152 = .ok (.putfield 63, 3) := dk_181 0 63 (dk_at dksX0_init_6 13 rfl rfl)
theorem dX0_init_155 : decode cX0_init 155 = .ok (.aload_n 0, 1) := dk_42 (dk_at dksX0_init_6 16 rfl rfl)
theorem dX0_init_156 : decode cX0_init 156 = .ok (.bipush 9, 2) := dk_16 9 (dk_at dksX0_init_6 17 rfl rfl)
theorem dX0_init_158 : decode cX0_init 158 = .ok (.newarray .int, 2) := dk_188_10 (dk_at dksX0_init_6 19 rfl rfl)
theorem dX0_init_160 : decode cX0_init 160 = .ok (.putfield 66, 3) := dk_181 0 66 (dk_at dksX0_init_6 21 rfl rfl)
theorem dX0_init_163 : decode cX0_init 163 = .ok (.aload_n 0, 1) := dk_42 (dk_at dksX0_init_7 0 rfl rfl)
theorem dX0_init_164 : decode cX0_init 164 = .ok (.bipush 16, 2) := dk_16 16 (dk_at dksX0_init_7 1 rfl rfl)
theorem dX0_init_166 : decode cX0_init 166 = .ok (.newarray .int, 2) := dk_188_10 (dk_at dksX0_init_7 3 rfl rfl)
theorem dX0_init_168 : decode cX0_init 168 = .ok (.putfield 69, 3) := dk_181 0 69 (dk_at dksX0_init_7 5 rfl rfl)
theorem dX0_init_171 : decode cX0_init 171 = .ok (.aload_n 0, 1) := dk_42 (dk_at dksX0_init_7 8 rfl rfl)
theorem dX0_init_172 : decode cX0_init 172 = .ok (.bipush 16, 2) := dk_16 16 (dk_at dksX0_init_7 9 rfl rfl)
theorem dX0_init_174 : decode cX0_init 174 = .ok (.newarray .int, 2) := dk_188_10 (dk_at dksX0_init_7 11 rfl rfl)
theorem dX0_init_176 : decode cX0_init 176 = .ok (.putfield 72, 3) := dk_181 0 72 (dk_at dksX0_init_7 13 rfl rfl)
theorem dX0_init_179 : decode cX0_init 179 = .ok (.aload_n 0, 1) := dk_42 (dk_at dksX0_init_7 16 rfl rfl)
theorem dX0_init_180 : decode cX0_init 180 = .ok (.bipush 16, 2) := dk_16 16 (dk_at dksX0_init_7 17 rfl rfl)
theorem dX0_init_182 : decode cX0_init 182 = .ok (.newarray .int, 2) := dk_188_10 (dk_at dksX0_init_7 19 rfl rfl)
theorem dX0_init_184 : decode cX0_init 184 = .ok (.putfield 75, 3) := dk_181 0 75 (dk_at dksX0_init_7 21 rfl rfl)
theorem dX0_init_187 : decode cX0_init 187 = .ok (.aload_n 0, 1) := dk_42 (dk_at dksX0_init_8 0 rfl rfl)
theorem dX0_init_188 : decode cX0_init 188 = .ok (.bipush 8, 2) := dk_16 8 (dk_at dksX0_init_8 1 rfl rfl)
theorem dX0_init_190 : decode cX0_init 190 = .ok (.newarray .int, 2) := dk_188_10 (dk_at dksX0_init_8 3 rfl rfl)
theorem dX0_init_192 : decode cX0_init 192 = .ok (.putfield 78, 3) := dk_181 0 78 (dk_at dksX0_init_8 5 rfl rfl)
theorem dX0_init_195 : decode cX0_init 195 = .ok (.aload_n 0, 1) := dk_42 (dk_at dksX0_init_8 8 rfl rfl)
theorem dX0_init_196 : decode cX0_init 196 = .ok (.bipush 8, 2) := dk_16 8 (dk_at dksX0_init_8 9 rfl rfl)
theorem dX0_init_198 : decode cX0_init 198 = .ok (.newarray .int, 2) := dk_188_10 (dk_at dksX0_init_8 11 rfl rfl)
theorem dX0_init_200 : decode cX0_init 200 = .ok (.putfield 81, 3) := dk_181 0 81 (dk_at dksX0_init_8 13 rfl rfl)
theorem dX0_init_203 : decode cX0_init 203 = .ok (.aload_n 0, 1) := dk_42 (dk_at dksX0_init_8 16 rfl rfl)
theorem dX0_init_204 : decode cX0_init 204 = .ok (.iconst 4, 1) := dk_7 (dk_at dksX0_init_8 17 rfl rfl)
theorem dX0_init_205 : decode cX0_init 205 = .ok (.anewarray 84, 3) := dk_189 0 84 (dk_at dksX0_init_8 18 rfl rfl)
theorem dX0_init_208 : decode cX0_init 208 = .ok (.putfield 86, 3) := dk_181 0 86 (dk_at dksX0_init_8 21 rfl rfl)
theorem dX0_init_211 : decode cX0_init 211 = .ok (.iconst 0, 1) := dk_3 (dk_at dksX0_init_9 0 rfl rfl)
theorem dX0_init_212 : decode cX0_init 212 = .ok (.istore_n 1, 1) := dk_60 (dk_at dksX0_init_9 1 rfl rfl)
theorem dX0_init_213 : decode cX0_init 213 = .ok (.iload_n 1, 1) := dk_27 (dk_at dksX0_init_9 2 rfl rfl)
theorem dX0_init_214 : decode cX0_init 214 = .ok (.iconst 4, 1) := dk_7 (dk_at dksX0_init_9 3 rfl rfl)
theorem dX0_init_215 : decode cX0_init 215 = .ok (.if_icmp .ge 22, 3) := dk_162 0 22 (dk_at dksX0_init_9 4 rfl rfl)
theorem dX0_init_218 : decode cX0_init 218 = .ok (.aload_n 0, 1) := dk_42 (dk_at dksX0_init_9 7 rfl rfl)
theorem dX0_init_219 : decode cX0_init 219 = .ok (.getfield 86, 3) := dk_180 0 86 (dk_at dksX0_init_9 8 rfl rfl)
theorem dX0_init_222 : decode cX0_init 222 = .ok (.iload_n 1, 1) := dk_27 (dk_at dksX0_init_9 11 rfl rfl)
theorem dX0_init_223 : decode cX0_init 223 = .ok (.new 84, 3) := dk_187 0 84 (dk_at dksX0_init_9 12 rfl rfl)
theorem dX0_init_226 : decode cX0_init 226 = .ok (.dup, 1) := dk_89 (dk_at dksX0_init_9 15 rfl rfl)
theorem dX0_init_227 : decode cX0_init 227 = .ok (.invokespecial 90, 3) := dk_183 0 90 (dk_at dksX0_init_9 16 rfl rfl)
theorem dX0_init_230 : decode cX0_init 230 = .ok (.aastore, 1) := dk_83 (dk_at dksX0_init_9 19 rfl rfl)
theorem dX0_init_231 : decode cX0_init 231 = .ok (.iinc 1 1, 3) := dk_132 1 1 (dk_at dksX0_init_9 20 rfl rfl)
theorem dX0_init_234 : decode cX0_init 234 = .ok (.goto (-21), 3) := dk_167 255 235 (dk_at dksX0_init_10 0 rfl rfl)
theorem dX0_init_237 : decode cX0_init 237 = .ok (.return_, 1) := dk_177 (dk_at dksX0_init_10 3 rfl rfl)
abbrev cX0_open : ByteArray := prog_1_method_9_code
def yX0_open : MethodName := ⟨RX0, "open", "(I)I"⟩
def dkwX0_open_1 : List UInt8 := [187, 0, 106, 89, 42, 180, 0, 12, 185, 0, 91, 1, 0, 27, 183, 0, 115, 182, 0, 118, 172]
abbrev dktX0_open_1 : List UInt8 := dkwX0_open_1 ++ []
def dkwX0_open_0 : List UInt8 := [27, 3, 6, 184, 0, 97, 154, 0, 5, 2, 172, 42, 182, 0, 111, 153, 0, 8, 16, 253, 167, 0, 24, 42]
abbrev dktX0_open_0 : List UInt8 := dkwX0_open_0 ++ dktX0_open_1
theorem dksX0_open_0 : cX0_open.data.toList.drop 0 = dktX0_open_0 := by decide +kernel
theorem dksX0_open_1 : cX0_open.data.toList.drop 24 = dktX0_open_1 := dk_seg dksX0_open_0 24 rfl rfl
theorem dX0_open_0 : decode cX0_open 0 = .ok (.iload_n 1, 1) := dk_27 (dk_at dksX0_open_0 0 rfl rfl)
theorem dX0_open_1 : decode cX0_open 1 = .ok (.iconst 0, 1) := dk_3 (dk_at dksX0_open_0 1 rfl rfl)
theorem dX0_open_2 : decode cX0_open 2 = .ok (.iconst 3, 1) := dk_6 (dk_at dksX0_open_0 2 rfl rfl)
theorem dX0_open_3 : decode cX0_open 3 = .ok (.invokestatic 97, 3) := dk_184 0 97 (dk_at dksX0_open_0 3 rfl rfl)
theorem dX0_open_6 : decode cX0_open 6 = .ok (.ifCond .ne 5, 3) := dk_154 0 5 (dk_at dksX0_open_0 6 rfl rfl)
theorem dX0_open_9 : decode cX0_open 9 = .ok (.iconst (-1), 1) := dk_2 (dk_at dksX0_open_0 9 rfl rfl)
theorem dX0_open_10 : decode cX0_open 10 = .ok (.ireturn, 1) := dk_172 (dk_at dksX0_open_0 10 rfl rfl)
theorem dX0_open_11 : decode cX0_open 11 = .ok (.aload_n 0, 1) := dk_42 (dk_at dksX0_open_0 11 rfl rfl)
theorem dX0_open_12 : decode cX0_open 12 = .ok (.invokevirtual 111, 3) := dk_182 0 111 (dk_at dksX0_open_0 12 rfl rfl)
theorem dX0_open_15 : decode cX0_open 15 = .ok (.ifCond .eq 8, 3) := dk_153 0 8 (dk_at dksX0_open_0 15 rfl rfl)
theorem dX0_open_18 : decode cX0_open 18 = .ok (.bipush (-3), 2) := dk_16 253 (dk_at dksX0_open_0 18 rfl rfl)
theorem dX0_open_20 : decode cX0_open 20 = .ok (.goto 24, 3) := dk_167 0 24 (dk_at dksX0_open_0 20 rfl rfl)
theorem dX0_open_23 : decode cX0_open 23 = .ok (.aload_n 0, 1) := dk_42 (dk_at dksX0_open_0 23 rfl rfl)
theorem dX0_open_24 : decode cX0_open 24 = .ok (.new 106, 3) := dk_187 0 106 (dk_at dksX0_open_1 0 rfl rfl)
theorem dX0_open_27 : decode cX0_open 27 = .ok (.dup, 1) := dk_89 (dk_at dksX0_open_1 3 rfl rfl)
theorem dX0_open_28 : decode cX0_open 28 = .ok (.aload_n 0, 1) := dk_42 (dk_at dksX0_open_1 4 rfl rfl)
theorem dX0_open_29 : decode cX0_open 29 = .ok (.getfield 12, 3) := dk_180 0 12 (dk_at dksX0_open_1 5 rfl rfl)
theorem dX0_open_32 : decode cX0_open 32 = .ok (.invokeinterface 91 1, 5) := by decide +kernel
theorem dX0_open_37 : decode cX0_open 37 = .ok (.iload_n 1, 1) := dk_27 (dk_at dksX0_open_1 13 rfl rfl)
theorem dX0_open_38 : decode cX0_open 38 = .ok (.invokespecial 115, 3) := dk_183 0 115 (dk_at dksX0_open_1 14 rfl rfl)
theorem dX0_open_41 : decode cX0_open 41 = .ok (.invokevirtual 118, 3) := dk_182 0 118 (dk_at dksX0_open_1 17 rfl rfl)
theorem dX0_open_44 : decode cX0_open 44 = .ok (.ireturn, 1) := dk_172 (dk_at dksX0_open_1 20 rfl rfl)
abbrev cX0_isIn : ByteArray := prog_1_method_1_code
def yX0_isIn : MethodName := ⟨RX0, "isIn", "(III)Z"⟩
def dkwX0_isIn_0 : List UInt8 := [26, 27, 161, 0, 12, 26, 28, 163, 0, 7, 4, 167, 0, 4, 3, 172]
abbrev dktX0_isIn_0 : List UInt8 := dkwX0_isIn_0 ++ []
theorem dksX0_isIn_0 : cX0_isIn.data.toList.drop 0 = dktX0_isIn_0 := by decide +kernel
theorem dX0_isIn_0 : decode cX0_isIn 0 = .ok (.iload_n 0, 1) := dk_26 (dk_at dksX0_isIn_0 0 rfl rfl)
theorem dX0_isIn_1 : decode cX0_isIn 1 = .ok (.iload_n 1, 1) := dk_27 (dk_at dksX0_isIn_0 1 rfl rfl)
theorem dX0_isIn_2 : decode cX0_isIn 2 = .ok (.if_icmp .lt 12, 3) := dk_161 0 12 (dk_at dksX0_isIn_0 2 rfl rfl)
theorem dX0_isIn_5 : decode cX0_isIn 5 = .ok (.iload_n 0, 1) := dk_26 (dk_at dksX0_isIn_0 5 rfl rfl)
theorem dX0_isIn_6 : decode cX0_isIn 6 = .ok (.iload_n 2, 1) := dk_28 (dk_at dksX0_isIn_0 6 rfl rfl)
theorem dX0_isIn_7 : decode cX0_isIn 7 = .ok (.if_icmp .gt 7, 3) := dk_163 0 7 (dk_at dksX0_isIn_0 7 rfl rfl)
theorem dX0_isIn_10 : decode cX0_isIn 10 = .ok (.iconst 1, 1) := dk_4 (dk_at dksX0_isIn_0 10 rfl rfl)
theorem dX0_isIn_11 : decode cX0_isIn 11 = .ok (.goto 4, 3) := dk_167 0 4 (dk_at dksX0_isIn_0 11 rfl rfl)
theorem dX0_isIn_14 : decode cX0_isIn 14 = .ok (.iconst 0, 1) := dk_3 (dk_at dksX0_isIn_0 14 rfl rfl)
theorem dX0_isIn_15 : decode cX0_isIn 15 = .ok (.ireturn, 1) := dk_172 (dk_at dksX0_isIn_0 15 rfl rfl)
abbrev cX0_isFull : ByteArray := prog_1_method_8_code
def yX0_isFull : MethodName := ⟨RX0, "isFull", "()Z"⟩
def dkwX0_isFull_0 : List UInt8 := [42, 180, 0, 12, 185, 0, 91, 1, 0, 16, 16, 160, 0, 7, 4, 167, 0, 4, 3, 172]
abbrev dktX0_isFull_0 : List UInt8 := dkwX0_isFull_0 ++ []
theorem dksX0_isFull_0 : cX0_isFull.data.toList.drop 0 = dktX0_isFull_0 := by decide +kernel
theorem dX0_isFull_0 : decode cX0_isFull 0 = .ok (.aload_n 0, 1) := dk_42 (dk_at dksX0_isFull_0 0 rfl rfl)
theorem dX0_isFull_1 : decode cX0_isFull 1 = .ok (.getfield 12, 3) := dk_180 0 12 (dk_at dksX0_isFull_0 1 rfl rfl)
theorem dX0_isFull_4 : decode cX0_isFull 4 = .ok (.invokeinterface 91 1, 5) := by decide +kernel
theorem dX0_isFull_9 : decode cX0_isFull 9 = .ok (.bipush 16, 2) := dk_16 16 (dk_at dksX0_isFull_0 9 rfl rfl)
theorem dX0_isFull_11 : decode cX0_isFull 11 = .ok (.if_icmp .ne 7, 3) := dk_160 0 7 (dk_at dksX0_isFull_0 11 rfl rfl)
theorem dX0_isFull_14 : decode cX0_isFull 14 = .ok (.iconst 1, 1) := dk_4 (dk_at dksX0_isFull_0 14 rfl rfl)
theorem dX0_isFull_15 : decode cX0_isFull 15 = .ok (.goto 4, 3) := dk_167 0 4 (dk_at dksX0_isFull_0 15 rfl rfl)
theorem dX0_isFull_18 : decode cX0_isFull 18 = .ok (.iconst 0, 1) := dk_3 (dk_at dksX0_isFull_0 18 rfl rfl)
theorem dX0_isFull_19 : decode cX0_isFull 19 = .ok (.ireturn, 1) := dk_172 (dk_at dksX0_isFull_0 19 rfl rfl)
abbrev cX0_add : ByteArray := prog_1_method_6_code
def yX0_add : MethodName := ⟨RX0, "add", "(LRoadHouses$Place;)I"⟩
def dkwX0_add_0 : List UInt8 := [42, 180, 0, 12, 43, 185, 0, 101, 2, 0, 87, 43, 180, 0, 105, 172]
abbrev dktX0_add_0 : List UInt8 := dkwX0_add_0 ++ []
theorem dksX0_add_0 : cX0_add.data.toList.drop 0 = dktX0_add_0 := by decide +kernel
theorem dX0_add_0 : decode cX0_add 0 = .ok (.aload_n 0, 1) := dk_42 (dk_at dksX0_add_0 0 rfl rfl)
theorem dX0_add_1 : decode cX0_add 1 = .ok (.getfield 12, 3) := dk_180 0 12 (dk_at dksX0_add_0 1 rfl rfl)
theorem dX0_add_4 : decode cX0_add 4 = .ok (.aload_n 1, 1) := dk_43 (dk_at dksX0_add_0 4 rfl rfl)
theorem dX0_add_5 : decode cX0_add 5 = .ok (.invokeinterface 101 2, 5) := by decide +kernel
theorem dX0_add_10 : decode cX0_add 10 = .ok (.pop, 1) := dk_87 (dk_at dksX0_add_0 10 rfl rfl)
theorem dX0_add_11 : decode cX0_add 11 = .ok (.aload_n 1, 1) := dk_43 (dk_at dksX0_add_0 11 rfl rfl)
theorem dX0_add_12 : decode cX0_add 12 = .ok (.getfield 105, 3) := dk_180 0 105 (dk_at dksX0_add_0 12 rfl rfl)
theorem dX0_add_15 : decode cX0_add 15 = .ok (.ireturn, 1) := dk_172 (dk_at dksX0_add_0 15 rfl rfl)
abbrev cX0_house : ByteArray := prog_1_method_10_code
def yX0_house : MethodName := ⟨RX0, "house", "(II)I"⟩
def dkwX0_house_1 : List UInt8 := [187, 0, 125, 89, 42, 180, 0, 12, 185, 0, 91, 1, 0, 27, 28, 183, 0, 127, 182, 0, 118, 172]
abbrev dktX0_house_1 : List UInt8 := dkwX0_house_1 ++ []
def dkwX0_house_0 : List UInt8 := [27, 28, 184, 0, 121, 154, 0, 5, 2, 172, 42, 182, 0, 111, 153, 0, 8, 16, 253, 167, 0, 25, 42]
abbrev dktX0_house_0 : List UInt8 := dkwX0_house_0 ++ dktX0_house_1
theorem dksX0_house_0 : cX0_house.data.toList.drop 0 = dktX0_house_0 := by decide +kernel
theorem dksX0_house_1 : cX0_house.data.toList.drop 23 = dktX0_house_1 := dk_seg dksX0_house_0 23 rfl rfl
theorem dX0_house_0 : decode cX0_house 0 = .ok (.iload_n 1, 1) := dk_27 (dk_at dksX0_house_0 0 rfl rfl)
theorem dX0_house_1 : decode cX0_house 1 = .ok (.iload_n 2, 1) := dk_28 (dk_at dksX0_house_0 1 rfl rfl)
theorem dX0_house_2 : decode cX0_house 2 = .ok (.invokestatic 121, 3) := dk_184 0 121 (dk_at dksX0_house_0 2 rfl rfl)
theorem dX0_house_5 : decode cX0_house 5 = .ok (.ifCond .ne 5, 3) := dk_154 0 5 (dk_at dksX0_house_0 5 rfl rfl)
theorem dX0_house_8 : decode cX0_house 8 = .ok (.iconst (-1), 1) := dk_2 (dk_at dksX0_house_0 8 rfl rfl)
theorem dX0_house_9 : decode cX0_house 9 = .ok (.ireturn, 1) := dk_172 (dk_at dksX0_house_0 9 rfl rfl)
theorem dX0_house_10 : decode cX0_house 10 = .ok (.aload_n 0, 1) := dk_42 (dk_at dksX0_house_0 10 rfl rfl)
theorem dX0_house_11 : decode cX0_house 11 = .ok (.invokevirtual 111, 3) := dk_182 0 111 (dk_at dksX0_house_0 11 rfl rfl)
theorem dX0_house_14 : decode cX0_house 14 = .ok (.ifCond .eq 8, 3) := dk_153 0 8 (dk_at dksX0_house_0 14 rfl rfl)
theorem dX0_house_17 : decode cX0_house 17 = .ok (.bipush (-3), 2) := dk_16 253 (dk_at dksX0_house_0 17 rfl rfl)
theorem dX0_house_19 : decode cX0_house 19 = .ok (.goto 25, 3) := dk_167 0 25 (dk_at dksX0_house_0 19 rfl rfl)
theorem dX0_house_22 : decode cX0_house 22 = .ok (.aload_n 0, 1) := dk_42 (dk_at dksX0_house_0 22 rfl rfl)
theorem dX0_house_23 : decode cX0_house 23 = .ok (.new 125, 3) := dk_187 0 125 (dk_at dksX0_house_1 0 rfl rfl)
theorem dX0_house_26 : decode cX0_house 26 = .ok (.dup, 1) := dk_89 (dk_at dksX0_house_1 3 rfl rfl)
theorem dX0_house_27 : decode cX0_house 27 = .ok (.aload_n 0, 1) := dk_42 (dk_at dksX0_house_1 4 rfl rfl)
theorem dX0_house_28 : decode cX0_house 28 = .ok (.getfield 12, 3) := dk_180 0 12 (dk_at dksX0_house_1 5 rfl rfl)
theorem dX0_house_31 : decode cX0_house 31 = .ok (.invokeinterface 91 1, 5) := by decide +kernel
theorem dX0_house_36 : decode cX0_house 36 = .ok (.iload_n 1, 1) := dk_27 (dk_at dksX0_house_1 13 rfl rfl)
theorem dX0_house_37 : decode cX0_house 37 = .ok (.iload_n 2, 1) := dk_28 (dk_at dksX0_house_1 14 rfl rfl)
theorem dX0_house_38 : decode cX0_house 38 = .ok (.invokespecial 127, 3) := dk_183 0 127 (dk_at dksX0_house_1 15 rfl rfl)
theorem dX0_house_41 : decode cX0_house 41 = .ok (.invokevirtual 118, 3) := dk_182 0 118 (dk_at dksX0_house_1 18 rfl rfl)
theorem dX0_house_44 : decode cX0_house 44 = .ok (.ireturn, 1) := dk_172 (dk_at dksX0_house_1 21 rfl rfl)
abbrev cX0_isHouse : ByteArray := prog_1_method_7_code
def yX0_isHouse : MethodName := ⟨RX0, "isHouse", "(II)Z"⟩
def dkwX0_isHouse_1 : List UInt8 := [172]
abbrev dktX0_isHouse_1 : List UInt8 := dkwX0_isHouse_1 ++ []
def dkwX0_isHouse_0 : List UInt8 := [26, 3, 6, 184, 0, 97, 153, 0, 17, 27, 3, 16, 9, 184, 0, 97, 153, 0, 7, 4, 167, 0, 4, 3]
abbrev dktX0_isHouse_0 : List UInt8 := dkwX0_isHouse_0 ++ dktX0_isHouse_1
theorem dksX0_isHouse_0 : cX0_isHouse.data.toList.drop 0 = dktX0_isHouse_0 := by decide +kernel
theorem dksX0_isHouse_1 : cX0_isHouse.data.toList.drop 24 = dktX0_isHouse_1 := dk_seg dksX0_isHouse_0 24 rfl rfl
theorem dX0_isHouse_0 : decode cX0_isHouse 0 = .ok (.iload_n 0, 1) := dk_26 (dk_at dksX0_isHouse_0 0 rfl rfl)
theorem dX0_isHouse_1 : decode cX0_isHouse 1 = .ok (.iconst 0, 1) := dk_3 (dk_at dksX0_isHouse_0 1 rfl rfl)
theorem dX0_isHouse_2 : decode cX0_isHouse 2 = .ok (.iconst 3, 1) := dk_6 (dk_at dksX0_isHouse_0 2 rfl rfl)
theorem dX0_isHouse_3 : decode cX0_isHouse 3 = .ok (.invokestatic 97, 3) := dk_184 0 97 (dk_at dksX0_isHouse_0 3 rfl rfl)
theorem dX0_isHouse_6 : decode cX0_isHouse 6 = .ok (.ifCond .eq 17, 3) := dk_153 0 17 (dk_at dksX0_isHouse_0 6 rfl rfl)
theorem dX0_isHouse_9 : decode cX0_isHouse 9 = .ok (.iload_n 1, 1) := dk_27 (dk_at dksX0_isHouse_0 9 rfl rfl)
theorem dX0_isHouse_10 : decode cX0_isHouse 10 = .ok (.iconst 0, 1) := dk_3 (dk_at dksX0_isHouse_0 10 rfl rfl)
theorem dX0_isHouse_11 : decode cX0_isHouse 11 = .ok (.bipush 9, 2) := dk_16 9 (dk_at dksX0_isHouse_0 11 rfl rfl)
theorem dX0_isHouse_13 : decode cX0_isHouse 13 = .ok (.invokestatic 97, 3) := dk_184 0 97 (dk_at dksX0_isHouse_0 13 rfl rfl)
theorem dX0_isHouse_16 : decode cX0_isHouse 16 = .ok (.ifCond .eq 7, 3) := dk_153 0 7 (dk_at dksX0_isHouse_0 16 rfl rfl)
theorem dX0_isHouse_19 : decode cX0_isHouse 19 = .ok (.iconst 1, 1) := dk_4 (dk_at dksX0_isHouse_0 19 rfl rfl)
theorem dX0_isHouse_20 : decode cX0_isHouse 20 = .ok (.goto 4, 3) := dk_167 0 4 (dk_at dksX0_isHouse_0 20 rfl rfl)
theorem dX0_isHouse_23 : decode cX0_isHouse 23 = .ok (.iconst 0, 1) := dk_3 (dk_at dksX0_isHouse_0 23 rfl rfl)
theorem dX0_isHouse_24 : decode cX0_isHouse 24 = .ok (.ireturn, 1) := dk_172 (dk_at dksX0_isHouse_1 0 rfl rfl)
abbrev cX0_store : ByteArray := prog_1_method_11_code
def yX0_store : MethodName := ⟨RX0, "store", "(IIII)I"⟩
def dkwX0_store_2 : List UInt8 := [89, 42, 180, 0, 12, 185, 0, 91, 1, 0, 27, 28, 29, 21, 4, 183, 0, 132, 182, 0, 118, 172]
abbrev dktX0_store_2 : List UInt8 := dkwX0_store_2 ++ []
def dkwX0_store_1 : List UInt8 := [184, 0, 97, 154, 0, 5, 2, 172, 42, 182, 0, 111, 153, 0, 8, 16, 253, 167, 0, 28, 42, 187, 0, 130]
abbrev dktX0_store_1 : List UInt8 := dkwX0_store_1 ++ dktX0_store_2
def dkwX0_store_0 : List UInt8 := [27, 28, 184, 0, 121, 153, 0, 24, 29, 4, 16, 9, 184, 0, 97, 153, 0, 14, 21, 4, 4, 16, 24]
abbrev dktX0_store_0 : List UInt8 := dkwX0_store_0 ++ dktX0_store_1
theorem dksX0_store_0 : cX0_store.data.toList.drop 0 = dktX0_store_0 := by decide +kernel
theorem dksX0_store_1 : cX0_store.data.toList.drop 23 = dktX0_store_1 := dk_seg dksX0_store_0 23 rfl rfl
theorem dksX0_store_2 : cX0_store.data.toList.drop 47 = dktX0_store_2 := dk_seg dksX0_store_1 24 rfl rfl
theorem dX0_store_0 : decode cX0_store 0 = .ok (.iload_n 1, 1) := dk_27 (dk_at dksX0_store_0 0 rfl rfl)
theorem dX0_store_1 : decode cX0_store 1 = .ok (.iload_n 2, 1) := dk_28 (dk_at dksX0_store_0 1 rfl rfl)
theorem dX0_store_2 : decode cX0_store 2 = .ok (.invokestatic 121, 3) := dk_184 0 121 (dk_at dksX0_store_0 2 rfl rfl)
theorem dX0_store_5 : decode cX0_store 5 = .ok (.ifCond .eq 24, 3) := dk_153 0 24 (dk_at dksX0_store_0 5 rfl rfl)
theorem dX0_store_8 : decode cX0_store 8 = .ok (.iload_n 3, 1) := dk_29 (dk_at dksX0_store_0 8 rfl rfl)
theorem dX0_store_9 : decode cX0_store 9 = .ok (.iconst 1, 1) := dk_4 (dk_at dksX0_store_0 9 rfl rfl)
theorem dX0_store_10 : decode cX0_store 10 = .ok (.bipush 9, 2) := dk_16 9 (dk_at dksX0_store_0 10 rfl rfl)
theorem dX0_store_12 : decode cX0_store 12 = .ok (.invokestatic 97, 3) := dk_184 0 97 (dk_at dksX0_store_0 12 rfl rfl)
theorem dX0_store_15 : decode cX0_store 15 = .ok (.ifCond .eq 14, 3) := dk_153 0 14 (dk_at dksX0_store_0 15 rfl rfl)
theorem dX0_store_18 : decode cX0_store 18 = .ok (.iload 4, 2) := dk_21 4 (dk_at dksX0_store_0 18 rfl rfl)
theorem dX0_store_20 : decode cX0_store 20 = .ok (.iconst 1, 1) := dk_4 (dk_at dksX0_store_0 20 rfl rfl)
theorem dX0_store_21 : decode cX0_store 21 = .ok (.bipush 24, 2) := dk_16 24 (dk_at dksX0_store_0 21 rfl rfl)
theorem dX0_store_23 : decode cX0_store 23 = .ok (.invokestatic 97, 3) := dk_184 0 97 (dk_at dksX0_store_1 0 rfl rfl)
theorem dX0_store_26 : decode cX0_store 26 = .ok (.ifCond .ne 5, 3) := dk_154 0 5 (dk_at dksX0_store_1 3 rfl rfl)
theorem dX0_store_29 : decode cX0_store 29 = .ok (.iconst (-1), 1) := dk_2 (dk_at dksX0_store_1 6 rfl rfl)
theorem dX0_store_30 : decode cX0_store 30 = .ok (.ireturn, 1) := dk_172 (dk_at dksX0_store_1 7 rfl rfl)
theorem dX0_store_31 : decode cX0_store 31 = .ok (.aload_n 0, 1) := dk_42 (dk_at dksX0_store_1 8 rfl rfl)
theorem dX0_store_32 : decode cX0_store 32 = .ok (.invokevirtual 111, 3) := dk_182 0 111 (dk_at dksX0_store_1 9 rfl rfl)
theorem dX0_store_35 : decode cX0_store 35 = .ok (.ifCond .eq 8, 3) := dk_153 0 8 (dk_at dksX0_store_1 12 rfl rfl)
theorem dX0_store_38 : decode cX0_store 38 = .ok (.bipush (-3), 2) := dk_16 253 (dk_at dksX0_store_1 15 rfl rfl)
theorem dX0_store_40 : decode cX0_store 40 = .ok (.goto 28, 3) := dk_167 0 28 (dk_at dksX0_store_1 17 rfl rfl)
theorem dX0_store_43 : decode cX0_store 43 = .ok (.aload_n 0, 1) := dk_42 (dk_at dksX0_store_1 20 rfl rfl)
theorem dX0_store_44 : decode cX0_store 44 = .ok (.new 130, 3) := dk_187 0 130 (dk_at dksX0_store_1 21 rfl rfl)
theorem dX0_store_47 : decode cX0_store 47 = .ok (.dup, 1) := dk_89 (dk_at dksX0_store_2 0 rfl rfl)
theorem dX0_store_48 : decode cX0_store 48 = .ok (.aload_n 0, 1) := dk_42 (dk_at dksX0_store_2 1 rfl rfl)
theorem dX0_store_49 : decode cX0_store 49 = .ok (.getfield 12, 3) := dk_180 0 12 (dk_at dksX0_store_2 2 rfl rfl)
theorem dX0_store_52 : decode cX0_store 52 = .ok (.invokeinterface 91 1, 5) := by decide +kernel
theorem dX0_store_57 : decode cX0_store 57 = .ok (.iload_n 1, 1) := dk_27 (dk_at dksX0_store_2 10 rfl rfl)
theorem dX0_store_58 : decode cX0_store 58 = .ok (.iload_n 2, 1) := dk_28 (dk_at dksX0_store_2 11 rfl rfl)
theorem dX0_store_59 : decode cX0_store 59 = .ok (.iload_n 3, 1) := dk_29 (dk_at dksX0_store_2 12 rfl rfl)
theorem dX0_store_60 : decode cX0_store 60 = .ok (.iload 4, 2) := dk_21 4 (dk_at dksX0_store_2 13 rfl rfl)
theorem dX0_store_62 : decode cX0_store 62 = .ok (.invokespecial 132, 3) := dk_183 0 132 (dk_at dksX0_store_2 15 rfl rfl)
theorem dX0_store_65 : decode cX0_store 65 = .ok (.invokevirtual 118, 3) := dk_182 0 118 (dk_at dksX0_store_2 18 rfl rfl)
theorem dX0_store_68 : decode cX0_store 68 = .ok (.ireturn, 1) := dk_172 (dk_at dksX0_store_2 21 rfl rfl)
abbrev cX0_crossing : ByteArray := prog_1_method_12_code
def yX0_crossing : MethodName := ⟨RX0, "crossing", "(II)I"⟩
def dkwX0_crossing_1 : List UInt8 := [187, 0, 135, 89, 42, 180, 0, 12, 185, 0, 91, 1, 0, 27, 28, 183, 0, 137, 182, 0, 118, 172]
abbrev dktX0_crossing_1 : List UInt8 := dkwX0_crossing_1 ++ []
def dkwX0_crossing_0 : List UInt8 := [27, 28, 184, 0, 121, 154, 0, 5, 2, 172, 42, 182, 0, 111, 153, 0, 8, 16, 253, 167, 0, 25, 42]
abbrev dktX0_crossing_0 : List UInt8 := dkwX0_crossing_0 ++ dktX0_crossing_1
theorem dksX0_crossing_0 : cX0_crossing.data.toList.drop 0 = dktX0_crossing_0 := by decide +kernel
theorem dksX0_crossing_1 : cX0_crossing.data.toList.drop 23 = dktX0_crossing_1 := dk_seg dksX0_crossing_0 23 rfl rfl
theorem dX0_crossing_0 : decode cX0_crossing 0 = .ok (.iload_n 1, 1) := dk_27 (dk_at dksX0_crossing_0 0 rfl rfl)
theorem dX0_crossing_1 : decode cX0_crossing 1 = .ok (.iload_n 2, 1) := dk_28 (dk_at dksX0_crossing_0 1 rfl rfl)
theorem dX0_crossing_2 : decode cX0_crossing 2 = .ok (.invokestatic 121, 3) := dk_184 0 121 (dk_at dksX0_crossing_0 2 rfl rfl)
theorem dX0_crossing_5 : decode cX0_crossing 5 = .ok (.ifCond .ne 5, 3) := dk_154 0 5 (dk_at dksX0_crossing_0 5 rfl rfl)
theorem dX0_crossing_8 : decode cX0_crossing 8 = .ok (.iconst (-1), 1) := dk_2 (dk_at dksX0_crossing_0 8 rfl rfl)
theorem dX0_crossing_9 : decode cX0_crossing 9 = .ok (.ireturn, 1) := dk_172 (dk_at dksX0_crossing_0 9 rfl rfl)
theorem dX0_crossing_10 : decode cX0_crossing 10 = .ok (.aload_n 0, 1) := dk_42 (dk_at dksX0_crossing_0 10 rfl rfl)
theorem dX0_crossing_11 : decode cX0_crossing 11 = .ok (.invokevirtual 111, 3) := dk_182 0 111 (dk_at dksX0_crossing_0 11 rfl rfl)
theorem dX0_crossing_14 : decode cX0_crossing 14 = .ok (.ifCond .eq 8, 3) := dk_153 0 8 (dk_at dksX0_crossing_0 14 rfl rfl)
theorem dX0_crossing_17 : decode cX0_crossing 17 = .ok (.bipush (-3), 2) := dk_16 253 (dk_at dksX0_crossing_0 17 rfl rfl)
theorem dX0_crossing_19 : decode cX0_crossing 19 = .ok (.goto 25, 3) := dk_167 0 25 (dk_at dksX0_crossing_0 19 rfl rfl)
theorem dX0_crossing_22 : decode cX0_crossing 22 = .ok (.aload_n 0, 1) := dk_42 (dk_at dksX0_crossing_0 22 rfl rfl)
theorem dX0_crossing_23 : decode cX0_crossing 23 = .ok (.new 135, 3) := dk_187 0 135 (dk_at dksX0_crossing_1 0 rfl rfl)
theorem dX0_crossing_26 : decode cX0_crossing 26 = .ok (.dup, 1) := dk_89 (dk_at dksX0_crossing_1 3 rfl rfl)
theorem dX0_crossing_27 : decode cX0_crossing 27 = .ok (.aload_n 0, 1) := dk_42 (dk_at dksX0_crossing_1 4 rfl rfl)
theorem dX0_crossing_28 : decode cX0_crossing 28 = .ok (.getfield 12, 3) := dk_180 0 12 (dk_at dksX0_crossing_1 5 rfl rfl)
theorem dX0_crossing_31 : decode cX0_crossing 31 = .ok (.invokeinterface 91 1, 5) := by decide +kernel
theorem dX0_crossing_36 : decode cX0_crossing 36 = .ok (.iload_n 1, 1) := dk_27 (dk_at dksX0_crossing_1 13 rfl rfl)
theorem dX0_crossing_37 : decode cX0_crossing 37 = .ok (.iload_n 2, 1) := dk_28 (dk_at dksX0_crossing_1 14 rfl rfl)
theorem dX0_crossing_38 : decode cX0_crossing 38 = .ok (.invokespecial 137, 3) := dk_183 0 137 (dk_at dksX0_crossing_1 15 rfl rfl)
theorem dX0_crossing_41 : decode cX0_crossing 41 = .ok (.invokevirtual 118, 3) := dk_182 0 118 (dk_at dksX0_crossing_1 18 rfl rfl)
theorem dX0_crossing_44 : decode cX0_crossing 44 = .ok (.ireturn, 1) := dk_172 (dk_at dksX0_crossing_1 21 rfl rfl)
abbrev cX0_town : ByteArray := prog_1_method_13_code
def yX0_town : MethodName := ⟨RX0, "town", "(III)I"⟩
def dkwX0_town_2 : List UInt8 := [29, 183, 0, 140, 182, 0, 118, 172]
abbrev dktX0_town_2 : List UInt8 := dkwX0_town_2 ++ []
def dkwX0_town_1 : List UInt8 := [153, 0, 8, 16, 253, 167, 0, 26, 42, 187, 0, 138, 89, 42, 180, 0, 12, 185, 0, 91, 1, 0, 27, 28]
abbrev dktX0_town_1 : List UInt8 := dkwX0_town_1 ++ dktX0_town_2
def dkwX0_town_0 : List UInt8 := [27, 28, 184, 0, 121, 153, 0, 13, 29, 4, 16, 9, 184, 0, 97, 154, 0, 5, 2, 172, 42, 182, 0, 111]
abbrev dktX0_town_0 : List UInt8 := dkwX0_town_0 ++ dktX0_town_1
theorem dksX0_town_0 : cX0_town.data.toList.drop 0 = dktX0_town_0 := by decide +kernel
theorem dksX0_town_1 : cX0_town.data.toList.drop 24 = dktX0_town_1 := dk_seg dksX0_town_0 24 rfl rfl
theorem dksX0_town_2 : cX0_town.data.toList.drop 48 = dktX0_town_2 := dk_seg dksX0_town_1 24 rfl rfl
theorem dX0_town_0 : decode cX0_town 0 = .ok (.iload_n 1, 1) := dk_27 (dk_at dksX0_town_0 0 rfl rfl)
theorem dX0_town_1 : decode cX0_town 1 = .ok (.iload_n 2, 1) := dk_28 (dk_at dksX0_town_0 1 rfl rfl)
theorem dX0_town_2 : decode cX0_town 2 = .ok (.invokestatic 121, 3) := dk_184 0 121 (dk_at dksX0_town_0 2 rfl rfl)
theorem dX0_town_5 : decode cX0_town 5 = .ok (.ifCond .eq 13, 3) := dk_153 0 13 (dk_at dksX0_town_0 5 rfl rfl)
theorem dX0_town_8 : decode cX0_town 8 = .ok (.iload_n 3, 1) := dk_29 (dk_at dksX0_town_0 8 rfl rfl)
theorem dX0_town_9 : decode cX0_town 9 = .ok (.iconst 1, 1) := dk_4 (dk_at dksX0_town_0 9 rfl rfl)
theorem dX0_town_10 : decode cX0_town 10 = .ok (.bipush 9, 2) := dk_16 9 (dk_at dksX0_town_0 10 rfl rfl)
theorem dX0_town_12 : decode cX0_town 12 = .ok (.invokestatic 97, 3) := dk_184 0 97 (dk_at dksX0_town_0 12 rfl rfl)
theorem dX0_town_15 : decode cX0_town 15 = .ok (.ifCond .ne 5, 3) := dk_154 0 5 (dk_at dksX0_town_0 15 rfl rfl)
theorem dX0_town_18 : decode cX0_town 18 = .ok (.iconst (-1), 1) := dk_2 (dk_at dksX0_town_0 18 rfl rfl)
theorem dX0_town_19 : decode cX0_town 19 = .ok (.ireturn, 1) := dk_172 (dk_at dksX0_town_0 19 rfl rfl)
theorem dX0_town_20 : decode cX0_town 20 = .ok (.aload_n 0, 1) := dk_42 (dk_at dksX0_town_0 20 rfl rfl)
theorem dX0_town_21 : decode cX0_town 21 = .ok (.invokevirtual 111, 3) := dk_182 0 111 (dk_at dksX0_town_0 21 rfl rfl)
theorem dX0_town_24 : decode cX0_town 24 = .ok (.ifCond .eq 8, 3) := dk_153 0 8 (dk_at dksX0_town_1 0 rfl rfl)
theorem dX0_town_27 : decode cX0_town 27 = .ok (.bipush (-3), 2) := dk_16 253 (dk_at dksX0_town_1 3 rfl rfl)
theorem dX0_town_29 : decode cX0_town 29 = .ok (.goto 26, 3) := dk_167 0 26 (dk_at dksX0_town_1 5 rfl rfl)
theorem dX0_town_32 : decode cX0_town 32 = .ok (.aload_n 0, 1) := dk_42 (dk_at dksX0_town_1 8 rfl rfl)
theorem dX0_town_33 : decode cX0_town 33 = .ok (.new 138, 3) := dk_187 0 138 (dk_at dksX0_town_1 9 rfl rfl)
theorem dX0_town_36 : decode cX0_town 36 = .ok (.dup, 1) := dk_89 (dk_at dksX0_town_1 12 rfl rfl)
theorem dX0_town_37 : decode cX0_town 37 = .ok (.aload_n 0, 1) := dk_42 (dk_at dksX0_town_1 13 rfl rfl)
theorem dX0_town_38 : decode cX0_town 38 = .ok (.getfield 12, 3) := dk_180 0 12 (dk_at dksX0_town_1 14 rfl rfl)
theorem dX0_town_41 : decode cX0_town 41 = .ok (.invokeinterface 91 1, 5) := by decide +kernel
theorem dX0_town_46 : decode cX0_town 46 = .ok (.iload_n 1, 1) := dk_27 (dk_at dksX0_town_1 22 rfl rfl)
theorem dX0_town_47 : decode cX0_town 47 = .ok (.iload_n 2, 1) := dk_28 (dk_at dksX0_town_1 23 rfl rfl)
theorem dX0_town_48 : decode cX0_town 48 = .ok (.iload_n 3, 1) := dk_29 (dk_at dksX0_town_2 0 rfl rfl)
theorem dX0_town_49 : decode cX0_town 49 = .ok (.invokespecial 140, 3) := dk_183 0 140 (dk_at dksX0_town_2 1 rfl rfl)
theorem dX0_town_52 : decode cX0_town 52 = .ok (.invokevirtual 118, 3) := dk_182 0 118 (dk_at dksX0_town_2 4 rfl rfl)
theorem dX0_town_55 : decode cX0_town 55 = .ok (.ireturn, 1) := dk_172 (dk_at dksX0_town_2 7 rfl rfl)
abbrev cX0_way : ByteArray := prog_1_method_14_code
def yX0_way : MethodName := ⟨RX0, "way", "(III)I"⟩
def dkwX0_way_2 : List UInt8 := [27, 50, 28, 29, 79, 42, 180, 0, 18, 28, 50, 27, 29, 79, 21, 4, 172]
abbrev dktX0_way_2 : List UInt8 := dkwX0_way_2 ++ []
def dkwX0_way_1 : List UInt8 := [16, 24, 184, 0, 97, 154, 0, 5, 2, 172, 42, 180, 0, 18, 27, 50, 28, 46, 54, 4, 42, 180, 0, 18]
abbrev dktX0_way_1 : List UInt8 := dkwX0_way_1 ++ dktX0_way_2
def dkwX0_way_0 : List UInt8 := [42, 27, 182, 0, 143, 153, 0, 26, 42, 28, 182, 0, 143, 153, 0, 18, 27, 28, 159, 0, 13, 29, 3]
abbrev dktX0_way_0 : List UInt8 := dkwX0_way_0 ++ dktX0_way_1
theorem dksX0_way_0 : cX0_way.data.toList.drop 0 = dktX0_way_0 := by decide +kernel
theorem dksX0_way_1 : cX0_way.data.toList.drop 23 = dktX0_way_1 := dk_seg dksX0_way_0 23 rfl rfl
theorem dksX0_way_2 : cX0_way.data.toList.drop 47 = dktX0_way_2 := dk_seg dksX0_way_1 24 rfl rfl
theorem dX0_way_0 : decode cX0_way 0 = .ok (.aload_n 0, 1) := dk_42 (dk_at dksX0_way_0 0 rfl rfl)
theorem dX0_way_1 : decode cX0_way 1 = .ok (.iload_n 1, 1) := dk_27 (dk_at dksX0_way_0 1 rfl rfl)
theorem dX0_way_2 : decode cX0_way 2 = .ok (.invokevirtual 143, 3) := dk_182 0 143 (dk_at dksX0_way_0 2 rfl rfl)
theorem dX0_way_5 : decode cX0_way 5 = .ok (.ifCond .eq 26, 3) := dk_153 0 26 (dk_at dksX0_way_0 5 rfl rfl)
theorem dX0_way_8 : decode cX0_way 8 = .ok (.aload_n 0, 1) := dk_42 (dk_at dksX0_way_0 8 rfl rfl)
theorem dX0_way_9 : decode cX0_way 9 = .ok (.iload_n 2, 1) := dk_28 (dk_at dksX0_way_0 9 rfl rfl)
theorem dX0_way_10 : decode cX0_way 10 = .ok (.invokevirtual 143, 3) := dk_182 0 143 (dk_at dksX0_way_0 10 rfl rfl)
theorem dX0_way_13 : decode cX0_way 13 = .ok (.ifCond .eq 18, 3) := dk_153 0 18 (dk_at dksX0_way_0 13 rfl rfl)
theorem dX0_way_16 : decode cX0_way 16 = .ok (.iload_n 1, 1) := dk_27 (dk_at dksX0_way_0 16 rfl rfl)
theorem dX0_way_17 : decode cX0_way 17 = .ok (.iload_n 2, 1) := dk_28 (dk_at dksX0_way_0 17 rfl rfl)
theorem dX0_way_18 : decode cX0_way 18 = .ok (.if_icmp .eq 13, 3) := dk_159 0 13 (dk_at dksX0_way_0 18 rfl rfl)
theorem dX0_way_21 : decode cX0_way 21 = .ok (.iload_n 3, 1) := dk_29 (dk_at dksX0_way_0 21 rfl rfl)
theorem dX0_way_22 : decode cX0_way 22 = .ok (.iconst 0, 1) := dk_3 (dk_at dksX0_way_0 22 rfl rfl)
theorem dX0_way_23 : decode cX0_way 23 = .ok (.bipush 24, 2) := dk_16 24 (dk_at dksX0_way_1 0 rfl rfl)
theorem dX0_way_25 : decode cX0_way 25 = .ok (.invokestatic 97, 3) := dk_184 0 97 (dk_at dksX0_way_1 2 rfl rfl)
theorem dX0_way_28 : decode cX0_way 28 = .ok (.ifCond .ne 5, 3) := dk_154 0 5 (dk_at dksX0_way_1 5 rfl rfl)
theorem dX0_way_31 : decode cX0_way 31 = .ok (.iconst (-1), 1) := dk_2 (dk_at dksX0_way_1 8 rfl rfl)
theorem dX0_way_32 : decode cX0_way 32 = .ok (.ireturn, 1) := dk_172 (dk_at dksX0_way_1 9 rfl rfl)
theorem dX0_way_33 : decode cX0_way 33 = .ok (.aload_n 0, 1) := dk_42 (dk_at dksX0_way_1 10 rfl rfl)
theorem dX0_way_34 : decode cX0_way 34 = .ok (.getfield 18, 3) := dk_180 0 18 (dk_at dksX0_way_1 11 rfl rfl)
theorem dX0_way_37 : decode cX0_way 37 = .ok (.iload_n 1, 1) := dk_27 (dk_at dksX0_way_1 14 rfl rfl)
theorem dX0_way_38 : decode cX0_way 38 = .ok (.aaload, 1) := dk_50 (dk_at dksX0_way_1 15 rfl rfl)
theorem dX0_way_39 : decode cX0_way 39 = .ok (.iload_n 2, 1) := dk_28 (dk_at dksX0_way_1 16 rfl rfl)
theorem dX0_way_40 : decode cX0_way 40 = .ok (.iaload, 1) := dk_46 (dk_at dksX0_way_1 17 rfl rfl)
theorem dX0_way_41 : decode cX0_way 41 = .ok (.istore 4, 2) := dk_54 4 (dk_at dksX0_way_1 18 rfl rfl)
theorem dX0_way_43 : decode cX0_way 43 = .ok (.aload_n 0, 1) := dk_42 (dk_at dksX0_way_1 20 rfl rfl)
theorem dX0_way_44 : decode cX0_way 44 = .ok (.getfield 18, 3) := dk_180 0 18 (dk_at dksX0_way_1 21 rfl rfl)
theorem dX0_way_47 : decode cX0_way 47 = .ok (.iload_n 1, 1) := dk_27 (dk_at dksX0_way_2 0 rfl rfl)
theorem dX0_way_48 : decode cX0_way 48 = .ok (.aaload, 1) := dk_50 (dk_at dksX0_way_2 1 rfl rfl)
theorem dX0_way_49 : decode cX0_way 49 = .ok (.iload_n 2, 1) := dk_28 (dk_at dksX0_way_2 2 rfl rfl)
theorem dX0_way_50 : decode cX0_way 50 = .ok (.iload_n 3, 1) := dk_29 (dk_at dksX0_way_2 3 rfl rfl)
theorem dX0_way_51 : decode cX0_way 51 = .ok (.iastore, 1) := dk_79 (dk_at dksX0_way_2 4 rfl rfl)
theorem dX0_way_52 : decode cX0_way 52 = .ok (.aload_n 0, 1) := dk_42 (dk_at dksX0_way_2 5 rfl rfl)
theorem dX0_way_53 : decode cX0_way 53 = .ok (.getfield 18, 3) := dk_180 0 18 (dk_at dksX0_way_2 6 rfl rfl)
theorem dX0_way_56 : decode cX0_way 56 = .ok (.iload_n 2, 1) := dk_28 (dk_at dksX0_way_2 9 rfl rfl)
theorem dX0_way_57 : decode cX0_way 57 = .ok (.aaload, 1) := dk_50 (dk_at dksX0_way_2 10 rfl rfl)
theorem dX0_way_58 : decode cX0_way 58 = .ok (.iload_n 1, 1) := dk_27 (dk_at dksX0_way_2 11 rfl rfl)
theorem dX0_way_59 : decode cX0_way 59 = .ok (.iload_n 3, 1) := dk_29 (dk_at dksX0_way_2 12 rfl rfl)
theorem dX0_way_60 : decode cX0_way 60 = .ok (.iastore, 1) := dk_79 (dk_at dksX0_way_2 13 rfl rfl)
theorem dX0_way_61 : decode cX0_way 61 = .ok (.iload 4, 2) := dk_21 4 (dk_at dksX0_way_2 14 rfl rfl)
theorem dX0_way_63 : decode cX0_way 63 = .ok (.ireturn, 1) := dk_172 (dk_at dksX0_way_2 16 rfl rfl)
abbrev cX0_isPlace : ByteArray := prog_1_method_5_code
def yX0_isPlace : MethodName := ⟨RX0, "isPlace", "(I)Z"⟩
def dkwX0_isPlace_0 : List UInt8 := [27, 3, 42, 180, 0, 12, 185, 0, 91, 1, 0, 4, 100, 184, 0, 97, 172]
abbrev dktX0_isPlace_0 : List UInt8 := dkwX0_isPlace_0 ++ []
theorem dksX0_isPlace_0 : cX0_isPlace.data.toList.drop 0 = dktX0_isPlace_0 := by decide +kernel
theorem dX0_isPlace_0 : decode cX0_isPlace 0 = .ok (.iload_n 1, 1) := dk_27 (dk_at dksX0_isPlace_0 0 rfl rfl)
theorem dX0_isPlace_1 : decode cX0_isPlace 1 = .ok (.iconst 0, 1) := dk_3 (dk_at dksX0_isPlace_0 1 rfl rfl)
theorem dX0_isPlace_2 : decode cX0_isPlace 2 = .ok (.aload_n 0, 1) := dk_42 (dk_at dksX0_isPlace_0 2 rfl rfl)
theorem dX0_isPlace_3 : decode cX0_isPlace 3 = .ok (.getfield 12, 3) := dk_180 0 12 (dk_at dksX0_isPlace_0 3 rfl rfl)
theorem dX0_isPlace_6 : decode cX0_isPlace 6 = .ok (.invokeinterface 91 1, 5) := by decide +kernel
theorem dX0_isPlace_11 : decode cX0_isPlace 11 = .ok (.iconst 1, 1) := dk_4 (dk_at dksX0_isPlace_0 11 rfl rfl)
theorem dX0_isPlace_12 : decode cX0_isPlace 12 = .ok (.isub, 1) := dk_100 (dk_at dksX0_isPlace_0 12 rfl rfl)
theorem dX0_isPlace_13 : decode cX0_isPlace 13 = .ok (.invokestatic 97, 3) := dk_184 0 97 (dk_at dksX0_isPlace_0 13 rfl rfl)
theorem dX0_isPlace_16 : decode cX0_isPlace 16 = .ok (.ireturn, 1) := dk_172 (dk_at dksX0_isPlace_0 16 rfl rfl)
abbrev cX0_far : ByteArray := prog_1_method_16_code
def yX0_far : MethodName := ⟨RX0, "far", "(II)I"⟩
def dkwX0_far_1 : List UInt8 := [180, 0, 21, 28, 46, 18, 147, 160, 0, 8, 16, 252, 167, 0, 9, 42, 180, 0, 21, 28, 46, 172]
abbrev dktX0_far_1 : List UInt8 := dkwX0_far_1 ++ []
def dkwX0_far_0 : List UInt8 := [42, 27, 182, 0, 143, 153, 0, 11, 42, 28, 182, 0, 143, 154, 0, 5, 2, 172, 42, 27, 182, 0, 148, 42]
abbrev dktX0_far_0 : List UInt8 := dkwX0_far_0 ++ dktX0_far_1
theorem dksX0_far_0 : cX0_far.data.toList.drop 0 = dktX0_far_0 := by decide +kernel
theorem dksX0_far_1 : cX0_far.data.toList.drop 24 = dktX0_far_1 := dk_seg dksX0_far_0 24 rfl rfl
theorem dX0_far_0 : decode cX0_far 0 = .ok (.aload_n 0, 1) := dk_42 (dk_at dksX0_far_0 0 rfl rfl)
theorem dX0_far_1 : decode cX0_far 1 = .ok (.iload_n 1, 1) := dk_27 (dk_at dksX0_far_0 1 rfl rfl)
theorem dX0_far_2 : decode cX0_far 2 = .ok (.invokevirtual 143, 3) := dk_182 0 143 (dk_at dksX0_far_0 2 rfl rfl)
theorem dX0_far_5 : decode cX0_far 5 = .ok (.ifCond .eq 11, 3) := dk_153 0 11 (dk_at dksX0_far_0 5 rfl rfl)
theorem dX0_far_8 : decode cX0_far 8 = .ok (.aload_n 0, 1) := dk_42 (dk_at dksX0_far_0 8 rfl rfl)
theorem dX0_far_9 : decode cX0_far 9 = .ok (.iload_n 2, 1) := dk_28 (dk_at dksX0_far_0 9 rfl rfl)
theorem dX0_far_10 : decode cX0_far 10 = .ok (.invokevirtual 143, 3) := dk_182 0 143 (dk_at dksX0_far_0 10 rfl rfl)
theorem dX0_far_13 : decode cX0_far 13 = .ok (.ifCond .ne 5, 3) := dk_154 0 5 (dk_at dksX0_far_0 13 rfl rfl)
theorem dX0_far_16 : decode cX0_far 16 = .ok (.iconst (-1), 1) := dk_2 (dk_at dksX0_far_0 16 rfl rfl)
theorem dX0_far_17 : decode cX0_far 17 = .ok (.ireturn, 1) := dk_172 (dk_at dksX0_far_0 17 rfl rfl)
theorem dX0_far_18 : decode cX0_far 18 = .ok (.aload_n 0, 1) := dk_42 (dk_at dksX0_far_0 18 rfl rfl)
theorem dX0_far_19 : decode cX0_far 19 = .ok (.iload_n 1, 1) := dk_27 (dk_at dksX0_far_0 19 rfl rfl)
theorem dX0_far_20 : decode cX0_far 20 = .ok (.invokevirtual 148, 3) := dk_182 0 148 (dk_at dksX0_far_0 20 rfl rfl)
theorem dX0_far_23 : decode cX0_far 23 = .ok (.aload_n 0, 1) := dk_42 (dk_at dksX0_far_0 23 rfl rfl)
theorem dX0_far_24 : decode cX0_far 24 = .ok (.getfield 21, 3) := dk_180 0 21 (dk_at dksX0_far_1 0 rfl rfl)
theorem dX0_far_27 : decode cX0_far 27 = .ok (.iload_n 2, 1) := dk_28 (dk_at dksX0_far_1 3 rfl rfl)
theorem dX0_far_28 : decode cX0_far 28 = .ok (.iaload, 1) := dk_46 (dk_at dksX0_far_1 4 rfl rfl)
theorem dX0_far_29 : decode cX0_far 29 = .ok (.ldc 147, 2) := dk_18 147 (dk_at dksX0_far_1 5 rfl rfl)
theorem dX0_far_31 : decode cX0_far 31 = .ok (.if_icmp .ne 8, 3) := dk_160 0 8 (dk_at dksX0_far_1 7 rfl rfl)
theorem dX0_far_34 : decode cX0_far 34 = .ok (.bipush (-4), 2) := dk_16 252 (dk_at dksX0_far_1 10 rfl rfl)
theorem dX0_far_36 : decode cX0_far 36 = .ok (.goto 9, 3) := dk_167 0 9 (dk_at dksX0_far_1 12 rfl rfl)
theorem dX0_far_39 : decode cX0_far 39 = .ok (.aload_n 0, 1) := dk_42 (dk_at dksX0_far_1 15 rfl rfl)
theorem dX0_far_40 : decode cX0_far 40 = .ok (.getfield 21, 3) := dk_180 0 21 (dk_at dksX0_far_1 16 rfl rfl)
theorem dX0_far_43 : decode cX0_far 43 = .ok (.iload_n 2, 1) := dk_28 (dk_at dksX0_far_1 19 rfl rfl)
theorem dX0_far_44 : decode cX0_far 44 = .ok (.iaload, 1) := dk_46 (dk_at dksX0_far_1 20 rfl rfl)
theorem dX0_far_45 : decode cX0_far 45 = .ok (.ireturn, 1) := dk_172 (dk_at dksX0_far_1 21 rfl rfl)
abbrev cX0_findFar : ByteArray := prog_1_method_15_code
def yX0_findFar : MethodName := ⟨RX0, "findFar", "(I)V"⟩
def dkwX0_findFar_6 : List UInt8 := [167, 255, 176, 132, 3, 1, 167, 255, 154, 167, 255, 143, 177]
abbrev dktX0_findFar_6 : List UInt8 := dkwX0_findFar_6 ++ []
def dkwX0_findFar_5 : List UInt8 := [21, 4, 42, 180, 0, 21, 29, 46, 42, 180, 0, 18, 29, 50, 21, 4, 46, 96, 79, 4, 61, 132, 4, 1]
abbrev dktX0_findFar_5 : List UInt8 := dkwX0_findFar_5 ++ dktX0_findFar_6
def dkwX0_findFar_4 : List UInt8 := [180, 0, 18, 29, 50, 21, 4, 46, 96, 42, 180, 0, 21, 21, 4, 46, 162, 0, 28, 42, 180, 0, 21]
abbrev dktX0_findFar_4 : List UInt8 := dkwX0_findFar_4 ++ dktX0_findFar_5
def dkwX0_findFar_3 : List UInt8 := [162, 0, 72, 42, 180, 0, 18, 29, 50, 21, 4, 46, 158, 0, 54, 42, 180, 0, 21, 29, 46, 42]
abbrev dktX0_findFar_3 : List UInt8 := dkwX0_findFar_3 ++ dktX0_findFar_4
def dkwX0_findFar_2 : List UInt8 := [185, 0, 91, 1, 0, 162, 0, 95, 3, 54, 4, 21, 4, 42, 180, 0, 12, 185, 0, 91, 1, 0]
abbrev dktX0_findFar_2 : List UInt8 := dkwX0_findFar_2 ++ dktX0_findFar_3
def dkwX0_findFar_1 : List UInt8 := [79, 132, 2, 1, 167, 255, 230, 4, 61, 28, 153, 0, 115, 3, 61, 3, 62, 29, 42, 180, 0, 12]
abbrev dktX0_findFar_1 : List UInt8 := dkwX0_findFar_1 ++ dktX0_findFar_2
def dkwX0_findFar_0 : List UInt8 := [3, 61, 28, 16, 16, 162, 0, 26, 42, 180, 0, 21, 28, 28, 27, 160, 0, 7, 3, 167, 0, 5, 18, 147]
abbrev dktX0_findFar_0 : List UInt8 := dkwX0_findFar_0 ++ dktX0_findFar_1
theorem dksX0_findFar_0 : cX0_findFar.data.toList.drop 0 = dktX0_findFar_0 := by decide +kernel
theorem dksX0_findFar_1 : cX0_findFar.data.toList.drop 24 = dktX0_findFar_1 := dk_seg dksX0_findFar_0 24 rfl rfl
theorem dksX0_findFar_2 : cX0_findFar.data.toList.drop 46 = dktX0_findFar_2 := dk_seg dksX0_findFar_1 22 rfl rfl
theorem dksX0_findFar_3 : cX0_findFar.data.toList.drop 68 = dktX0_findFar_3 := dk_seg dksX0_findFar_2 22 rfl rfl
theorem dksX0_findFar_4 : cX0_findFar.data.toList.drop 90 = dktX0_findFar_4 := dk_seg dksX0_findFar_3 22 rfl rfl
theorem dksX0_findFar_5 : cX0_findFar.data.toList.drop 113 = dktX0_findFar_5 := dk_seg dksX0_findFar_4 23 rfl rfl
theorem dksX0_findFar_6 : cX0_findFar.data.toList.drop 137 = dktX0_findFar_6 := dk_seg dksX0_findFar_5 24 rfl rfl
theorem dX0_findFar_0 : decode cX0_findFar 0 = .ok (.iconst 0, 1) := dk_3 (dk_at dksX0_findFar_0 0 rfl rfl)
theorem dX0_findFar_1 : decode cX0_findFar 1 = .ok (.istore_n 2, 1) := dk_61 (dk_at dksX0_findFar_0 1 rfl rfl)
theorem dX0_findFar_2 : decode cX0_findFar 2 = .ok (.iload_n 2, 1) := dk_28 (dk_at dksX0_findFar_0 2 rfl rfl)
theorem dX0_findFar_3 : decode cX0_findFar 3 = .ok (.bipush 16, 2) := dk_16 16 (dk_at dksX0_findFar_0 3 rfl rfl)
theorem dX0_findFar_5 : decode cX0_findFar 5 = .ok (.if_icmp .ge 26, 3) := dk_162 0 26 (dk_at dksX0_findFar_0 5 rfl rfl)
theorem dX0_findFar_8 : decode cX0_findFar 8 = .ok (.aload_n 0, 1) := dk_42 (dk_at dksX0_findFar_0 8 rfl rfl)
theorem dX0_findFar_9 : decode cX0_findFar 9 = .ok (.getfield 21, 3) := dk_180 0 21 (dk_at dksX0_findFar_0 9 rfl rfl)
theorem dX0_findFar_12 : decode cX0_findFar 12 = .ok (.iload_n 2, 1) := dk_28 (dk_at dksX0_findFar_0 12 rfl rfl)
theorem dX0_findFar_13 : decode cX0_findFar 13 = .ok (.iload_n 2, 1) := dk_28 (dk_at dksX0_findFar_0 13 rfl rfl)
theorem dX0_findFar_14 : decode cX0_findFar 14 = .ok (.iload_n 1, 1) := dk_27 (dk_at dksX0_findFar_0 14 rfl rfl)
theorem dX0_findFar_15 : decode cX0_findFar 15 = .ok (.if_icmp .ne 7, 3) := dk_160 0 7 (dk_at dksX0_findFar_0 15 rfl rfl)
theorem dX0_findFar_18 : decode cX0_findFar 18 = .ok (.iconst 0, 1) := dk_3 (dk_at dksX0_findFar_0 18 rfl rfl)
theorem dX0_findFar_19 : decode cX0_findFar 19 = .ok (.goto 5, 3) := dk_167 0 5 (dk_at dksX0_findFar_0 19 rfl rfl)
theorem dX0_findFar_22 : decode cX0_findFar 22 = .ok (.ldc 147, 2) := dk_18 147 (dk_at dksX0_findFar_0 22 rfl rfl)
theorem dX0_findFar_24 : decode cX0_findFar 24 = .ok (.iastore, 1) := dk_79 (dk_at dksX0_findFar_1 0 rfl rfl)
theorem dX0_findFar_25 : decode cX0_findFar 25 = .ok (.iinc 2 1, 3) := dk_132 2 1 (dk_at dksX0_findFar_1 1 rfl rfl)
theorem dX0_findFar_28 : decode cX0_findFar 28 = .ok (.goto (-26), 3) := dk_167 255 230 (dk_at dksX0_findFar_1 4 rfl rfl)
theorem dX0_findFar_31 : decode cX0_findFar 31 = .ok (.iconst 1, 1) := dk_4 (dk_at dksX0_findFar_1 7 rfl rfl)
theorem dX0_findFar_32 : decode cX0_findFar 32 = .ok (.istore_n 2, 1) := dk_61 (dk_at dksX0_findFar_1 8 rfl rfl)
theorem dX0_findFar_33 : decode cX0_findFar 33 = .ok (.iload_n 2, 1) := dk_28 (dk_at dksX0_findFar_1 9 rfl rfl)
theorem dX0_findFar_34 : decode cX0_findFar 34 = .ok (.ifCond .eq 115, 3) := dk_153 0 115 (dk_at dksX0_findFar_1 10 rfl rfl)
theorem dX0_findFar_37 : decode cX0_findFar 37 = .ok (.iconst 0, 1) := dk_3 (dk_at dksX0_findFar_1 13 rfl rfl)
theorem dX0_findFar_38 : decode cX0_findFar 38 = .ok (.istore_n 2, 1) := dk_61 (dk_at dksX0_findFar_1 14 rfl rfl)
theorem dX0_findFar_39 : decode cX0_findFar 39 = .ok (.iconst 0, 1) := dk_3 (dk_at dksX0_findFar_1 15 rfl rfl)
theorem dX0_findFar_40 : decode cX0_findFar 40 = .ok (.istore_n 3, 1) := dk_62 (dk_at dksX0_findFar_1 16 rfl rfl)
theorem dX0_findFar_41 : decode cX0_findFar 41 = .ok (.iload_n 3, 1) := dk_29 (dk_at dksX0_findFar_1 17 rfl rfl)
theorem dX0_findFar_42 : decode cX0_findFar 42 = .ok (.aload_n 0, 1) := dk_42 (dk_at dksX0_findFar_1 18 rfl rfl)
theorem dX0_findFar_43 : decode cX0_findFar 43 = .ok (.getfield 12, 3) := dk_180 0 12 (dk_at dksX0_findFar_1 19 rfl rfl)
theorem dX0_findFar_46 : decode cX0_findFar 46 = .ok (.invokeinterface 91 1, 5) := by decide +kernel
theorem dX0_findFar_51 : decode cX0_findFar 51 = .ok (.if_icmp .ge 95, 3) := dk_162 0 95 (dk_at dksX0_findFar_2 5 rfl rfl)
theorem dX0_findFar_54 : decode cX0_findFar 54 = .ok (.iconst 0, 1) := dk_3 (dk_at dksX0_findFar_2 8 rfl rfl)
theorem dX0_findFar_55 : decode cX0_findFar 55 = .ok (.istore 4, 2) := dk_54 4 (dk_at dksX0_findFar_2 9 rfl rfl)
theorem dX0_findFar_57 : decode cX0_findFar 57 = .ok (.iload 4, 2) := dk_21 4 (dk_at dksX0_findFar_2 11 rfl rfl)
theorem dX0_findFar_59 : decode cX0_findFar 59 = .ok (.aload_n 0, 1) := dk_42 (dk_at dksX0_findFar_2 13 rfl rfl)
theorem dX0_findFar_60 : decode cX0_findFar 60 = .ok (.getfield 12, 3) := dk_180 0 12 (dk_at dksX0_findFar_2 14 rfl rfl)
theorem dX0_findFar_63 : decode cX0_findFar 63 = .ok (.invokeinterface 91 1, 5) := by decide +kernel
theorem dX0_findFar_68 : decode cX0_findFar 68 = .ok (.if_icmp .ge 72, 3) := dk_162 0 72 (dk_at dksX0_findFar_3 0 rfl rfl)
theorem dX0_findFar_71 : decode cX0_findFar 71 = .ok (.aload_n 0, 1) := dk_42 (dk_at dksX0_findFar_3 3 rfl rfl)
theorem dX0_findFar_72 : decode cX0_findFar 72 = .ok (.getfield 18, 3) := dk_180 0 18 (dk_at dksX0_findFar_3 4 rfl rfl)
theorem dX0_findFar_75 : decode cX0_findFar 75 = .ok (.iload_n 3, 1) := dk_29 (dk_at dksX0_findFar_3 7 rfl rfl)
theorem dX0_findFar_76 : decode cX0_findFar 76 = .ok (.aaload, 1) := dk_50 (dk_at dksX0_findFar_3 8 rfl rfl)
theorem dX0_findFar_77 : decode cX0_findFar 77 = .ok (.iload 4, 2) := dk_21 4 (dk_at dksX0_findFar_3 9 rfl rfl)
theorem dX0_findFar_79 : decode cX0_findFar 79 = .ok (.iaload, 1) := dk_46 (dk_at dksX0_findFar_3 11 rfl rfl)
theorem dX0_findFar_80 : decode cX0_findFar 80 = .ok (.ifCond .le 54, 3) := dk_158 0 54 (dk_at dksX0_findFar_3 12 rfl rfl)
theorem dX0_findFar_83 : decode cX0_findFar 83 = .ok (.aload_n 0, 1) := dk_42 (dk_at dksX0_findFar_3 15 rfl rfl)
theorem dX0_findFar_84 : decode cX0_findFar 84 = .ok (.getfield 21, 3) := dk_180 0 21 (dk_at dksX0_findFar_3 16 rfl rfl)
theorem dX0_findFar_87 : decode cX0_findFar 87 = .ok (.iload_n 3, 1) := dk_29 (dk_at dksX0_findFar_3 19 rfl rfl)
theorem dX0_findFar_88 : decode cX0_findFar 88 = .ok (.iaload, 1) := dk_46 (dk_at dksX0_findFar_3 20 rfl rfl)
theorem dX0_findFar_89 : decode cX0_findFar 89 = .ok (.aload_n 0, 1) := dk_42 (dk_at dksX0_findFar_3 21 rfl rfl)
theorem dX0_findFar_90 : decode cX0_findFar 90 = .ok (.getfield 18, 3) := dk_180 0 18 (dk_at dksX0_findFar_4 0 rfl rfl)
theorem dX0_findFar_93 : decode cX0_findFar 93 = .ok (.iload_n 3, 1) := dk_29 (dk_at dksX0_findFar_4 3 rfl rfl)
theorem dX0_findFar_94 : decode cX0_findFar 94 = .ok (.aaload, 1) := dk_50 (dk_at dksX0_findFar_4 4 rfl rfl)
theorem dX0_findFar_95 : decode cX0_findFar 95 = .ok (.iload 4, 2) := dk_21 4 (dk_at dksX0_findFar_4 5 rfl rfl)
theorem dX0_findFar_97 : decode cX0_findFar 97 = .ok (.iaload, 1) := dk_46 (dk_at dksX0_findFar_4 7 rfl rfl)
theorem dX0_findFar_98 : decode cX0_findFar 98 = .ok (.iadd, 1) := dk_96 (dk_at dksX0_findFar_4 8 rfl rfl)
theorem dX0_findFar_99 : decode cX0_findFar 99 = .ok (.aload_n 0, 1) := dk_42 (dk_at dksX0_findFar_4 9 rfl rfl)
theorem dX0_findFar_100 : decode cX0_findFar 100 = .ok (.getfield 21, 3) := dk_180 0 21 (dk_at dksX0_findFar_4 10 rfl rfl)
theorem dX0_findFar_103 : decode cX0_findFar 103 = .ok (.iload 4, 2) := dk_21 4 (dk_at dksX0_findFar_4 13 rfl rfl)
theorem dX0_findFar_105 : decode cX0_findFar 105 = .ok (.iaload, 1) := dk_46 (dk_at dksX0_findFar_4 15 rfl rfl)
theorem dX0_findFar_106 : decode cX0_findFar 106 = .ok (.if_icmp .ge 28, 3) := dk_162 0 28 (dk_at dksX0_findFar_4 16 rfl rfl)
theorem dX0_findFar_109 : decode cX0_findFar 109 = .ok (.aload_n 0, 1) := dk_42 (dk_at dksX0_findFar_4 19 rfl rfl)
theorem dX0_findFar_110 : decode cX0_findFar 110 = .ok (.getfield 21, 3) := dk_180 0 21 (dk_at dksX0_findFar_4 20 rfl rfl)
theorem dX0_findFar_113 : decode cX0_findFar 113 = .ok (.iload 4, 2) := dk_21 4 (dk_at dksX0_findFar_5 0 rfl rfl)
theorem dX0_findFar_115 : decode cX0_findFar 115 = .ok (.aload_n 0, 1) := dk_42 (dk_at dksX0_findFar_5 2 rfl rfl)
theorem dX0_findFar_116 : decode cX0_findFar 116 = .ok (.getfield 21, 3) := dk_180 0 21 (dk_at dksX0_findFar_5 3 rfl rfl)
theorem dX0_findFar_119 : decode cX0_findFar 119 = .ok (.iload_n 3, 1) := dk_29 (dk_at dksX0_findFar_5 6 rfl rfl)
theorem dX0_findFar_120 : decode cX0_findFar 120 = .ok (.iaload, 1) := dk_46 (dk_at dksX0_findFar_5 7 rfl rfl)
theorem dX0_findFar_121 : decode cX0_findFar 121 = .ok (.aload_n 0, 1) := dk_42 (dk_at dksX0_findFar_5 8 rfl rfl)
theorem dX0_findFar_122 : decode cX0_findFar 122 = .ok (.getfield 18, 3) := dk_180 0 18 (dk_at dksX0_findFar_5 9 rfl rfl)
theorem dX0_findFar_125 : decode cX0_findFar 125 = .ok (.iload_n 3, 1) := dk_29 (dk_at dksX0_findFar_5 12 rfl rfl)
theorem dX0_findFar_126 : decode cX0_findFar 126 = .ok (.aaload, 1) := dk_50 (dk_at dksX0_findFar_5 13 rfl rfl)
theorem dX0_findFar_127 : decode cX0_findFar 127 = .ok (.iload 4, 2) := dk_21 4 (dk_at dksX0_findFar_5 14 rfl rfl)
theorem dX0_findFar_129 : decode cX0_findFar 129 = .ok (.iaload, 1) := dk_46 (dk_at dksX0_findFar_5 16 rfl rfl)
theorem dX0_findFar_130 : decode cX0_findFar 130 = .ok (.iadd, 1) := dk_96 (dk_at dksX0_findFar_5 17 rfl rfl)
theorem dX0_findFar_131 : decode cX0_findFar 131 = .ok (.iastore, 1) := dk_79 (dk_at dksX0_findFar_5 18 rfl rfl)
theorem dX0_findFar_132 : decode cX0_findFar 132 = .ok (.iconst 1, 1) := dk_4 (dk_at dksX0_findFar_5 19 rfl rfl)
theorem dX0_findFar_133 : decode cX0_findFar 133 = .ok (.istore_n 2, 1) := dk_61 (dk_at dksX0_findFar_5 20 rfl rfl)
theorem dX0_findFar_134 : decode cX0_findFar 134 = .ok (.iinc 4 1, 3) := dk_132 4 1 (dk_at dksX0_findFar_5 21 rfl rfl)
theorem dX0_findFar_137 : decode cX0_findFar 137 = .ok (.goto (-80), 3) := dk_167 255 176 (dk_at dksX0_findFar_6 0 rfl rfl)
theorem dX0_findFar_140 : decode cX0_findFar 140 = .ok (.iinc 3 1, 3) := dk_132 3 1 (dk_at dksX0_findFar_6 3 rfl rfl)
theorem dX0_findFar_143 : decode cX0_findFar 143 = .ok (.goto (-102), 3) := dk_167 255 154 (dk_at dksX0_findFar_6 6 rfl rfl)
theorem dX0_findFar_146 : decode cX0_findFar 146 = .ok (.goto (-113), 3) := dk_167 255 143 (dk_at dksX0_findFar_6 9 rfl rfl)
theorem dX0_findFar_149 : decode cX0_findFar 149 = .ok (.return_, 1) := dk_177 (dk_at dksX0_findFar_6 12 rfl rfl)
abbrev cX0_knows : ByteArray := prog_1_method_18_code
def yX0_knows : MethodName := ⟨RX0, "knows", "(IIZ)I"⟩
def dkwX0_knows_3 : List UInt8 := [167, 0, 14, 25, 4, 180, 0, 160, 4, 28, 120, 2, 130, 126, 181, 0, 160, 21, 5, 172]
abbrev dktX0_knows_3 : List UInt8 := dkwX0_knows_3 ++ []
def dkwX0_knows_2 : List UInt8 := [180, 0, 160, 28, 122, 4, 126, 54, 5, 25, 4, 29, 153, 0, 15, 25, 4, 180, 0, 160, 4, 28, 120, 128]
abbrev dktX0_knows_2 : List UInt8 := dkwX0_knows_2 ++ dktX0_knows_3
def dkwX0_knows_1 : List UInt8 := [27, 182, 0, 156, 58, 4, 25, 4, 198, 0, 11, 42, 28, 182, 0, 156, 199, 0, 6, 16, 244, 172, 25, 4]
abbrev dktX0_knows_1 : List UInt8 := dkwX0_knows_1 ++ dktX0_knows_2
def dkwX0_knows_0 : List UInt8 := [42, 27, 182, 0, 143, 153, 0, 16, 42, 28, 182, 0, 143, 153, 0, 8, 27, 28, 160, 0, 5, 2, 172, 42]
abbrev dktX0_knows_0 : List UInt8 := dkwX0_knows_0 ++ dktX0_knows_1
theorem dksX0_knows_0 : cX0_knows.data.toList.drop 0 = dktX0_knows_0 := by decide +kernel
theorem dksX0_knows_1 : cX0_knows.data.toList.drop 24 = dktX0_knows_1 := dk_seg dksX0_knows_0 24 rfl rfl
theorem dksX0_knows_2 : cX0_knows.data.toList.drop 48 = dktX0_knows_2 := dk_seg dksX0_knows_1 24 rfl rfl
theorem dksX0_knows_3 : cX0_knows.data.toList.drop 72 = dktX0_knows_3 := dk_seg dksX0_knows_2 24 rfl rfl
theorem dX0_knows_0 : decode cX0_knows 0 = .ok (.aload_n 0, 1) := dk_42 (dk_at dksX0_knows_0 0 rfl rfl)
theorem dX0_knows_1 : decode cX0_knows 1 = .ok (.iload_n 1, 1) := dk_27 (dk_at dksX0_knows_0 1 rfl rfl)
theorem dX0_knows_2 : decode cX0_knows 2 = .ok (.invokevirtual 143, 3) := dk_182 0 143 (dk_at dksX0_knows_0 2 rfl rfl)
theorem dX0_knows_5 : decode cX0_knows 5 = .ok (.ifCond .eq 16, 3) := dk_153 0 16 (dk_at dksX0_knows_0 5 rfl rfl)
theorem dX0_knows_8 : decode cX0_knows 8 = .ok (.aload_n 0, 1) := dk_42 (dk_at dksX0_knows_0 8 rfl rfl)
theorem dX0_knows_9 : decode cX0_knows 9 = .ok (.iload_n 2, 1) := dk_28 (dk_at dksX0_knows_0 9 rfl rfl)
theorem dX0_knows_10 : decode cX0_knows 10 = .ok (.invokevirtual 143, 3) := dk_182 0 143 (dk_at dksX0_knows_0 10 rfl rfl)
theorem dX0_knows_13 : decode cX0_knows 13 = .ok (.ifCond .eq 8, 3) := dk_153 0 8 (dk_at dksX0_knows_0 13 rfl rfl)
theorem dX0_knows_16 : decode cX0_knows 16 = .ok (.iload_n 1, 1) := dk_27 (dk_at dksX0_knows_0 16 rfl rfl)
theorem dX0_knows_17 : decode cX0_knows 17 = .ok (.iload_n 2, 1) := dk_28 (dk_at dksX0_knows_0 17 rfl rfl)
theorem dX0_knows_18 : decode cX0_knows 18 = .ok (.if_icmp .ne 5, 3) := dk_160 0 5 (dk_at dksX0_knows_0 18 rfl rfl)
theorem dX0_knows_21 : decode cX0_knows 21 = .ok (.iconst (-1), 1) := dk_2 (dk_at dksX0_knows_0 21 rfl rfl)
theorem dX0_knows_22 : decode cX0_knows 22 = .ok (.ireturn, 1) := dk_172 (dk_at dksX0_knows_0 22 rfl rfl)
theorem dX0_knows_23 : decode cX0_knows 23 = .ok (.aload_n 0, 1) := dk_42 (dk_at dksX0_knows_0 23 rfl rfl)
theorem dX0_knows_24 : decode cX0_knows 24 = .ok (.iload_n 1, 1) := dk_27 (dk_at dksX0_knows_1 0 rfl rfl)
theorem dX0_knows_25 : decode cX0_knows 25 = .ok (.invokevirtual 156, 3) := dk_182 0 156 (dk_at dksX0_knows_1 1 rfl rfl)
theorem dX0_knows_28 : decode cX0_knows 28 = .ok (.astore 4, 2) := dk_58 4 (dk_at dksX0_knows_1 4 rfl rfl)
theorem dX0_knows_30 : decode cX0_knows 30 = .ok (.aload 4, 2) := dk_25 4 (dk_at dksX0_knows_1 6 rfl rfl)
theorem dX0_knows_32 : decode cX0_knows 32 = .ok (.ifnull 11, 3) := dk_198 0 11 (dk_at dksX0_knows_1 8 rfl rfl)
theorem dX0_knows_35 : decode cX0_knows 35 = .ok (.aload_n 0, 1) := dk_42 (dk_at dksX0_knows_1 11 rfl rfl)
theorem dX0_knows_36 : decode cX0_knows 36 = .ok (.iload_n 2, 1) := dk_28 (dk_at dksX0_knows_1 12 rfl rfl)
theorem dX0_knows_37 : decode cX0_knows 37 = .ok (.invokevirtual 156, 3) := dk_182 0 156 (dk_at dksX0_knows_1 13 rfl rfl)
theorem dX0_knows_40 : decode cX0_knows 40 = .ok (.ifnonnull 6, 3) := dk_199 0 6 (dk_at dksX0_knows_1 16 rfl rfl)
theorem dX0_knows_43 : decode cX0_knows 43 = .ok (.bipush (-12), 2) := dk_16 244 (dk_at dksX0_knows_1 19 rfl rfl)
theorem dX0_knows_45 : decode cX0_knows 45 = .ok (.ireturn, 1) := dk_172 (dk_at dksX0_knows_1 21 rfl rfl)
theorem dX0_knows_46 : decode cX0_knows 46 = .ok (.aload 4, 2) := dk_25 4 (dk_at dksX0_knows_1 22 rfl rfl)
theorem dX0_knows_48 : decode cX0_knows 48 = .ok (.getfield 160, 3) := dk_180 0 160 (dk_at dksX0_knows_2 0 rfl rfl)
theorem dX0_knows_51 : decode cX0_knows 51 = .ok (.iload_n 2, 1) := dk_28 (dk_at dksX0_knows_2 3 rfl rfl)
theorem dX0_knows_52 : decode cX0_knows 52 = .ok (.ishr, 1) := dk_122 (dk_at dksX0_knows_2 4 rfl rfl)
theorem dX0_knows_53 : decode cX0_knows 53 = .ok (.iconst 1, 1) := dk_4 (dk_at dksX0_knows_2 5 rfl rfl)
theorem dX0_knows_54 : decode cX0_knows 54 = .ok (.iand, 1) := dk_126 (dk_at dksX0_knows_2 6 rfl rfl)
theorem dX0_knows_55 : decode cX0_knows 55 = .ok (.istore 5, 2) := dk_54 5 (dk_at dksX0_knows_2 7 rfl rfl)
theorem dX0_knows_57 : decode cX0_knows 57 = .ok (.aload 4, 2) := dk_25 4 (dk_at dksX0_knows_2 9 rfl rfl)
theorem dX0_knows_59 : decode cX0_knows 59 = .ok (.iload_n 3, 1) := dk_29 (dk_at dksX0_knows_2 11 rfl rfl)
theorem dX0_knows_60 : decode cX0_knows 60 = .ok (.ifCond .eq 15, 3) := dk_153 0 15 (dk_at dksX0_knows_2 12 rfl rfl)
theorem dX0_knows_63 : decode cX0_knows 63 = .ok (.aload 4, 2) := dk_25 4 (dk_at dksX0_knows_2 15 rfl rfl)
theorem dX0_knows_65 : decode cX0_knows 65 = .ok (.getfield 160, 3) := dk_180 0 160 (dk_at dksX0_knows_2 17 rfl rfl)
theorem dX0_knows_68 : decode cX0_knows 68 = .ok (.iconst 1, 1) := dk_4 (dk_at dksX0_knows_2 20 rfl rfl)
theorem dX0_knows_69 : decode cX0_knows 69 = .ok (.iload_n 2, 1) := dk_28 (dk_at dksX0_knows_2 21 rfl rfl)
theorem dX0_knows_70 : decode cX0_knows 70 = .ok (.ishl, 1) := dk_120 (dk_at dksX0_knows_2 22 rfl rfl)
theorem dX0_knows_71 : decode cX0_knows 71 = .ok (.ior, 1) := dk_128 (dk_at dksX0_knows_2 23 rfl rfl)
theorem dX0_knows_72 : decode cX0_knows 72 = .ok (.goto 14, 3) := dk_167 0 14 (dk_at dksX0_knows_3 0 rfl rfl)
theorem dX0_knows_75 : decode cX0_knows 75 = .ok (.aload 4, 2) := dk_25 4 (dk_at dksX0_knows_3 3 rfl rfl)
theorem dX0_knows_77 : decode cX0_knows 77 = .ok (.getfield 160, 3) := dk_180 0 160 (dk_at dksX0_knows_3 5 rfl rfl)
theorem dX0_knows_80 : decode cX0_knows 80 = .ok (.iconst 1, 1) := dk_4 (dk_at dksX0_knows_3 8 rfl rfl)
theorem dX0_knows_81 : decode cX0_knows 81 = .ok (.iload_n 2, 1) := dk_28 (dk_at dksX0_knows_3 9 rfl rfl)
theorem dX0_knows_82 : decode cX0_knows 82 = .ok (.ishl, 1) := dk_120 (dk_at dksX0_knows_3 10 rfl rfl)
theorem dX0_knows_83 : decode cX0_knows 83 = .ok (.iconst (-1), 1) := dk_2 (dk_at dksX0_knows_3 11 rfl rfl)
theorem dX0_knows_84 : decode cX0_knows 84 = .ok (.ixor, 1) := dk_130 (dk_at dksX0_knows_3 12 rfl rfl)
theorem dX0_knows_85 : decode cX0_knows 85 = .ok (.iand, 1) := dk_126 (dk_at dksX0_knows_3 13 rfl rfl)
theorem dX0_knows_86 : decode cX0_knows 86 = .ok (.putfield 160, 3) := dk_181 0 160 (dk_at dksX0_knows_3 14 rfl rfl)
theorem dX0_knows_89 : decode cX0_knows 89 = .ok (.iload 5, 2) := dk_21 5 (dk_at dksX0_knows_3 17 rfl rfl)
theorem dX0_knows_91 : decode cX0_knows 91 = .ok (.ireturn, 1) := dk_172 (dk_at dksX0_knows_3 19 rfl rfl)
abbrev cX0_houseAt : ByteArray := prog_1_method_17_code
def yX0_houseAt : MethodName := ⟨RX0, "houseAt", "(I)LRoadHouses$House;"⟩
def dkwX0_houseAt_1 : List UInt8 := [167, 0, 4, 1, 176]
abbrev dktX0_houseAt_1 : List UInt8 := dkwX0_houseAt_1 ++ []
def dkwX0_houseAt_0 : List UInt8 := [42, 180, 0, 12, 27, 185, 0, 152, 2, 0, 78, 45, 193, 0, 125, 153, 0, 12, 45, 192, 0, 125, 77, 44]
abbrev dktX0_houseAt_0 : List UInt8 := dkwX0_houseAt_0 ++ dktX0_houseAt_1
theorem dksX0_houseAt_0 : cX0_houseAt.data.toList.drop 0 = dktX0_houseAt_0 := by decide +kernel
theorem dksX0_houseAt_1 : cX0_houseAt.data.toList.drop 24 = dktX0_houseAt_1 := dk_seg dksX0_houseAt_0 24 rfl rfl
theorem dX0_houseAt_0 : decode cX0_houseAt 0 = .ok (.aload_n 0, 1) := dk_42 (dk_at dksX0_houseAt_0 0 rfl rfl)
theorem dX0_houseAt_1 : decode cX0_houseAt 1 = .ok (.getfield 12, 3) := dk_180 0 12 (dk_at dksX0_houseAt_0 1 rfl rfl)
theorem dX0_houseAt_4 : decode cX0_houseAt 4 = .ok (.iload_n 1, 1) := dk_27 (dk_at dksX0_houseAt_0 4 rfl rfl)
theorem dX0_houseAt_5 : decode cX0_houseAt 5 = .ok (.invokeinterface 152 2, 5) := by decide +kernel
theorem dX0_houseAt_10 : decode cX0_houseAt 10 = .ok (.astore_n 3, 1) := dk_78 (dk_at dksX0_houseAt_0 10 rfl rfl)
theorem dX0_houseAt_11 : decode cX0_houseAt 11 = .ok (.aload_n 3, 1) := dk_45 (dk_at dksX0_houseAt_0 11 rfl rfl)
theorem dX0_houseAt_12 : decode cX0_houseAt 12 = .ok (.instanceof 125, 3) := dk_193 0 125 (dk_at dksX0_houseAt_0 12 rfl rfl)
theorem dX0_houseAt_15 : decode cX0_houseAt 15 = .ok (.ifCond .eq 12, 3) := dk_153 0 12 (dk_at dksX0_houseAt_0 15 rfl rfl)
theorem dX0_houseAt_18 : decode cX0_houseAt 18 = .ok (.aload_n 3, 1) := dk_45 (dk_at dksX0_houseAt_0 18 rfl rfl)
theorem dX0_houseAt_19 : decode cX0_houseAt 19 = .ok (.checkcast 125, 3) := dk_192 0 125 (dk_at dksX0_houseAt_0 19 rfl rfl)
theorem dX0_houseAt_22 : decode cX0_houseAt 22 = .ok (.astore_n 2, 1) := dk_77 (dk_at dksX0_houseAt_0 22 rfl rfl)
theorem dX0_houseAt_23 : decode cX0_houseAt 23 = .ok (.aload_n 2, 1) := dk_44 (dk_at dksX0_houseAt_0 23 rfl rfl)
theorem dX0_houseAt_24 : decode cX0_houseAt 24 = .ok (.goto 4, 3) := dk_167 0 4 (dk_at dksX0_houseAt_1 0 rfl rfl)
theorem dX0_houseAt_27 : decode cX0_houseAt 27 = .ok (.aconst_null, 1) := dk_1 (dk_at dksX0_houseAt_1 3 rfl rfl)
theorem dX0_houseAt_28 : decode cX0_houseAt 28 = .ok (.areturn, 1) := dk_176 (dk_at dksX0_houseAt_1 4 rfl rfl)
abbrev cX0_lamp : ByteArray := prog_1_method_19_code
def yX0_lamp : MethodName := ⟨RX0, "lamp", "(IZ)I"⟩
def dkwX0_lamp_4 : List UInt8 := [181, 0, 163, 21, 4, 153, 0, 7, 4, 167, 0, 4, 3, 172]
abbrev dktX0_lamp_4 : List UInt8 := dkwX0_lamp_4 ++ []
def dkwX0_lamp_3 : List UInt8 := [180, 0, 169, 28, 183, 0, 172, 185, 0, 101, 2, 0, 87, 45, 28, 154, 0, 7, 4, 167, 0, 4, 3]
abbrev dktX0_lamp_3 : List UInt8 := dkwX0_lamp_3 ++ dktX0_lamp_4
def dkwX0_lamp_2 : List UInt8 := [185, 0, 91, 1, 0, 16, 60, 160, 0, 6, 16, 253, 172, 42, 180, 0, 25, 187, 0, 167, 89, 27, 42]
abbrev dktX0_lamp_2 : List UInt8 := dkwX0_lamp_2 ++ dktX0_lamp_3
def dkwX0_lamp_1 : List UInt8 := [180, 0, 163, 154, 0, 7, 4, 167, 0, 4, 3, 54, 4, 21, 4, 28, 159, 0, 56, 42, 180, 0, 25]
abbrev dktX0_lamp_1 : List UInt8 := dkwX0_lamp_1 ++ dktX0_lamp_2
def dkwX0_lamp_0 : List UInt8 := [42, 27, 182, 0, 143, 154, 0, 5, 2, 172, 42, 27, 182, 0, 156, 78, 45, 199, 0, 6, 16, 244, 172, 45]
abbrev dktX0_lamp_0 : List UInt8 := dkwX0_lamp_0 ++ dktX0_lamp_1
theorem dksX0_lamp_0 : cX0_lamp.data.toList.drop 0 = dktX0_lamp_0 := by decide +kernel
theorem dksX0_lamp_1 : cX0_lamp.data.toList.drop 24 = dktX0_lamp_1 := dk_seg dksX0_lamp_0 24 rfl rfl
theorem dksX0_lamp_2 : cX0_lamp.data.toList.drop 47 = dktX0_lamp_2 := dk_seg dksX0_lamp_1 23 rfl rfl
theorem dksX0_lamp_3 : cX0_lamp.data.toList.drop 70 = dktX0_lamp_3 := dk_seg dksX0_lamp_2 23 rfl rfl
theorem dksX0_lamp_4 : cX0_lamp.data.toList.drop 93 = dktX0_lamp_4 := dk_seg dksX0_lamp_3 23 rfl rfl
theorem dX0_lamp_0 : decode cX0_lamp 0 = .ok (.aload_n 0, 1) := dk_42 (dk_at dksX0_lamp_0 0 rfl rfl)
theorem dX0_lamp_1 : decode cX0_lamp 1 = .ok (.iload_n 1, 1) := dk_27 (dk_at dksX0_lamp_0 1 rfl rfl)
theorem dX0_lamp_2 : decode cX0_lamp 2 = .ok (.invokevirtual 143, 3) := dk_182 0 143 (dk_at dksX0_lamp_0 2 rfl rfl)
theorem dX0_lamp_5 : decode cX0_lamp 5 = .ok (.ifCond .ne 5, 3) := dk_154 0 5 (dk_at dksX0_lamp_0 5 rfl rfl)
theorem dX0_lamp_8 : decode cX0_lamp 8 = .ok (.iconst (-1), 1) := dk_2 (dk_at dksX0_lamp_0 8 rfl rfl)
theorem dX0_lamp_9 : decode cX0_lamp 9 = .ok (.ireturn, 1) := dk_172 (dk_at dksX0_lamp_0 9 rfl rfl)
theorem dX0_lamp_10 : decode cX0_lamp 10 = .ok (.aload_n 0, 1) := dk_42 (dk_at dksX0_lamp_0 10 rfl rfl)
theorem dX0_lamp_11 : decode cX0_lamp 11 = .ok (.iload_n 1, 1) := dk_27 (dk_at dksX0_lamp_0 11 rfl rfl)
theorem dX0_lamp_12 : decode cX0_lamp 12 = .ok (.invokevirtual 156, 3) := dk_182 0 156 (dk_at dksX0_lamp_0 12 rfl rfl)
theorem dX0_lamp_15 : decode cX0_lamp 15 = .ok (.astore_n 3, 1) := dk_78 (dk_at dksX0_lamp_0 15 rfl rfl)
theorem dX0_lamp_16 : decode cX0_lamp 16 = .ok (.aload_n 3, 1) := dk_45 (dk_at dksX0_lamp_0 16 rfl rfl)
theorem dX0_lamp_17 : decode cX0_lamp 17 = .ok (.ifnonnull 6, 3) := dk_199 0 6 (dk_at dksX0_lamp_0 17 rfl rfl)
theorem dX0_lamp_20 : decode cX0_lamp 20 = .ok (.bipush (-12), 2) := dk_16 244 (dk_at dksX0_lamp_0 20 rfl rfl)
theorem dX0_lamp_22 : decode cX0_lamp 22 = .ok (.ireturn, 1) := dk_172 (dk_at dksX0_lamp_0 22 rfl rfl)
theorem dX0_lamp_23 : decode cX0_lamp 23 = .ok (.aload_n 3, 1) := dk_45 (dk_at dksX0_lamp_0 23 rfl rfl)
theorem dX0_lamp_24 : decode cX0_lamp 24 = .ok (.getfield 163, 3) := dk_180 0 163 (dk_at dksX0_lamp_1 0 rfl rfl)
theorem dX0_lamp_27 : decode cX0_lamp 27 = .ok (.ifCond .ne 7, 3) := dk_154 0 7 (dk_at dksX0_lamp_1 3 rfl rfl)
theorem dX0_lamp_30 : decode cX0_lamp 30 = .ok (.iconst 1, 1) := dk_4 (dk_at dksX0_lamp_1 6 rfl rfl)
theorem dX0_lamp_31 : decode cX0_lamp 31 = .ok (.goto 4, 3) := dk_167 0 4 (dk_at dksX0_lamp_1 7 rfl rfl)
theorem dX0_lamp_34 : decode cX0_lamp 34 = .ok (.iconst 0, 1) := dk_3 (dk_at dksX0_lamp_1 10 rfl rfl)
theorem dX0_lamp_35 : decode cX0_lamp 35 = .ok (.istore 4, 2) := dk_54 4 (dk_at dksX0_lamp_1 11 rfl rfl)
theorem dX0_lamp_37 : decode cX0_lamp 37 = .ok (.iload 4, 2) := dk_21 4 (dk_at dksX0_lamp_1 13 rfl rfl)
theorem dX0_lamp_39 : decode cX0_lamp 39 = .ok (.iload_n 2, 1) := dk_28 (dk_at dksX0_lamp_1 15 rfl rfl)
theorem dX0_lamp_40 : decode cX0_lamp 40 = .ok (.if_icmp .eq 56, 3) := dk_159 0 56 (dk_at dksX0_lamp_1 16 rfl rfl)
theorem dX0_lamp_43 : decode cX0_lamp 43 = .ok (.aload_n 0, 1) := dk_42 (dk_at dksX0_lamp_1 19 rfl rfl)
theorem dX0_lamp_44 : decode cX0_lamp 44 = .ok (.getfield 25, 3) := dk_180 0 25 (dk_at dksX0_lamp_1 20 rfl rfl)
theorem dX0_lamp_47 : decode cX0_lamp 47 = .ok (.invokeinterface 91 1, 5) := by decide +kernel
theorem dX0_lamp_52 : decode cX0_lamp 52 = .ok (.bipush 60, 2) := dk_16 60 (dk_at dksX0_lamp_2 5 rfl rfl)
theorem dX0_lamp_54 : decode cX0_lamp 54 = .ok (.if_icmp .ne 6, 3) := dk_160 0 6 (dk_at dksX0_lamp_2 7 rfl rfl)
theorem dX0_lamp_57 : decode cX0_lamp 57 = .ok (.bipush (-3), 2) := dk_16 253 (dk_at dksX0_lamp_2 10 rfl rfl)
theorem dX0_lamp_59 : decode cX0_lamp 59 = .ok (.ireturn, 1) := dk_172 (dk_at dksX0_lamp_2 12 rfl rfl)
theorem dX0_lamp_60 : decode cX0_lamp 60 = .ok (.aload_n 0, 1) := dk_42 (dk_at dksX0_lamp_2 13 rfl rfl)
theorem dX0_lamp_61 : decode cX0_lamp 61 = .ok (.getfield 25, 3) := dk_180 0 25 (dk_at dksX0_lamp_2 14 rfl rfl)
theorem dX0_lamp_64 : decode cX0_lamp 64 = .ok (.new 167, 3) := dk_187 0 167 (dk_at dksX0_lamp_2 17 rfl rfl)
theorem dX0_lamp_67 : decode cX0_lamp 67 = .ok (.dup, 1) := dk_89 (dk_at dksX0_lamp_2 20 rfl rfl)
theorem dX0_lamp_68 : decode cX0_lamp 68 = .ok (.iload_n 1, 1) := dk_27 (dk_at dksX0_lamp_2 21 rfl rfl)
theorem dX0_lamp_69 : decode cX0_lamp 69 = .ok (.aload_n 0, 1) := dk_42 (dk_at dksX0_lamp_2 22 rfl rfl)
theorem dX0_lamp_70 : decode cX0_lamp 70 = .ok (.getfield 169, 3) := dk_180 0 169 (dk_at dksX0_lamp_3 0 rfl rfl)
theorem dX0_lamp_73 : decode cX0_lamp 73 = .ok (.iload_n 2, 1) := dk_28 (dk_at dksX0_lamp_3 3 rfl rfl)
theorem dX0_lamp_74 : decode cX0_lamp 74 = .ok (.invokespecial 172, 3) := dk_183 0 172 (dk_at dksX0_lamp_3 4 rfl rfl)
theorem dX0_lamp_77 : decode cX0_lamp 77 = .ok (.invokeinterface 101 2, 5) := by decide +kernel
theorem dX0_lamp_82 : decode cX0_lamp 82 = .ok (.pop, 1) := dk_87 (dk_at dksX0_lamp_3 12 rfl rfl)
theorem dX0_lamp_83 : decode cX0_lamp 83 = .ok (.aload_n 3, 1) := dk_45 (dk_at dksX0_lamp_3 13 rfl rfl)
theorem dX0_lamp_84 : decode cX0_lamp 84 = .ok (.iload_n 2, 1) := dk_28 (dk_at dksX0_lamp_3 14 rfl rfl)
theorem dX0_lamp_85 : decode cX0_lamp 85 = .ok (.ifCond .ne 7, 3) := dk_154 0 7 (dk_at dksX0_lamp_3 15 rfl rfl)
theorem dX0_lamp_88 : decode cX0_lamp 88 = .ok (.iconst 1, 1) := dk_4 (dk_at dksX0_lamp_3 18 rfl rfl)
theorem dX0_lamp_89 : decode cX0_lamp 89 = .ok (.goto 4, 3) := dk_167 0 4 (dk_at dksX0_lamp_3 19 rfl rfl)
theorem dX0_lamp_92 : decode cX0_lamp 92 = .ok (.iconst 0, 1) := dk_3 (dk_at dksX0_lamp_3 22 rfl rfl)
theorem dX0_lamp_93 : decode cX0_lamp 93 = .ok (.putfield 163, 3) := dk_181 0 163 (dk_at dksX0_lamp_4 0 rfl rfl)
theorem dX0_lamp_96 : decode cX0_lamp 96 = .ok (.iload 4, 2) := dk_21 4 (dk_at dksX0_lamp_4 3 rfl rfl)
theorem dX0_lamp_98 : decode cX0_lamp 98 = .ok (.ifCond .eq 7, 3) := dk_153 0 7 (dk_at dksX0_lamp_4 5 rfl rfl)
theorem dX0_lamp_101 : decode cX0_lamp 101 = .ok (.iconst 1, 1) := dk_4 (dk_at dksX0_lamp_4 8 rfl rfl)
theorem dX0_lamp_102 : decode cX0_lamp 102 = .ok (.goto 4, 3) := dk_167 0 4 (dk_at dksX0_lamp_4 9 rfl rfl)
theorem dX0_lamp_105 : decode cX0_lamp 105 = .ok (.iconst 0, 1) := dk_3 (dk_at dksX0_lamp_4 12 rfl rfl)
theorem dX0_lamp_106 : decode cX0_lamp 106 = .ok (.ireturn, 1) := dk_172 (dk_at dksX0_lamp_4 13 rfl rfl)
abbrev cX0_watch : ByteArray := prog_1_method_20_code
def yX0_watch : MethodName := ⟨RX0, "watch", "(IZ)I"⟩
def dkwX0_watch_1 : List UInt8 := [180, 0, 175, 153, 0, 7, 4, 167, 0, 4, 3, 54, 4, 45, 28, 181, 0, 175, 21, 4, 172]
abbrev dktX0_watch_1 : List UInt8 := dkwX0_watch_1 ++ []
def dkwX0_watch_0 : List UInt8 := [42, 27, 182, 0, 143, 154, 0, 5, 2, 172, 42, 27, 182, 0, 156, 78, 45, 199, 0, 6, 16, 244, 172, 45]
abbrev dktX0_watch_0 : List UInt8 := dkwX0_watch_0 ++ dktX0_watch_1
theorem dksX0_watch_0 : cX0_watch.data.toList.drop 0 = dktX0_watch_0 := by decide +kernel
theorem dksX0_watch_1 : cX0_watch.data.toList.drop 24 = dktX0_watch_1 := dk_seg dksX0_watch_0 24 rfl rfl
theorem dX0_watch_0 : decode cX0_watch 0 = .ok (.aload_n 0, 1) := dk_42 (dk_at dksX0_watch_0 0 rfl rfl)
theorem dX0_watch_1 : decode cX0_watch 1 = .ok (.iload_n 1, 1) := dk_27 (dk_at dksX0_watch_0 1 rfl rfl)
theorem dX0_watch_2 : decode cX0_watch 2 = .ok (.invokevirtual 143, 3) := dk_182 0 143 (dk_at dksX0_watch_0 2 rfl rfl)
theorem dX0_watch_5 : decode cX0_watch 5 = .ok (.ifCond .ne 5, 3) := dk_154 0 5 (dk_at dksX0_watch_0 5 rfl rfl)
theorem dX0_watch_8 : decode cX0_watch 8 = .ok (.iconst (-1), 1) := dk_2 (dk_at dksX0_watch_0 8 rfl rfl)
theorem dX0_watch_9 : decode cX0_watch 9 = .ok (.ireturn, 1) := dk_172 (dk_at dksX0_watch_0 9 rfl rfl)
theorem dX0_watch_10 : decode cX0_watch 10 = .ok (.aload_n 0, 1) := dk_42 (dk_at dksX0_watch_0 10 rfl rfl)
theorem dX0_watch_11 : decode cX0_watch 11 = .ok (.iload_n 1, 1) := dk_27 (dk_at dksX0_watch_0 11 rfl rfl)
theorem dX0_watch_12 : decode cX0_watch 12 = .ok (.invokevirtual 156, 3) := dk_182 0 156 (dk_at dksX0_watch_0 12 rfl rfl)
theorem dX0_watch_15 : decode cX0_watch 15 = .ok (.astore_n 3, 1) := dk_78 (dk_at dksX0_watch_0 15 rfl rfl)
theorem dX0_watch_16 : decode cX0_watch 16 = .ok (.aload_n 3, 1) := dk_45 (dk_at dksX0_watch_0 16 rfl rfl)
theorem dX0_watch_17 : decode cX0_watch 17 = .ok (.ifnonnull 6, 3) := dk_199 0 6 (dk_at dksX0_watch_0 17 rfl rfl)
theorem dX0_watch_20 : decode cX0_watch 20 = .ok (.bipush (-12), 2) := dk_16 244 (dk_at dksX0_watch_0 20 rfl rfl)
theorem dX0_watch_22 : decode cX0_watch 22 = .ok (.ireturn, 1) := dk_172 (dk_at dksX0_watch_0 22 rfl rfl)
theorem dX0_watch_23 : decode cX0_watch 23 = .ok (.aload_n 3, 1) := dk_45 (dk_at dksX0_watch_0 23 rfl rfl)
theorem dX0_watch_24 : decode cX0_watch 24 = .ok (.getfield 175, 3) := dk_180 0 175 (dk_at dksX0_watch_1 0 rfl rfl)
theorem dX0_watch_27 : decode cX0_watch 27 = .ok (.ifCond .eq 7, 3) := dk_153 0 7 (dk_at dksX0_watch_1 3 rfl rfl)
theorem dX0_watch_30 : decode cX0_watch 30 = .ok (.iconst 1, 1) := dk_4 (dk_at dksX0_watch_1 6 rfl rfl)
theorem dX0_watch_31 : decode cX0_watch 31 = .ok (.goto 4, 3) := dk_167 0 4 (dk_at dksX0_watch_1 7 rfl rfl)
theorem dX0_watch_34 : decode cX0_watch 34 = .ok (.iconst 0, 1) := dk_3 (dk_at dksX0_watch_1 10 rfl rfl)
theorem dX0_watch_35 : decode cX0_watch 35 = .ok (.istore 4, 2) := dk_54 4 (dk_at dksX0_watch_1 11 rfl rfl)
theorem dX0_watch_37 : decode cX0_watch 37 = .ok (.aload_n 3, 1) := dk_45 (dk_at dksX0_watch_1 13 rfl rfl)
theorem dX0_watch_38 : decode cX0_watch 38 = .ok (.iload_n 2, 1) := dk_28 (dk_at dksX0_watch_1 14 rfl rfl)
theorem dX0_watch_39 : decode cX0_watch 39 = .ok (.putfield 175, 3) := dk_181 0 175 (dk_at dksX0_watch_1 15 rfl rfl)
theorem dX0_watch_42 : decode cX0_watch 42 = .ok (.iload 4, 2) := dk_21 4 (dk_at dksX0_watch_1 18 rfl rfl)
theorem dX0_watch_44 : decode cX0_watch 44 = .ok (.ireturn, 1) := dk_172 (dk_at dksX0_watch_1 20 rfl rfl)
abbrev cX0_bears : ByteArray := prog_1_method_21_code
def yX0_bears : MethodName := ⟨RX0, "bears", "(IIZ)I"⟩
def dkwX0_bears_3 : List UInt8 := [25, 4, 180, 0, 178, 28, 29, 154, 0, 7, 4, 167, 0, 4, 3, 84, 21, 5, 172]
abbrev dktX0_bears_3 : List UInt8 := dkwX0_bears_3 ++ []
def dkwX0_bears_2 : List UInt8 := [167, 0, 6, 16, 244, 172, 25, 4, 180, 0, 178, 28, 51, 153, 0, 7, 3, 167, 0, 4, 4, 54, 5]
abbrev dktX0_bears_2 : List UInt8 := dkwX0_bears_2 ++ dktX0_bears_3
def dkwX0_bears_1 : List UInt8 := [27, 185, 0, 152, 2, 0, 58, 5, 25, 5, 193, 0, 135, 153, 0, 13, 25, 5, 192, 0, 135, 58, 4]
abbrev dktX0_bears_1 : List UInt8 := dkwX0_bears_1 ++ dktX0_bears_2
def dkwX0_bears_0 : List UInt8 := [42, 27, 182, 0, 143, 153, 0, 13, 28, 3, 16, 49, 184, 0, 97, 154, 0, 5, 2, 172, 42, 180, 0, 12]
abbrev dktX0_bears_0 : List UInt8 := dkwX0_bears_0 ++ dktX0_bears_1
theorem dksX0_bears_0 : cX0_bears.data.toList.drop 0 = dktX0_bears_0 := by decide +kernel
theorem dksX0_bears_1 : cX0_bears.data.toList.drop 24 = dktX0_bears_1 := dk_seg dksX0_bears_0 24 rfl rfl
theorem dksX0_bears_2 : cX0_bears.data.toList.drop 47 = dktX0_bears_2 := dk_seg dksX0_bears_1 23 rfl rfl
theorem dksX0_bears_3 : cX0_bears.data.toList.drop 70 = dktX0_bears_3 := dk_seg dksX0_bears_2 23 rfl rfl
theorem dX0_bears_0 : decode cX0_bears 0 = .ok (.aload_n 0, 1) := dk_42 (dk_at dksX0_bears_0 0 rfl rfl)
theorem dX0_bears_1 : decode cX0_bears 1 = .ok (.iload_n 1, 1) := dk_27 (dk_at dksX0_bears_0 1 rfl rfl)
theorem dX0_bears_2 : decode cX0_bears 2 = .ok (.invokevirtual 143, 3) := dk_182 0 143 (dk_at dksX0_bears_0 2 rfl rfl)
theorem dX0_bears_5 : decode cX0_bears 5 = .ok (.ifCond .eq 13, 3) := dk_153 0 13 (dk_at dksX0_bears_0 5 rfl rfl)
theorem dX0_bears_8 : decode cX0_bears 8 = .ok (.iload_n 2, 1) := dk_28 (dk_at dksX0_bears_0 8 rfl rfl)
theorem dX0_bears_9 : decode cX0_bears 9 = .ok (.iconst 0, 1) := dk_3 (dk_at dksX0_bears_0 9 rfl rfl)
theorem dX0_bears_10 : decode cX0_bears 10 = .ok (.bipush 49, 2) := dk_16 49 (dk_at dksX0_bears_0 10 rfl rfl)
theorem dX0_bears_12 : decode cX0_bears 12 = .ok (.invokestatic 97, 3) := dk_184 0 97 (dk_at dksX0_bears_0 12 rfl rfl)
theorem dX0_bears_15 : decode cX0_bears 15 = .ok (.ifCond .ne 5, 3) := dk_154 0 5 (dk_at dksX0_bears_0 15 rfl rfl)
theorem dX0_bears_18 : decode cX0_bears 18 = .ok (.iconst (-1), 1) := dk_2 (dk_at dksX0_bears_0 18 rfl rfl)
theorem dX0_bears_19 : decode cX0_bears 19 = .ok (.ireturn, 1) := dk_172 (dk_at dksX0_bears_0 19 rfl rfl)
theorem dX0_bears_20 : decode cX0_bears 20 = .ok (.aload_n 0, 1) := dk_42 (dk_at dksX0_bears_0 20 rfl rfl)
theorem dX0_bears_21 : decode cX0_bears 21 = .ok (.getfield 12, 3) := dk_180 0 12 (dk_at dksX0_bears_0 21 rfl rfl)
theorem dX0_bears_24 : decode cX0_bears 24 = .ok (.iload_n 1, 1) := dk_27 (dk_at dksX0_bears_1 0 rfl rfl)
theorem dX0_bears_25 : decode cX0_bears 25 = .ok (.invokeinterface 152 2, 5) := by decide +kernel
theorem dX0_bears_30 : decode cX0_bears 30 = .ok (.astore 5, 2) := dk_58 5 (dk_at dksX0_bears_1 6 rfl rfl)
theorem dX0_bears_32 : decode cX0_bears 32 = .ok (.aload 5, 2) := dk_25 5 (dk_at dksX0_bears_1 8 rfl rfl)
theorem dX0_bears_34 : decode cX0_bears 34 = .ok (.instanceof 135, 3) := dk_193 0 135 (dk_at dksX0_bears_1 10 rfl rfl)
theorem dX0_bears_37 : decode cX0_bears 37 = .ok (.ifCond .eq 13, 3) := dk_153 0 13 (dk_at dksX0_bears_1 13 rfl rfl)
theorem dX0_bears_40 : decode cX0_bears 40 = .ok (.aload 5, 2) := dk_25 5 (dk_at dksX0_bears_1 16 rfl rfl)
theorem dX0_bears_42 : decode cX0_bears 42 = .ok (.checkcast 135, 3) := dk_192 0 135 (dk_at dksX0_bears_1 18 rfl rfl)
theorem dX0_bears_45 : decode cX0_bears 45 = .ok (.astore 4, 2) := dk_58 4 (dk_at dksX0_bears_1 21 rfl rfl)
theorem dX0_bears_47 : decode cX0_bears 47 = .ok (.goto 6, 3) := dk_167 0 6 (dk_at dksX0_bears_2 0 rfl rfl)
theorem dX0_bears_50 : decode cX0_bears 50 = .ok (.bipush (-12), 2) := dk_16 244 (dk_at dksX0_bears_2 3 rfl rfl)
theorem dX0_bears_52 : decode cX0_bears 52 = .ok (.ireturn, 1) := dk_172 (dk_at dksX0_bears_2 5 rfl rfl)
theorem dX0_bears_53 : decode cX0_bears 53 = .ok (.aload 4, 2) := dk_25 4 (dk_at dksX0_bears_2 6 rfl rfl)
theorem dX0_bears_55 : decode cX0_bears 55 = .ok (.getfield 178, 3) := dk_180 0 178 (dk_at dksX0_bears_2 8 rfl rfl)
theorem dX0_bears_58 : decode cX0_bears 58 = .ok (.iload_n 2, 1) := dk_28 (dk_at dksX0_bears_2 11 rfl rfl)
theorem dX0_bears_59 : decode cX0_bears 59 = .ok (.baload, 1) := dk_51 (dk_at dksX0_bears_2 12 rfl rfl)
theorem dX0_bears_60 : decode cX0_bears 60 = .ok (.ifCond .eq 7, 3) := dk_153 0 7 (dk_at dksX0_bears_2 13 rfl rfl)
theorem dX0_bears_63 : decode cX0_bears 63 = .ok (.iconst 0, 1) := dk_3 (dk_at dksX0_bears_2 16 rfl rfl)
theorem dX0_bears_64 : decode cX0_bears 64 = .ok (.goto 4, 3) := dk_167 0 4 (dk_at dksX0_bears_2 17 rfl rfl)
theorem dX0_bears_67 : decode cX0_bears 67 = .ok (.iconst 1, 1) := dk_4 (dk_at dksX0_bears_2 20 rfl rfl)
theorem dX0_bears_68 : decode cX0_bears 68 = .ok (.istore 5, 2) := dk_54 5 (dk_at dksX0_bears_2 21 rfl rfl)
theorem dX0_bears_70 : decode cX0_bears 70 = .ok (.aload 4, 2) := dk_25 4 (dk_at dksX0_bears_3 0 rfl rfl)
theorem dX0_bears_72 : decode cX0_bears 72 = .ok (.getfield 178, 3) := dk_180 0 178 (dk_at dksX0_bears_3 2 rfl rfl)
theorem dX0_bears_75 : decode cX0_bears 75 = .ok (.iload_n 2, 1) := dk_28 (dk_at dksX0_bears_3 5 rfl rfl)
theorem dX0_bears_76 : decode cX0_bears 76 = .ok (.iload_n 3, 1) := dk_29 (dk_at dksX0_bears_3 6 rfl rfl)
theorem dX0_bears_77 : decode cX0_bears 77 = .ok (.ifCond .ne 7, 3) := dk_154 0 7 (dk_at dksX0_bears_3 7 rfl rfl)
theorem dX0_bears_80 : decode cX0_bears 80 = .ok (.iconst 1, 1) := dk_4 (dk_at dksX0_bears_3 10 rfl rfl)
theorem dX0_bears_81 : decode cX0_bears 81 = .ok (.goto 4, 3) := dk_167 0 4 (dk_at dksX0_bears_3 11 rfl rfl)
theorem dX0_bears_84 : decode cX0_bears 84 = .ok (.iconst 0, 1) := dk_3 (dk_at dksX0_bears_3 14 rfl rfl)
theorem dX0_bears_85 : decode cX0_bears 85 = .ok (.bastore, 1) := dk_84 (dk_at dksX0_bears_3 15 rfl rfl)
theorem dX0_bears_86 : decode cX0_bears 86 = .ok (.iload 5, 2) := dk_21 5 (dk_at dksX0_bears_3 16 rfl rfl)
theorem dX0_bears_88 : decode cX0_bears 88 = .ok (.ireturn, 1) := dk_172 (dk_at dksX0_bears_3 18 rfl rfl)
abbrev cX0_ice : ByteArray := prog_1_method_22_code
def yX0_ice : MethodName := ⟨RX0, "ice", "(IIIII)I"⟩
def dkwX0_ice_7 : List UInt8 := [21, 4, 21, 8, 96, 51, 154, 0, 7, 4, 167, 0, 4, 3, 84, 132, 8, 1, 167, 255, 220, 21, 5, 172]
abbrev dktX0_ice_7 : List UInt8 := dkwX0_ice_7 ++ []
def dkwX0_ice_6 : List UInt8 := [16, 243, 172, 3, 54, 8, 21, 8, 21, 5, 162, 0, 35, 25, 6, 180, 0, 178, 28, 21, 8, 96, 25, 7]
abbrev dktX0_ice_6 : List UInt8 := dkwX0_ice_6 ++ dktX0_ice_7
def dkwX0_ice_5 : List UInt8 := [58, 7, 167, 0, 6, 16, 244, 172, 21, 4, 155, 0, 14, 21, 4, 25, 7, 190, 21, 5, 100, 164, 0, 6]
abbrev dktX0_ice_5 : List UInt8 := dkwX0_ice_5 ++ dktX0_ice_6
def dkwX0_ice_4 : List UInt8 := [180, 0, 86, 29, 50, 180, 0, 191, 58, 8, 25, 8, 193, 0, 195, 153, 0, 13, 25, 8, 192, 0, 195]
abbrev dktX0_ice_4 : List UInt8 := dkwX0_ice_4 ++ dktX0_ice_5
def dkwX0_ice_3 : List UInt8 := [58, 6, 167, 0, 6, 16, 244, 172, 42, 180, 0, 86, 29, 50, 180, 0, 191, 199, 0, 6, 16, 245, 172, 42]
abbrev dktX0_ice_3 : List UInt8 := dkwX0_ice_3 ++ dktX0_ice_4
def dkwX0_ice_2 : List UInt8 := [180, 0, 12, 27, 185, 0, 152, 2, 0, 58, 7, 25, 7, 193, 0, 135, 153, 0, 13, 25, 7, 192, 0, 135]
abbrev dktX0_ice_2 : List UInt8 := dkwX0_ice_2 ++ dktX0_ice_3
def dkwX0_ice_1 : List UInt8 := [153, 0, 21, 28, 3, 16, 49, 16, 50, 21, 5, 100, 184, 0, 185, 184, 0, 97, 154, 0, 5, 2, 172, 42]
abbrev dktX0_ice_1 : List UInt8 := dkwX0_ice_1 ++ dktX0_ice_2
def dkwX0_ice_0 : List UInt8 := [42, 27, 182, 0, 143, 153, 0, 39, 29, 184, 0, 182, 153, 0, 32, 21, 5, 3, 16, 50, 184, 0, 97]
abbrev dktX0_ice_0 : List UInt8 := dkwX0_ice_0 ++ dktX0_ice_1
theorem dksX0_ice_0 : cX0_ice.data.toList.drop 0 = dktX0_ice_0 := by decide +kernel
theorem dksX0_ice_1 : cX0_ice.data.toList.drop 23 = dktX0_ice_1 := dk_seg dksX0_ice_0 23 rfl rfl
theorem dksX0_ice_2 : cX0_ice.data.toList.drop 47 = dktX0_ice_2 := dk_seg dksX0_ice_1 24 rfl rfl
theorem dksX0_ice_3 : cX0_ice.data.toList.drop 71 = dktX0_ice_3 := dk_seg dksX0_ice_2 24 rfl rfl
theorem dksX0_ice_4 : cX0_ice.data.toList.drop 95 = dktX0_ice_4 := dk_seg dksX0_ice_3 24 rfl rfl
theorem dksX0_ice_5 : cX0_ice.data.toList.drop 118 = dktX0_ice_5 := dk_seg dksX0_ice_4 23 rfl rfl
theorem dksX0_ice_6 : cX0_ice.data.toList.drop 142 = dktX0_ice_6 := dk_seg dksX0_ice_5 24 rfl rfl
theorem dksX0_ice_7 : cX0_ice.data.toList.drop 166 = dktX0_ice_7 := dk_seg dksX0_ice_6 24 rfl rfl
theorem dX0_ice_0 : decode cX0_ice 0 = .ok (.aload_n 0, 1) := dk_42 (dk_at dksX0_ice_0 0 rfl rfl)
theorem dX0_ice_1 : decode cX0_ice 1 = .ok (.iload_n 1, 1) := dk_27 (dk_at dksX0_ice_0 1 rfl rfl)
theorem dX0_ice_2 : decode cX0_ice 2 = .ok (.invokevirtual 143, 3) := dk_182 0 143 (dk_at dksX0_ice_0 2 rfl rfl)
theorem dX0_ice_5 : decode cX0_ice 5 = .ok (.ifCond .eq 39, 3) := dk_153 0 39 (dk_at dksX0_ice_0 5 rfl rfl)
theorem dX0_ice_8 : decode cX0_ice 8 = .ok (.iload_n 3, 1) := dk_29 (dk_at dksX0_ice_0 8 rfl rfl)
theorem dX0_ice_9 : decode cX0_ice 9 = .ok (.invokestatic 182, 3) := dk_184 0 182 (dk_at dksX0_ice_0 9 rfl rfl)
theorem dX0_ice_12 : decode cX0_ice 12 = .ok (.ifCond .eq 32, 3) := dk_153 0 32 (dk_at dksX0_ice_0 12 rfl rfl)
theorem dX0_ice_15 : decode cX0_ice 15 = .ok (.iload 5, 2) := dk_21 5 (dk_at dksX0_ice_0 15 rfl rfl)
theorem dX0_ice_17 : decode cX0_ice 17 = .ok (.iconst 0, 1) := dk_3 (dk_at dksX0_ice_0 17 rfl rfl)
theorem dX0_ice_18 : decode cX0_ice 18 = .ok (.bipush 50, 2) := dk_16 50 (dk_at dksX0_ice_0 18 rfl rfl)
theorem dX0_ice_20 : decode cX0_ice 20 = .ok (.invokestatic 97, 3) := dk_184 0 97 (dk_at dksX0_ice_0 20 rfl rfl)
theorem dX0_ice_23 : decode cX0_ice 23 = .ok (.ifCond .eq 21, 3) := dk_153 0 21 (dk_at dksX0_ice_1 0 rfl rfl)
theorem dX0_ice_26 : decode cX0_ice 26 = .ok (.iload_n 2, 1) := dk_28 (dk_at dksX0_ice_1 3 rfl rfl)
theorem dX0_ice_27 : decode cX0_ice 27 = .ok (.iconst 0, 1) := dk_3 (dk_at dksX0_ice_1 4 rfl rfl)
theorem dX0_ice_28 : decode cX0_ice 28 = .ok (.bipush 49, 2) := dk_16 49 (dk_at dksX0_ice_1 5 rfl rfl)
theorem dX0_ice_30 : decode cX0_ice 30 = .ok (.bipush 50, 2) := dk_16 50 (dk_at dksX0_ice_1 7 rfl rfl)
theorem dX0_ice_32 : decode cX0_ice 32 = .ok (.iload 5, 2) := dk_21 5 (dk_at dksX0_ice_1 9 rfl rfl)
theorem dX0_ice_34 : decode cX0_ice 34 = .ok (.isub, 1) := dk_100 (dk_at dksX0_ice_1 11 rfl rfl)
theorem dX0_ice_35 : decode cX0_ice 35 = .ok (.invokestatic 185, 3) := dk_184 0 185 (dk_at dksX0_ice_1 12 rfl rfl)
theorem dX0_ice_38 : decode cX0_ice 38 = .ok (.invokestatic 97, 3) := dk_184 0 97 (dk_at dksX0_ice_1 15 rfl rfl)
theorem dX0_ice_41 : decode cX0_ice 41 = .ok (.ifCond .ne 5, 3) := dk_154 0 5 (dk_at dksX0_ice_1 18 rfl rfl)
theorem dX0_ice_44 : decode cX0_ice 44 = .ok (.iconst (-1), 1) := dk_2 (dk_at dksX0_ice_1 21 rfl rfl)
theorem dX0_ice_45 : decode cX0_ice 45 = .ok (.ireturn, 1) := dk_172 (dk_at dksX0_ice_1 22 rfl rfl)
theorem dX0_ice_46 : decode cX0_ice 46 = .ok (.aload_n 0, 1) := dk_42 (dk_at dksX0_ice_1 23 rfl rfl)
theorem dX0_ice_47 : decode cX0_ice 47 = .ok (.getfield 12, 3) := dk_180 0 12 (dk_at dksX0_ice_2 0 rfl rfl)
theorem dX0_ice_50 : decode cX0_ice 50 = .ok (.iload_n 1, 1) := dk_27 (dk_at dksX0_ice_2 3 rfl rfl)
theorem dX0_ice_51 : decode cX0_ice 51 = .ok (.invokeinterface 152 2, 5) := by decide +kernel
theorem dX0_ice_56 : decode cX0_ice 56 = .ok (.astore 7, 2) := dk_58 7 (dk_at dksX0_ice_2 9 rfl rfl)
theorem dX0_ice_58 : decode cX0_ice 58 = .ok (.aload 7, 2) := dk_25 7 (dk_at dksX0_ice_2 11 rfl rfl)
theorem dX0_ice_60 : decode cX0_ice 60 = .ok (.instanceof 135, 3) := dk_193 0 135 (dk_at dksX0_ice_2 13 rfl rfl)
theorem dX0_ice_63 : decode cX0_ice 63 = .ok (.ifCond .eq 13, 3) := dk_153 0 13 (dk_at dksX0_ice_2 16 rfl rfl)
theorem dX0_ice_66 : decode cX0_ice 66 = .ok (.aload 7, 2) := dk_25 7 (dk_at dksX0_ice_2 19 rfl rfl)
theorem dX0_ice_68 : decode cX0_ice 68 = .ok (.checkcast 135, 3) := dk_192 0 135 (dk_at dksX0_ice_2 21 rfl rfl)
theorem dX0_ice_71 : decode cX0_ice 71 = .ok (.astore 6, 2) := dk_58 6 (dk_at dksX0_ice_3 0 rfl rfl)
theorem dX0_ice_73 : decode cX0_ice 73 = .ok (.goto 6, 3) := dk_167 0 6 (dk_at dksX0_ice_3 2 rfl rfl)
theorem dX0_ice_76 : decode cX0_ice 76 = .ok (.bipush (-12), 2) := dk_16 244 (dk_at dksX0_ice_3 5 rfl rfl)
theorem dX0_ice_78 : decode cX0_ice 78 = .ok (.ireturn, 1) := dk_172 (dk_at dksX0_ice_3 7 rfl rfl)
theorem dX0_ice_79 : decode cX0_ice 79 = .ok (.aload_n 0, 1) := dk_42 (dk_at dksX0_ice_3 8 rfl rfl)
theorem dX0_ice_80 : decode cX0_ice 80 = .ok (.getfield 86, 3) := dk_180 0 86 (dk_at dksX0_ice_3 9 rfl rfl)
theorem dX0_ice_83 : decode cX0_ice 83 = .ok (.iload_n 3, 1) := dk_29 (dk_at dksX0_ice_3 12 rfl rfl)
theorem dX0_ice_84 : decode cX0_ice 84 = .ok (.aaload, 1) := dk_50 (dk_at dksX0_ice_3 13 rfl rfl)
theorem dX0_ice_85 : decode cX0_ice 85 = .ok (.getfield 191, 3) := dk_180 0 191 (dk_at dksX0_ice_3 14 rfl rfl)
theorem dX0_ice_88 : decode cX0_ice 88 = .ok (.ifnonnull 6, 3) := dk_199 0 6 (dk_at dksX0_ice_3 17 rfl rfl)
theorem dX0_ice_91 : decode cX0_ice 91 = .ok (.bipush (-11), 2) := dk_16 245 (dk_at dksX0_ice_3 20 rfl rfl)
theorem dX0_ice_93 : decode cX0_ice 93 = .ok (.ireturn, 1) := dk_172 (dk_at dksX0_ice_3 22 rfl rfl)
theorem dX0_ice_94 : decode cX0_ice 94 = .ok (.aload_n 0, 1) := dk_42 (dk_at dksX0_ice_3 23 rfl rfl)
theorem dX0_ice_95 : decode cX0_ice 95 = .ok (.getfield 86, 3) := dk_180 0 86 (dk_at dksX0_ice_4 0 rfl rfl)
theorem dX0_ice_98 : decode cX0_ice 98 = .ok (.iload_n 3, 1) := dk_29 (dk_at dksX0_ice_4 3 rfl rfl)
theorem dX0_ice_99 : decode cX0_ice 99 = .ok (.aaload, 1) := dk_50 (dk_at dksX0_ice_4 4 rfl rfl)
theorem dX0_ice_100 : decode cX0_ice 100 = .ok (.getfield 191, 3) := dk_180 0 191 (dk_at dksX0_ice_4 5 rfl rfl)
theorem dX0_ice_103 : decode cX0_ice 103 = .ok (.astore 8, 2) := dk_58 8 (dk_at dksX0_ice_4 8 rfl rfl)
theorem dX0_ice_105 : decode cX0_ice 105 = .ok (.aload 8, 2) := dk_25 8 (dk_at dksX0_ice_4 10 rfl rfl)
theorem dX0_ice_107 : decode cX0_ice 107 = .ok (.instanceof 195, 3) := dk_193 0 195 (dk_at dksX0_ice_4 12 rfl rfl)
theorem dX0_ice_110 : decode cX0_ice 110 = .ok (.ifCond .eq 13, 3) := dk_153 0 13 (dk_at dksX0_ice_4 15 rfl rfl)
theorem dX0_ice_113 : decode cX0_ice 113 = .ok (.aload 8, 2) := dk_25 8 (dk_at dksX0_ice_4 18 rfl rfl)
theorem dX0_ice_115 : decode cX0_ice 115 = .ok (.checkcast 195, 3) := dk_192 0 195 (dk_at dksX0_ice_4 20 rfl rfl)
theorem dX0_ice_118 : decode cX0_ice 118 = .ok (.astore 7, 2) := dk_58 7 (dk_at dksX0_ice_5 0 rfl rfl)
theorem dX0_ice_120 : decode cX0_ice 120 = .ok (.goto 6, 3) := dk_167 0 6 (dk_at dksX0_ice_5 2 rfl rfl)
theorem dX0_ice_123 : decode cX0_ice 123 = .ok (.bipush (-12), 2) := dk_16 244 (dk_at dksX0_ice_5 5 rfl rfl)
theorem dX0_ice_125 : decode cX0_ice 125 = .ok (.ireturn, 1) := dk_172 (dk_at dksX0_ice_5 7 rfl rfl)
theorem dX0_ice_126 : decode cX0_ice 126 = .ok (.iload 4, 2) := dk_21 4 (dk_at dksX0_ice_5 8 rfl rfl)
theorem dX0_ice_128 : decode cX0_ice 128 = .ok (.ifCond .lt 14, 3) := dk_155 0 14 (dk_at dksX0_ice_5 10 rfl rfl)
theorem dX0_ice_131 : decode cX0_ice 131 = .ok (.iload 4, 2) := dk_21 4 (dk_at dksX0_ice_5 13 rfl rfl)
theorem dX0_ice_133 : decode cX0_ice 133 = .ok (.aload 7, 2) := dk_25 7 (dk_at dksX0_ice_5 15 rfl rfl)
theorem dX0_ice_135 : decode cX0_ice 135 = .ok (.arraylength, 1) := dk_190 (dk_at dksX0_ice_5 17 rfl rfl)
theorem dX0_ice_136 : decode cX0_ice 136 = .ok (.iload 5, 2) := dk_21 5 (dk_at dksX0_ice_5 18 rfl rfl)
theorem dX0_ice_138 : decode cX0_ice 138 = .ok (.isub, 1) := dk_100 (dk_at dksX0_ice_5 20 rfl rfl)
theorem dX0_ice_139 : decode cX0_ice 139 = .ok (.if_icmp .le 6, 3) := dk_164 0 6 (dk_at dksX0_ice_5 21 rfl rfl)
theorem dX0_ice_142 : decode cX0_ice 142 = .ok (.bipush (-13), 2) := dk_16 243 (dk_at dksX0_ice_6 0 rfl rfl)
theorem dX0_ice_144 : decode cX0_ice 144 = .ok (.ireturn, 1) := dk_172 (dk_at dksX0_ice_6 2 rfl rfl)
theorem dX0_ice_145 : decode cX0_ice 145 = .ok (.iconst 0, 1) := dk_3 (dk_at dksX0_ice_6 3 rfl rfl)
theorem dX0_ice_146 : decode cX0_ice 146 = .ok (.istore 8, 2) := dk_54 8 (dk_at dksX0_ice_6 4 rfl rfl)
theorem dX0_ice_148 : decode cX0_ice 148 = .ok (.iload 8, 2) := dk_21 8 (dk_at dksX0_ice_6 6 rfl rfl)
theorem dX0_ice_150 : decode cX0_ice 150 = .ok (.iload 5, 2) := dk_21 5 (dk_at dksX0_ice_6 8 rfl rfl)
theorem dX0_ice_152 : decode cX0_ice 152 = .ok (.if_icmp .ge 35, 3) := dk_162 0 35 (dk_at dksX0_ice_6 10 rfl rfl)
theorem dX0_ice_155 : decode cX0_ice 155 = .ok (.aload 6, 2) := dk_25 6 (dk_at dksX0_ice_6 13 rfl rfl)
theorem dX0_ice_157 : decode cX0_ice 157 = .ok (.getfield 178, 3) := dk_180 0 178 (dk_at dksX0_ice_6 15 rfl rfl)
theorem dX0_ice_160 : decode cX0_ice 160 = .ok (.iload_n 2, 1) := dk_28 (dk_at dksX0_ice_6 18 rfl rfl)
theorem dX0_ice_161 : decode cX0_ice 161 = .ok (.iload 8, 2) := dk_21 8 (dk_at dksX0_ice_6 19 rfl rfl)
theorem dX0_ice_163 : decode cX0_ice 163 = .ok (.iadd, 1) := dk_96 (dk_at dksX0_ice_6 21 rfl rfl)
theorem dX0_ice_164 : decode cX0_ice 164 = .ok (.aload 7, 2) := dk_25 7 (dk_at dksX0_ice_6 22 rfl rfl)
theorem dX0_ice_166 : decode cX0_ice 166 = .ok (.iload 4, 2) := dk_21 4 (dk_at dksX0_ice_7 0 rfl rfl)
theorem dX0_ice_168 : decode cX0_ice 168 = .ok (.iload 8, 2) := dk_21 8 (dk_at dksX0_ice_7 2 rfl rfl)
theorem dX0_ice_170 : decode cX0_ice 170 = .ok (.iadd, 1) := dk_96 (dk_at dksX0_ice_7 4 rfl rfl)
theorem dX0_ice_171 : decode cX0_ice 171 = .ok (.baload, 1) := dk_51 (dk_at dksX0_ice_7 5 rfl rfl)
theorem dX0_ice_172 : decode cX0_ice 172 = .ok (.ifCond .ne 7, 3) := dk_154 0 7 (dk_at dksX0_ice_7 6 rfl rfl)
theorem dX0_ice_175 : decode cX0_ice 175 = .ok (.iconst 1, 1) := dk_4 (dk_at dksX0_ice_7 9 rfl rfl)
theorem dX0_ice_176 : decode cX0_ice 176 = .ok (.goto 4, 3) := dk_167 0 4 (dk_at dksX0_ice_7 10 rfl rfl)
theorem dX0_ice_179 : decode cX0_ice 179 = .ok (.iconst 0, 1) := dk_3 (dk_at dksX0_ice_7 13 rfl rfl)
theorem dX0_ice_180 : decode cX0_ice 180 = .ok (.bastore, 1) := dk_84 (dk_at dksX0_ice_7 14 rfl rfl)
theorem dX0_ice_181 : decode cX0_ice 181 = .ok (.iinc 8 1, 3) := dk_132 8 1 (dk_at dksX0_ice_7 15 rfl rfl)
theorem dX0_ice_184 : decode cX0_ice 184 = .ok (.goto (-36), 3) := dk_167 255 220 (dk_at dksX0_ice_7 18 rfl rfl)
theorem dX0_ice_187 : decode cX0_ice 187 = .ok (.iload 5, 2) := dk_21 5 (dk_at dksX0_ice_7 21 rfl rfl)
theorem dX0_ice_189 : decode cX0_ice 189 = .ok (.ireturn, 1) := dk_172 (dk_at dksX0_ice_7 23 rfl rfl)
abbrev cX0_isSheet : ByteArray := prog_1_method_84_code
def yX0_isSheet : MethodName := ⟨RX0, "isSheet", "(I)Z"⟩
def dkwX0_isSheet_0 : List UInt8 := [26, 3, 6, 184, 0, 97, 172]
abbrev dktX0_isSheet_0 : List UInt8 := dkwX0_isSheet_0 ++ []
theorem dksX0_isSheet_0 : cX0_isSheet.data.toList.drop 0 = dktX0_isSheet_0 := by decide +kernel
theorem dX0_isSheet_0 : decode cX0_isSheet 0 = .ok (.iload_n 0, 1) := dk_26 (dk_at dksX0_isSheet_0 0 rfl rfl)
theorem dX0_isSheet_1 : decode cX0_isSheet 1 = .ok (.iconst 0, 1) := dk_3 (dk_at dksX0_isSheet_0 1 rfl rfl)
theorem dX0_isSheet_2 : decode cX0_isSheet 2 = .ok (.iconst 3, 1) := dk_6 (dk_at dksX0_isSheet_0 2 rfl rfl)
theorem dX0_isSheet_3 : decode cX0_isSheet 3 = .ok (.invokestatic 97, 3) := dk_184 0 97 (dk_at dksX0_isSheet_0 3 rfl rfl)
theorem dX0_isSheet_6 : decode cX0_isSheet 6 = .ok (.ireturn, 1) := dk_172 (dk_at dksX0_isSheet_0 6 rfl rfl)
abbrev cX0_last : ByteArray := prog_1_method_23_code
def yX0_last : MethodName := ⟨RX0, "last", "(I)I"⟩
def dkwX0_last_3 : List UInt8 := [167, 255, 233, 29, 42, 180, 0, 169, 162, 0, 8, 16, 252, 167, 0, 4, 29, 172]
abbrev dktX0_last_3 : List UInt8 := dkwX0_last_3 ++ []
def dkwX0_last_2 : List UInt8 := [29, 17, 39, 15, 162, 0, 22, 44, 29, 4, 96, 184, 0, 196, 182, 0, 200, 153, 0, 9, 132, 3, 1]
abbrev dktX0_last_2 : List UInt8 := dkwX0_last_2 ++ dktX0_last_3
def dkwX0_last_1 : List UInt8 := [193, 0, 135, 153, 0, 11, 45, 192, 0, 135, 77, 167, 0, 6, 16, 244, 172, 42, 180, 0, 169, 4, 100, 62]
abbrev dktX0_last_1 : List UInt8 := dkwX0_last_1 ++ dktX0_last_2
def dkwX0_last_0 : List UInt8 := [42, 27, 182, 0, 143, 154, 0, 5, 2, 172, 42, 180, 0, 12, 27, 185, 0, 152, 2, 0, 78, 45]
abbrev dktX0_last_0 : List UInt8 := dkwX0_last_0 ++ dktX0_last_1
theorem dksX0_last_0 : cX0_last.data.toList.drop 0 = dktX0_last_0 := by decide +kernel
theorem dksX0_last_1 : cX0_last.data.toList.drop 22 = dktX0_last_1 := dk_seg dksX0_last_0 22 rfl rfl
theorem dksX0_last_2 : cX0_last.data.toList.drop 46 = dktX0_last_2 := dk_seg dksX0_last_1 24 rfl rfl
theorem dksX0_last_3 : cX0_last.data.toList.drop 69 = dktX0_last_3 := dk_seg dksX0_last_2 23 rfl rfl
theorem dX0_last_0 : decode cX0_last 0 = .ok (.aload_n 0, 1) := dk_42 (dk_at dksX0_last_0 0 rfl rfl)
theorem dX0_last_1 : decode cX0_last 1 = .ok (.iload_n 1, 1) := dk_27 (dk_at dksX0_last_0 1 rfl rfl)
theorem dX0_last_2 : decode cX0_last 2 = .ok (.invokevirtual 143, 3) := dk_182 0 143 (dk_at dksX0_last_0 2 rfl rfl)
theorem dX0_last_5 : decode cX0_last 5 = .ok (.ifCond .ne 5, 3) := dk_154 0 5 (dk_at dksX0_last_0 5 rfl rfl)
theorem dX0_last_8 : decode cX0_last 8 = .ok (.iconst (-1), 1) := dk_2 (dk_at dksX0_last_0 8 rfl rfl)
theorem dX0_last_9 : decode cX0_last 9 = .ok (.ireturn, 1) := dk_172 (dk_at dksX0_last_0 9 rfl rfl)
theorem dX0_last_10 : decode cX0_last 10 = .ok (.aload_n 0, 1) := dk_42 (dk_at dksX0_last_0 10 rfl rfl)
theorem dX0_last_11 : decode cX0_last 11 = .ok (.getfield 12, 3) := dk_180 0 12 (dk_at dksX0_last_0 11 rfl rfl)
theorem dX0_last_14 : decode cX0_last 14 = .ok (.iload_n 1, 1) := dk_27 (dk_at dksX0_last_0 14 rfl rfl)
theorem dX0_last_15 : decode cX0_last 15 = .ok (.invokeinterface 152 2, 5) := by decide +kernel
theorem dX0_last_20 : decode cX0_last 20 = .ok (.astore_n 3, 1) := dk_78 (dk_at dksX0_last_0 20 rfl rfl)
theorem dX0_last_21 : decode cX0_last 21 = .ok (.aload_n 3, 1) := dk_45 (dk_at dksX0_last_0 21 rfl rfl)
theorem dX0_last_22 : decode cX0_last 22 = .ok (.instanceof 135, 3) := dk_193 0 135 (dk_at dksX0_last_1 0 rfl rfl)
theorem dX0_last_25 : decode cX0_last 25 = .ok (.ifCond .eq 11, 3) := dk_153 0 11 (dk_at dksX0_last_1 3 rfl rfl)
theorem dX0_last_28 : decode cX0_last 28 = .ok (.aload_n 3, 1) := dk_45 (dk_at dksX0_last_1 6 rfl rfl)
theorem dX0_last_29 : decode cX0_last 29 = .ok (.checkcast 135, 3) := dk_192 0 135 (dk_at dksX0_last_1 7 rfl rfl)
theorem dX0_last_32 : decode cX0_last 32 = .ok (.astore_n 2, 1) := dk_77 (dk_at dksX0_last_1 10 rfl rfl)
theorem dX0_last_33 : decode cX0_last 33 = .ok (.goto 6, 3) := dk_167 0 6 (dk_at dksX0_last_1 11 rfl rfl)
theorem dX0_last_36 : decode cX0_last 36 = .ok (.bipush (-12), 2) := dk_16 244 (dk_at dksX0_last_1 14 rfl rfl)
theorem dX0_last_38 : decode cX0_last 38 = .ok (.ireturn, 1) := dk_172 (dk_at dksX0_last_1 16 rfl rfl)
theorem dX0_last_39 : decode cX0_last 39 = .ok (.aload_n 0, 1) := dk_42 (dk_at dksX0_last_1 17 rfl rfl)
theorem dX0_last_40 : decode cX0_last 40 = .ok (.getfield 169, 3) := dk_180 0 169 (dk_at dksX0_last_1 18 rfl rfl)
theorem dX0_last_43 : decode cX0_last 43 = .ok (.iconst 1, 1) := dk_4 (dk_at dksX0_last_1 21 rfl rfl)
theorem dX0_last_44 : decode cX0_last 44 = .ok (.isub, 1) := dk_100 (dk_at dksX0_last_1 22 rfl rfl)
theorem dX0_last_45 : decode cX0_last 45 = .ok (.istore_n 3, 1) := dk_62 (dk_at dksX0_last_1 23 rfl rfl)
theorem dX0_last_46 : decode cX0_last 46 = .ok (.iload_n 3, 1) := dk_29 (dk_at dksX0_last_2 0 rfl rfl)
theorem dX0_last_47 : decode cX0_last 47 = .ok (.sipush 9999, 3) := dk_17 39 15 (dk_at dksX0_last_2 1 rfl rfl)
theorem dX0_last_50 : decode cX0_last 50 = .ok (.if_icmp .ge 22, 3) := dk_162 0 22 (dk_at dksX0_last_2 4 rfl rfl)
theorem dX0_last_53 : decode cX0_last 53 = .ok (.aload_n 2, 1) := dk_44 (dk_at dksX0_last_2 7 rfl rfl)
theorem dX0_last_54 : decode cX0_last 54 = .ok (.iload_n 3, 1) := dk_29 (dk_at dksX0_last_2 8 rfl rfl)
theorem dX0_last_55 : decode cX0_last 55 = .ok (.iconst 1, 1) := dk_4 (dk_at dksX0_last_2 9 rfl rfl)
theorem dX0_last_56 : decode cX0_last 56 = .ok (.iadd, 1) := dk_96 (dk_at dksX0_last_2 10 rfl rfl)
theorem dX0_last_57 : decode cX0_last 57 = .ok (.invokestatic 196, 3) := dk_184 0 196 (dk_at dksX0_last_2 11 rfl rfl)
theorem dX0_last_60 : decode cX0_last 60 = .ok (.invokevirtual 200, 3) := dk_182 0 200 (dk_at dksX0_last_2 14 rfl rfl)
theorem dX0_last_63 : decode cX0_last 63 = .ok (.ifCond .eq 9, 3) := dk_153 0 9 (dk_at dksX0_last_2 17 rfl rfl)
theorem dX0_last_66 : decode cX0_last 66 = .ok (.iinc 3 1, 3) := dk_132 3 1 (dk_at dksX0_last_2 20 rfl rfl)
theorem dX0_last_69 : decode cX0_last 69 = .ok (.goto (-23), 3) := dk_167 255 233 (dk_at dksX0_last_3 0 rfl rfl)
theorem dX0_last_72 : decode cX0_last 72 = .ok (.iload_n 3, 1) := dk_29 (dk_at dksX0_last_3 3 rfl rfl)
theorem dX0_last_73 : decode cX0_last 73 = .ok (.aload_n 0, 1) := dk_42 (dk_at dksX0_last_3 4 rfl rfl)
theorem dX0_last_74 : decode cX0_last 74 = .ok (.getfield 169, 3) := dk_180 0 169 (dk_at dksX0_last_3 5 rfl rfl)
theorem dX0_last_77 : decode cX0_last 77 = .ok (.if_icmp .ge 8, 3) := dk_162 0 8 (dk_at dksX0_last_3 8 rfl rfl)
theorem dX0_last_80 : decode cX0_last 80 = .ok (.bipush (-4), 2) := dk_16 252 (dk_at dksX0_last_3 11 rfl rfl)
theorem dX0_last_82 : decode cX0_last 82 = .ok (.goto 4, 3) := dk_167 0 4 (dk_at dksX0_last_3 13 rfl rfl)
theorem dX0_last_85 : decode cX0_last 85 = .ok (.iload_n 3, 1) := dk_29 (dk_at dksX0_last_3 16 rfl rfl)
theorem dX0_last_86 : decode cX0_last 86 = .ok (.ireturn, 1) := dk_172 (dk_at dksX0_last_3 17 rfl rfl)
abbrev cX0_weekOf : ByteArray := prog_1_method_2_code
def yX0_weekOf : MethodName := ⟨RX0, "weekOf", "(I)I"⟩
def dkwX0_weekOf_0 : List UInt8 := [26, 16, 24, 108, 16, 7, 108, 16, 50, 112, 172]
abbrev dktX0_weekOf_0 : List UInt8 := dkwX0_weekOf_0 ++ []
theorem dksX0_weekOf_0 : cX0_weekOf.data.toList.drop 0 = dktX0_weekOf_0 := by decide +kernel
theorem dX0_weekOf_0 : decode cX0_weekOf 0 = .ok (.iload_n 0, 1) := dk_26 (dk_at dksX0_weekOf_0 0 rfl rfl)
theorem dX0_weekOf_1 : decode cX0_weekOf 1 = .ok (.bipush 24, 2) := dk_16 24 (dk_at dksX0_weekOf_0 1 rfl rfl)
theorem dX0_weekOf_3 : decode cX0_weekOf 3 = .ok (.idiv, 1) := dk_108 (dk_at dksX0_weekOf_0 3 rfl rfl)
theorem dX0_weekOf_4 : decode cX0_weekOf 4 = .ok (.bipush 7, 2) := dk_16 7 (dk_at dksX0_weekOf_0 4 rfl rfl)
theorem dX0_weekOf_6 : decode cX0_weekOf 6 = .ok (.idiv, 1) := dk_108 (dk_at dksX0_weekOf_0 6 rfl rfl)
theorem dX0_weekOf_7 : decode cX0_weekOf 7 = .ok (.bipush 50, 2) := dk_16 50 (dk_at dksX0_weekOf_0 7 rfl rfl)
theorem dX0_weekOf_9 : decode cX0_weekOf 9 = .ok (.irem, 1) := dk_112 (dk_at dksX0_weekOf_0 9 rfl rfl)
theorem dX0_weekOf_10 : decode cX0_weekOf 10 = .ok (.ireturn, 1) := dk_172 (dk_at dksX0_weekOf_0 10 rfl rfl)
abbrev cX0_place : ByteArray := prog_1_method_28_code
def yX0_place : MethodName := ⟨RX0, "place", "(II)I"⟩
def dkwX0_place_5 : List UInt8 := [172]
abbrev dktX0_place_5 : List UInt8 := dkwX0_place_5 ++ []
def dkwX0_place_4 : List UInt8 := [45, 193, 0, 125, 153, 0, 17, 45, 192, 0, 125, 58, 4, 25, 4, 180, 0, 160, 167, 0, 4, 3, 172, 2]
abbrev dktX0_place_4 : List UInt8 := dkwX0_place_4 ++ dktX0_place_5
def dkwX0_place_3 : List UInt8 := [45, 182, 0, 215, 172, 45, 180, 0, 225, 172, 45, 182, 0, 218, 172, 42, 45, 28, 6, 100, 182, 0, 221, 172]
abbrev dktX0_place_3 : List UInt8 := dkwX0_place_3 ++ dktX0_place_4
def dkwX0_place_2 : List UInt8 := [170, 0, 0, 0, 0, 0, 90, 0, 0, 0, 0, 0, 0, 0, 6, 0, 0, 0, 43, 0, 0, 0, 48, 0, 0, 0, 53, 0, 0, 0, 58, 0, 0, 0, 58, 0, 0, 0, 58, 0, 0, 0, 67]
abbrev dktX0_place_2 : List UInt8 := dkwX0_place_2 ++ dktX0_place_3
def dkwX0_place_1 : List UInt8 := [28]
abbrev dktX0_place_1 : List UInt8 := dkwX0_place_1 ++ dktX0_place_2
def dkwX0_place_0 : List UInt8 := [42, 27, 182, 0, 143, 154, 0, 5, 2, 172, 42, 180, 0, 12, 27, 185, 0, 152, 2, 0, 192, 0, 106, 78]
abbrev dktX0_place_0 : List UInt8 := dkwX0_place_0 ++ dktX0_place_1
theorem dksX0_place_0 : cX0_place.data.toList.drop 0 = dktX0_place_0 := by decide +kernel
theorem dksX0_place_1 : cX0_place.data.toList.drop 24 = dktX0_place_1 := dk_seg dksX0_place_0 24 rfl rfl
theorem dksX0_place_2 : cX0_place.data.toList.drop 25 = dktX0_place_2 := dk_seg dksX0_place_1 1 rfl rfl
theorem dksX0_place_3 : cX0_place.data.toList.drop 68 = dktX0_place_3 := dk_seg dksX0_place_2 43 rfl rfl
theorem dksX0_place_4 : cX0_place.data.toList.drop 92 = dktX0_place_4 := dk_seg dksX0_place_3 24 rfl rfl
theorem dksX0_place_5 : cX0_place.data.toList.drop 116 = dktX0_place_5 := dk_seg dksX0_place_4 24 rfl rfl
theorem dX0_place_0 : decode cX0_place 0 = .ok (.aload_n 0, 1) := dk_42 (dk_at dksX0_place_0 0 rfl rfl)
theorem dX0_place_1 : decode cX0_place 1 = .ok (.iload_n 1, 1) := dk_27 (dk_at dksX0_place_0 1 rfl rfl)
theorem dX0_place_2 : decode cX0_place 2 = .ok (.invokevirtual 143, 3) := dk_182 0 143 (dk_at dksX0_place_0 2 rfl rfl)
theorem dX0_place_5 : decode cX0_place 5 = .ok (.ifCond .ne 5, 3) := dk_154 0 5 (dk_at dksX0_place_0 5 rfl rfl)
theorem dX0_place_8 : decode cX0_place 8 = .ok (.iconst (-1), 1) := dk_2 (dk_at dksX0_place_0 8 rfl rfl)
theorem dX0_place_9 : decode cX0_place 9 = .ok (.ireturn, 1) := dk_172 (dk_at dksX0_place_0 9 rfl rfl)
theorem dX0_place_10 : decode cX0_place 10 = .ok (.aload_n 0, 1) := dk_42 (dk_at dksX0_place_0 10 rfl rfl)
theorem dX0_place_11 : decode cX0_place 11 = .ok (.getfield 12, 3) := dk_180 0 12 (dk_at dksX0_place_0 11 rfl rfl)
theorem dX0_place_14 : decode cX0_place 14 = .ok (.iload_n 1, 1) := dk_27 (dk_at dksX0_place_0 14 rfl rfl)
theorem dX0_place_15 : decode cX0_place 15 = .ok (.invokeinterface 152 2, 5) := by decide +kernel
theorem dX0_place_20 : decode cX0_place 20 = .ok (.checkcast 106, 3) := dk_192 0 106 (dk_at dksX0_place_0 20 rfl rfl)
theorem dX0_place_23 : decode cX0_place 23 = .ok (.astore_n 3, 1) := dk_78 (dk_at dksX0_place_0 23 rfl rfl)
theorem dX0_place_24 : decode cX0_place 24 = .ok (.iload_n 2, 1) := dk_28 (dk_at dksX0_place_1 0 rfl rfl)
theorem dX0_place_25 : decode cX0_place 25 = .ok (.tableswitch 90 0 6 #[43, 48, 53, 58, 58, 58, 67], 43) := by decide +kernel
theorem dX0_place_68 : decode cX0_place 68 = .ok (.aload_n 3, 1) := dk_45 (dk_at dksX0_place_3 0 rfl rfl)
theorem dX0_place_69 : decode cX0_place 69 = .ok (.invokevirtual 215, 3) := dk_182 0 215 (dk_at dksX0_place_3 1 rfl rfl)
theorem dX0_place_72 : decode cX0_place 72 = .ok (.ireturn, 1) := dk_172 (dk_at dksX0_place_3 4 rfl rfl)
theorem dX0_place_73 : decode cX0_place 73 = .ok (.aload_n 3, 1) := dk_45 (dk_at dksX0_place_3 5 rfl rfl)
theorem dX0_place_74 : decode cX0_place 74 = .ok (.getfield 225, 3) := dk_180 0 225 (dk_at dksX0_place_3 6 rfl rfl)
theorem dX0_place_77 : decode cX0_place 77 = .ok (.ireturn, 1) := dk_172 (dk_at dksX0_place_3 9 rfl rfl)
theorem dX0_place_78 : decode cX0_place 78 = .ok (.aload_n 3, 1) := dk_45 (dk_at dksX0_place_3 10 rfl rfl)
theorem dX0_place_79 : decode cX0_place 79 = .ok (.invokevirtual 218, 3) := dk_182 0 218 (dk_at dksX0_place_3 11 rfl rfl)
theorem dX0_place_82 : decode cX0_place 82 = .ok (.ireturn, 1) := dk_172 (dk_at dksX0_place_3 14 rfl rfl)
theorem dX0_place_83 : decode cX0_place 83 = .ok (.aload_n 0, 1) := dk_42 (dk_at dksX0_place_3 15 rfl rfl)
theorem dX0_place_84 : decode cX0_place 84 = .ok (.aload_n 3, 1) := dk_45 (dk_at dksX0_place_3 16 rfl rfl)
theorem dX0_place_85 : decode cX0_place 85 = .ok (.iload_n 2, 1) := dk_28 (dk_at dksX0_place_3 17 rfl rfl)
theorem dX0_place_86 : decode cX0_place 86 = .ok (.iconst 3, 1) := dk_6 (dk_at dksX0_place_3 18 rfl rfl)
theorem dX0_place_87 : decode cX0_place 87 = .ok (.isub, 1) := dk_100 (dk_at dksX0_place_3 19 rfl rfl)
theorem dX0_place_88 : decode cX0_place 88 = .ok (.invokevirtual 221, 3) := dk_182 0 221 (dk_at dksX0_place_3 20 rfl rfl)
theorem dX0_place_91 : decode cX0_place 91 = .ok (.ireturn, 1) := dk_172 (dk_at dksX0_place_3 23 rfl rfl)
theorem dX0_place_92 : decode cX0_place 92 = .ok (.aload_n 3, 1) := dk_45 (dk_at dksX0_place_4 0 rfl rfl)
theorem dX0_place_93 : decode cX0_place 93 = .ok (.instanceof 125, 3) := dk_193 0 125 (dk_at dksX0_place_4 1 rfl rfl)
theorem dX0_place_96 : decode cX0_place 96 = .ok (.ifCond .eq 17, 3) := dk_153 0 17 (dk_at dksX0_place_4 4 rfl rfl)
theorem dX0_place_99 : decode cX0_place 99 = .ok (.aload_n 3, 1) := dk_45 (dk_at dksX0_place_4 7 rfl rfl)
theorem dX0_place_100 : decode cX0_place 100 = .ok (.checkcast 125, 3) := dk_192 0 125 (dk_at dksX0_place_4 8 rfl rfl)
theorem dX0_place_103 : decode cX0_place 103 = .ok (.astore 4, 2) := dk_58 4 (dk_at dksX0_place_4 11 rfl rfl)
theorem dX0_place_105 : decode cX0_place 105 = .ok (.aload 4, 2) := dk_25 4 (dk_at dksX0_place_4 13 rfl rfl)
theorem dX0_place_107 : decode cX0_place 107 = .ok (.getfield 160, 3) := dk_180 0 160 (dk_at dksX0_place_4 15 rfl rfl)
theorem dX0_place_110 : decode cX0_place 110 = .ok (.goto 4, 3) := dk_167 0 4 (dk_at dksX0_place_4 18 rfl rfl)
theorem dX0_place_113 : decode cX0_place 113 = .ok (.iconst 0, 1) := dk_3 (dk_at dksX0_place_4 21 rfl rfl)
theorem dX0_place_114 : decode cX0_place 114 = .ok (.ireturn, 1) := dk_172 (dk_at dksX0_place_4 22 rfl rfl)
theorem dX0_place_115 : decode cX0_place 115 = .ok (.iconst (-1), 1) := dk_2 (dk_at dksX0_place_4 23 rfl rfl)
theorem dX0_place_116 : decode cX0_place 116 = .ok (.ireturn, 1) := dk_172 (dk_at dksX0_place_5 0 rfl rfl)
abbrev cX0_manyAt : ByteArray := prog_1_method_26_code
def yX0_manyAt : MethodName := ⟨RX0, "manyAt", "(LRoadHouses$Place;I)I"⟩
def dkwX0_manyAt_3 : List UInt8 := [25, 5, 180, 0, 212, 153, 0, 7, 4, 167, 0, 4, 3, 96, 62, 132, 4, 1, 167, 255, 172, 29, 172]
abbrev dktX0_manyAt_3 : List UInt8 := dkwX0_manyAt_3 ++ []
def dkwX0_manyAt_2 : List UInt8 := [166, 0, 7, 4, 167, 0, 33, 3, 167, 0, 29, 25, 5, 180, 0, 209, 43, 166, 0, 19, 28, 153, 0, 11]
abbrev dktX0_manyAt_2 : List UInt8 := dkwX0_manyAt_2 ++ dktX0_manyAt_3
def dkwX0_manyAt_1 : List UInt8 := [21, 4, 185, 0, 152, 2, 0, 192, 0, 203, 58, 5, 29, 28, 5, 160, 0, 20, 25, 5, 180, 0, 205, 43]
abbrev dktX0_manyAt_1 : List UInt8 := dkwX0_manyAt_1 ++ dktX0_manyAt_2
def dkwX0_manyAt_0 : List UInt8 := [3, 62, 3, 54, 4, 21, 4, 42, 180, 0, 28, 185, 0, 91, 1, 0, 162, 0, 76, 42, 180, 0, 28]
abbrev dktX0_manyAt_0 : List UInt8 := dkwX0_manyAt_0 ++ dktX0_manyAt_1
theorem dksX0_manyAt_0 : cX0_manyAt.data.toList.drop 0 = dktX0_manyAt_0 := by decide +kernel
theorem dksX0_manyAt_1 : cX0_manyAt.data.toList.drop 23 = dktX0_manyAt_1 := dk_seg dksX0_manyAt_0 23 rfl rfl
theorem dksX0_manyAt_2 : cX0_manyAt.data.toList.drop 47 = dktX0_manyAt_2 := dk_seg dksX0_manyAt_1 24 rfl rfl
theorem dksX0_manyAt_3 : cX0_manyAt.data.toList.drop 71 = dktX0_manyAt_3 := dk_seg dksX0_manyAt_2 24 rfl rfl
theorem dX0_manyAt_0 : decode cX0_manyAt 0 = .ok (.iconst 0, 1) := dk_3 (dk_at dksX0_manyAt_0 0 rfl rfl)
theorem dX0_manyAt_1 : decode cX0_manyAt 1 = .ok (.istore_n 3, 1) := dk_62 (dk_at dksX0_manyAt_0 1 rfl rfl)
theorem dX0_manyAt_2 : decode cX0_manyAt 2 = .ok (.iconst 0, 1) := dk_3 (dk_at dksX0_manyAt_0 2 rfl rfl)
theorem dX0_manyAt_3 : decode cX0_manyAt 3 = .ok (.istore 4, 2) := dk_54 4 (dk_at dksX0_manyAt_0 3 rfl rfl)
theorem dX0_manyAt_5 : decode cX0_manyAt 5 = .ok (.iload 4, 2) := dk_21 4 (dk_at dksX0_manyAt_0 5 rfl rfl)
theorem dX0_manyAt_7 : decode cX0_manyAt 7 = .ok (.aload_n 0, 1) := dk_42 (dk_at dksX0_manyAt_0 7 rfl rfl)
theorem dX0_manyAt_8 : decode cX0_manyAt 8 = .ok (.getfield 28, 3) := dk_180 0 28 (dk_at dksX0_manyAt_0 8 rfl rfl)
theorem dX0_manyAt_11 : decode cX0_manyAt 11 = .ok (.invokeinterface 91 1, 5) := by decide +kernel
theorem dX0_manyAt_16 : decode cX0_manyAt 16 = .ok (.if_icmp .ge 76, 3) := dk_162 0 76 (dk_at dksX0_manyAt_0 16 rfl rfl)
theorem dX0_manyAt_19 : decode cX0_manyAt 19 = .ok (.aload_n 0, 1) := dk_42 (dk_at dksX0_manyAt_0 19 rfl rfl)
theorem dX0_manyAt_20 : decode cX0_manyAt 20 = .ok (.getfield 28, 3) := dk_180 0 28 (dk_at dksX0_manyAt_0 20 rfl rfl)
theorem dX0_manyAt_23 : decode cX0_manyAt 23 = .ok (.iload 4, 2) := dk_21 4 (dk_at dksX0_manyAt_1 0 rfl rfl)
theorem dX0_manyAt_25 : decode cX0_manyAt 25 = .ok (.invokeinterface 152 2, 5) := by decide +kernel
theorem dX0_manyAt_30 : decode cX0_manyAt 30 = .ok (.checkcast 203, 3) := dk_192 0 203 (dk_at dksX0_manyAt_1 7 rfl rfl)
theorem dX0_manyAt_33 : decode cX0_manyAt 33 = .ok (.astore 5, 2) := dk_58 5 (dk_at dksX0_manyAt_1 10 rfl rfl)
theorem dX0_manyAt_35 : decode cX0_manyAt 35 = .ok (.iload_n 3, 1) := dk_29 (dk_at dksX0_manyAt_1 12 rfl rfl)
theorem dX0_manyAt_36 : decode cX0_manyAt 36 = .ok (.iload_n 2, 1) := dk_28 (dk_at dksX0_manyAt_1 13 rfl rfl)
theorem dX0_manyAt_37 : decode cX0_manyAt 37 = .ok (.iconst 2, 1) := dk_5 (dk_at dksX0_manyAt_1 14 rfl rfl)
theorem dX0_manyAt_38 : decode cX0_manyAt 38 = .ok (.if_icmp .ne 20, 3) := dk_160 0 20 (dk_at dksX0_manyAt_1 15 rfl rfl)
theorem dX0_manyAt_41 : decode cX0_manyAt 41 = .ok (.aload 5, 2) := dk_25 5 (dk_at dksX0_manyAt_1 18 rfl rfl)
theorem dX0_manyAt_43 : decode cX0_manyAt 43 = .ok (.getfield 205, 3) := dk_180 0 205 (dk_at dksX0_manyAt_1 20 rfl rfl)
theorem dX0_manyAt_46 : decode cX0_manyAt 46 = .ok (.aload_n 1, 1) := dk_43 (dk_at dksX0_manyAt_1 23 rfl rfl)
theorem dX0_manyAt_47 : decode cX0_manyAt 47 = .ok (.if_acmp .ne 7, 3) := dk_166 0 7 (dk_at dksX0_manyAt_2 0 rfl rfl)
theorem dX0_manyAt_50 : decode cX0_manyAt 50 = .ok (.iconst 1, 1) := dk_4 (dk_at dksX0_manyAt_2 3 rfl rfl)
theorem dX0_manyAt_51 : decode cX0_manyAt 51 = .ok (.goto 33, 3) := dk_167 0 33 (dk_at dksX0_manyAt_2 4 rfl rfl)
theorem dX0_manyAt_54 : decode cX0_manyAt 54 = .ok (.iconst 0, 1) := dk_3 (dk_at dksX0_manyAt_2 7 rfl rfl)
theorem dX0_manyAt_55 : decode cX0_manyAt 55 = .ok (.goto 29, 3) := dk_167 0 29 (dk_at dksX0_manyAt_2 8 rfl rfl)
theorem dX0_manyAt_58 : decode cX0_manyAt 58 = .ok (.aload 5, 2) := dk_25 5 (dk_at dksX0_manyAt_2 11 rfl rfl)
theorem dX0_manyAt_60 : decode cX0_manyAt 60 = .ok (.getfield 209, 3) := dk_180 0 209 (dk_at dksX0_manyAt_2 13 rfl rfl)
theorem dX0_manyAt_63 : decode cX0_manyAt 63 = .ok (.aload_n 1, 1) := dk_43 (dk_at dksX0_manyAt_2 16 rfl rfl)
theorem dX0_manyAt_64 : decode cX0_manyAt 64 = .ok (.if_acmp .ne 19, 3) := dk_166 0 19 (dk_at dksX0_manyAt_2 17 rfl rfl)
theorem dX0_manyAt_67 : decode cX0_manyAt 67 = .ok (.iload_n 2, 1) := dk_28 (dk_at dksX0_manyAt_2 20 rfl rfl)
theorem dX0_manyAt_68 : decode cX0_manyAt 68 = .ok (.ifCond .eq 11, 3) := dk_153 0 11 (dk_at dksX0_manyAt_2 21 rfl rfl)
theorem dX0_manyAt_71 : decode cX0_manyAt 71 = .ok (.aload 5, 2) := dk_25 5 (dk_at dksX0_manyAt_3 0 rfl rfl)
theorem dX0_manyAt_73 : decode cX0_manyAt 73 = .ok (.getfield 212, 3) := dk_180 0 212 (dk_at dksX0_manyAt_3 2 rfl rfl)
theorem dX0_manyAt_76 : decode cX0_manyAt 76 = .ok (.ifCond .eq 7, 3) := dk_153 0 7 (dk_at dksX0_manyAt_3 5 rfl rfl)
theorem dX0_manyAt_79 : decode cX0_manyAt 79 = .ok (.iconst 1, 1) := dk_4 (dk_at dksX0_manyAt_3 8 rfl rfl)
theorem dX0_manyAt_80 : decode cX0_manyAt 80 = .ok (.goto 4, 3) := dk_167 0 4 (dk_at dksX0_manyAt_3 9 rfl rfl)
theorem dX0_manyAt_83 : decode cX0_manyAt 83 = .ok (.iconst 0, 1) := dk_3 (dk_at dksX0_manyAt_3 12 rfl rfl)
theorem dX0_manyAt_84 : decode cX0_manyAt 84 = .ok (.iadd, 1) := dk_96 (dk_at dksX0_manyAt_3 13 rfl rfl)
theorem dX0_manyAt_85 : decode cX0_manyAt 85 = .ok (.istore_n 3, 1) := dk_62 (dk_at dksX0_manyAt_3 14 rfl rfl)
theorem dX0_manyAt_86 : decode cX0_manyAt 86 = .ok (.iinc 4 1, 3) := dk_132 4 1 (dk_at dksX0_manyAt_3 15 rfl rfl)
theorem dX0_manyAt_89 : decode cX0_manyAt 89 = .ok (.goto (-84), 3) := dk_167 255 172 (dk_at dksX0_manyAt_3 18 rfl rfl)
theorem dX0_manyAt_92 : decode cX0_manyAt 92 = .ok (.iload_n 3, 1) := dk_29 (dk_at dksX0_manyAt_3 21 rfl rfl)
theorem dX0_manyAt_93 : decode cX0_manyAt 93 = .ok (.ireturn, 1) := dk_172 (dk_at dksX0_manyAt_3 22 rfl rfl)
abbrev cX0_person : ByteArray := prog_1_method_31_code
def yX0_person : MethodName := ⟨RX0, "person", "(II)I"⟩
def dkwX0_person_1 : List UInt8 := [180, 0, 12, 28, 185, 0, 152, 2, 0, 192, 0, 106, 182, 0, 242, 167, 0, 4, 2, 172]
abbrev dktX0_person_1 : List UInt8 := dkwX0_person_1 ++ []
def dkwX0_person_0 : List UInt8 := [27, 4, 16, 9, 184, 0, 97, 153, 0, 33, 42, 28, 182, 0, 143, 153, 0, 25, 42, 27, 1, 42]
abbrev dktX0_person_0 : List UInt8 := dkwX0_person_0 ++ dktX0_person_1
theorem dksX0_person_0 : cX0_person.data.toList.drop 0 = dktX0_person_0 := by decide +kernel
theorem dksX0_person_1 : cX0_person.data.toList.drop 22 = dktX0_person_1 := dk_seg dksX0_person_0 22 rfl rfl
theorem dX0_person_0 : decode cX0_person 0 = .ok (.iload_n 1, 1) := dk_27 (dk_at dksX0_person_0 0 rfl rfl)
theorem dX0_person_1 : decode cX0_person 1 = .ok (.iconst 1, 1) := dk_4 (dk_at dksX0_person_0 1 rfl rfl)
theorem dX0_person_2 : decode cX0_person 2 = .ok (.bipush 9, 2) := dk_16 9 (dk_at dksX0_person_0 2 rfl rfl)
theorem dX0_person_4 : decode cX0_person 4 = .ok (.invokestatic 97, 3) := dk_184 0 97 (dk_at dksX0_person_0 4 rfl rfl)
theorem dX0_person_7 : decode cX0_person 7 = .ok (.ifCond .eq 33, 3) := dk_153 0 33 (dk_at dksX0_person_0 7 rfl rfl)
theorem dX0_person_10 : decode cX0_person 10 = .ok (.aload_n 0, 1) := dk_42 (dk_at dksX0_person_0 10 rfl rfl)
theorem dX0_person_11 : decode cX0_person 11 = .ok (.iload_n 2, 1) := dk_28 (dk_at dksX0_person_0 11 rfl rfl)
theorem dX0_person_12 : decode cX0_person 12 = .ok (.invokevirtual 143, 3) := dk_182 0 143 (dk_at dksX0_person_0 12 rfl rfl)
theorem dX0_person_15 : decode cX0_person 15 = .ok (.ifCond .eq 25, 3) := dk_153 0 25 (dk_at dksX0_person_0 15 rfl rfl)
theorem dX0_person_18 : decode cX0_person 18 = .ok (.aload_n 0, 1) := dk_42 (dk_at dksX0_person_0 18 rfl rfl)
theorem dX0_person_19 : decode cX0_person 19 = .ok (.iload_n 1, 1) := dk_27 (dk_at dksX0_person_0 19 rfl rfl)
theorem dX0_person_20 : decode cX0_person 20 = .ok (.aconst_null, 1) := dk_1 (dk_at dksX0_person_0 20 rfl rfl)
theorem dX0_person_21 : decode cX0_person 21 = .ok (.aload_n 0, 1) := dk_42 (dk_at dksX0_person_0 21 rfl rfl)
theorem dX0_person_22 : decode cX0_person 22 = .ok (.getfield 12, 3) := dk_180 0 12 (dk_at dksX0_person_1 0 rfl rfl)
theorem dX0_person_25 : decode cX0_person 25 = .ok (.iload_n 2, 1) := dk_28 (dk_at dksX0_person_1 3 rfl rfl)
theorem dX0_person_26 : decode cX0_person 26 = .ok (.invokeinterface 152 2, 5) := by decide +kernel
theorem dX0_person_31 : decode cX0_person 31 = .ok (.checkcast 106, 3) := dk_192 0 106 (dk_at dksX0_person_1 9 rfl rfl)
theorem dX0_person_34 : decode cX0_person 34 = .ok (.invokevirtual 242, 3) := dk_182 0 242 (dk_at dksX0_person_1 12 rfl rfl)
theorem dX0_person_37 : decode cX0_person 37 = .ok (.goto 4, 3) := dk_167 0 4 (dk_at dksX0_person_1 15 rfl rfl)
theorem dX0_person_40 : decode cX0_person 40 = .ok (.iconst (-1), 1) := dk_2 (dk_at dksX0_person_1 18 rfl rfl)
theorem dX0_person_41 : decode cX0_person 41 = .ok (.ireturn, 1) := dk_172 (dk_at dksX0_person_1 19 rfl rfl)
abbrev cX0_newPerson : ByteArray := prog_1_method_30_code
def yX0_newPerson : MethodName := ⟨RX0, "newPerson", "(ILRoadHouses$Person;LRoadHouses$Place;)I"⟩
def dkwX0_newPerson_1 : List UInt8 := [160, 0, 8, 16, 253, 167, 0, 10, 42, 27, 44, 45, 182, 0, 238, 172]
abbrev dktX0_newPerson_1 : List UInt8 := dkwX0_newPerson_1 ++ []
def dkwX0_newPerson_0 : List UInt8 := [42, 45, 182, 0, 235, 4, 162, 0, 6, 16, 254, 172, 42, 180, 0, 28, 185, 0, 91, 1, 0, 16, 16]
abbrev dktX0_newPerson_0 : List UInt8 := dkwX0_newPerson_0 ++ dktX0_newPerson_1
theorem dksX0_newPerson_0 : cX0_newPerson.data.toList.drop 0 = dktX0_newPerson_0 := by decide +kernel
theorem dksX0_newPerson_1 : cX0_newPerson.data.toList.drop 23 = dktX0_newPerson_1 := dk_seg dksX0_newPerson_0 23 rfl rfl
theorem dX0_newPerson_0 : decode cX0_newPerson 0 = .ok (.aload_n 0, 1) := dk_42 (dk_at dksX0_newPerson_0 0 rfl rfl)
theorem dX0_newPerson_1 : decode cX0_newPerson 1 = .ok (.aload_n 3, 1) := dk_45 (dk_at dksX0_newPerson_0 1 rfl rfl)
theorem dX0_newPerson_2 : decode cX0_newPerson 2 = .ok (.invokevirtual 235, 3) := dk_182 0 235 (dk_at dksX0_newPerson_0 2 rfl rfl)
theorem dX0_newPerson_5 : decode cX0_newPerson 5 = .ok (.iconst 1, 1) := dk_4 (dk_at dksX0_newPerson_0 5 rfl rfl)
theorem dX0_newPerson_6 : decode cX0_newPerson 6 = .ok (.if_icmp .ge 6, 3) := dk_162 0 6 (dk_at dksX0_newPerson_0 6 rfl rfl)
theorem dX0_newPerson_9 : decode cX0_newPerson 9 = .ok (.bipush (-2), 2) := dk_16 254 (dk_at dksX0_newPerson_0 9 rfl rfl)
theorem dX0_newPerson_11 : decode cX0_newPerson 11 = .ok (.ireturn, 1) := dk_172 (dk_at dksX0_newPerson_0 11 rfl rfl)
theorem dX0_newPerson_12 : decode cX0_newPerson 12 = .ok (.aload_n 0, 1) := dk_42 (dk_at dksX0_newPerson_0 12 rfl rfl)
theorem dX0_newPerson_13 : decode cX0_newPerson 13 = .ok (.getfield 28, 3) := dk_180 0 28 (dk_at dksX0_newPerson_0 13 rfl rfl)
theorem dX0_newPerson_16 : decode cX0_newPerson 16 = .ok (.invokeinterface 91 1, 5) := by decide +kernel
theorem dX0_newPerson_21 : decode cX0_newPerson 21 = .ok (.bipush 16, 2) := dk_16 16 (dk_at dksX0_newPerson_0 21 rfl rfl)
theorem dX0_newPerson_23 : decode cX0_newPerson 23 = .ok (.if_icmp .ne 8, 3) := dk_160 0 8 (dk_at dksX0_newPerson_1 0 rfl rfl)
theorem dX0_newPerson_26 : decode cX0_newPerson 26 = .ok (.bipush (-3), 2) := dk_16 253 (dk_at dksX0_newPerson_1 3 rfl rfl)
theorem dX0_newPerson_28 : decode cX0_newPerson 28 = .ok (.goto 10, 3) := dk_167 0 10 (dk_at dksX0_newPerson_1 5 rfl rfl)
theorem dX0_newPerson_31 : decode cX0_newPerson 31 = .ok (.aload_n 0, 1) := dk_42 (dk_at dksX0_newPerson_1 8 rfl rfl)
theorem dX0_newPerson_32 : decode cX0_newPerson 32 = .ok (.iload_n 1, 1) := dk_27 (dk_at dksX0_newPerson_1 9 rfl rfl)
theorem dX0_newPerson_33 : decode cX0_newPerson 33 = .ok (.aload_n 2, 1) := dk_44 (dk_at dksX0_newPerson_1 10 rfl rfl)
theorem dX0_newPerson_34 : decode cX0_newPerson 34 = .ok (.aload_n 3, 1) := dk_45 (dk_at dksX0_newPerson_1 11 rfl rfl)
theorem dX0_newPerson_35 : decode cX0_newPerson 35 = .ok (.invokevirtual 238, 3) := dk_182 0 238 (dk_at dksX0_newPerson_1 12 rfl rfl)
theorem dX0_newPerson_38 : decode cX0_newPerson 38 = .ok (.ireturn, 1) := dk_172 (dk_at dksX0_newPerson_1 15 rfl rfl)
abbrev cX0_bedsLeft : ByteArray := prog_1_method_27_code
def yX0_bedsLeft : MethodName := ⟨RX0, "bedsLeft", "(LRoadHouses$Place;)I"⟩
def dkwX0_bedsLeft_1 : List UInt8 := [4, 182, 0, 221, 100, 100, 42, 43, 5, 182, 0, 221, 100, 172]
abbrev dktX0_bedsLeft_1 : List UInt8 := dkwX0_bedsLeft_1 ++ []
def dkwX0_bedsLeft_0 : List UInt8 := [43, 182, 0, 215, 154, 0, 8, 16, 16, 167, 0, 28, 43, 182, 0, 218, 42, 43, 3, 182, 0, 221, 42, 43]
abbrev dktX0_bedsLeft_0 : List UInt8 := dkwX0_bedsLeft_0 ++ dktX0_bedsLeft_1
theorem dksX0_bedsLeft_0 : cX0_bedsLeft.data.toList.drop 0 = dktX0_bedsLeft_0 := by decide +kernel
theorem dksX0_bedsLeft_1 : cX0_bedsLeft.data.toList.drop 24 = dktX0_bedsLeft_1 := dk_seg dksX0_bedsLeft_0 24 rfl rfl
theorem dX0_bedsLeft_0 : decode cX0_bedsLeft 0 = .ok (.aload_n 1, 1) := dk_43 (dk_at dksX0_bedsLeft_0 0 rfl rfl)
theorem dX0_bedsLeft_1 : decode cX0_bedsLeft 1 = .ok (.invokevirtual 215, 3) := dk_182 0 215 (dk_at dksX0_bedsLeft_0 1 rfl rfl)
theorem dX0_bedsLeft_4 : decode cX0_bedsLeft 4 = .ok (.ifCond .ne 8, 3) := dk_154 0 8 (dk_at dksX0_bedsLeft_0 4 rfl rfl)
theorem dX0_bedsLeft_7 : decode cX0_bedsLeft 7 = .ok (.bipush 16, 2) := dk_16 16 (dk_at dksX0_bedsLeft_0 7 rfl rfl)
theorem dX0_bedsLeft_9 : decode cX0_bedsLeft 9 = .ok (.goto 28, 3) := dk_167 0 28 (dk_at dksX0_bedsLeft_0 9 rfl rfl)
theorem dX0_bedsLeft_12 : decode cX0_bedsLeft 12 = .ok (.aload_n 1, 1) := dk_43 (dk_at dksX0_bedsLeft_0 12 rfl rfl)
theorem dX0_bedsLeft_13 : decode cX0_bedsLeft 13 = .ok (.invokevirtual 218, 3) := dk_182 0 218 (dk_at dksX0_bedsLeft_0 13 rfl rfl)
theorem dX0_bedsLeft_16 : decode cX0_bedsLeft 16 = .ok (.aload_n 0, 1) := dk_42 (dk_at dksX0_bedsLeft_0 16 rfl rfl)
theorem dX0_bedsLeft_17 : decode cX0_bedsLeft 17 = .ok (.aload_n 1, 1) := dk_43 (dk_at dksX0_bedsLeft_0 17 rfl rfl)
theorem dX0_bedsLeft_18 : decode cX0_bedsLeft 18 = .ok (.iconst 0, 1) := dk_3 (dk_at dksX0_bedsLeft_0 18 rfl rfl)
theorem dX0_bedsLeft_19 : decode cX0_bedsLeft 19 = .ok (.invokevirtual 221, 3) := dk_182 0 221 (dk_at dksX0_bedsLeft_0 19 rfl rfl)
theorem dX0_bedsLeft_22 : decode cX0_bedsLeft 22 = .ok (.aload_n 0, 1) := dk_42 (dk_at dksX0_bedsLeft_0 22 rfl rfl)
theorem dX0_bedsLeft_23 : decode cX0_bedsLeft 23 = .ok (.aload_n 1, 1) := dk_43 (dk_at dksX0_bedsLeft_0 23 rfl rfl)
theorem dX0_bedsLeft_24 : decode cX0_bedsLeft 24 = .ok (.iconst 1, 1) := dk_4 (dk_at dksX0_bedsLeft_1 0 rfl rfl)
theorem dX0_bedsLeft_25 : decode cX0_bedsLeft 25 = .ok (.invokevirtual 221, 3) := dk_182 0 221 (dk_at dksX0_bedsLeft_1 1 rfl rfl)
theorem dX0_bedsLeft_28 : decode cX0_bedsLeft 28 = .ok (.isub, 1) := dk_100 (dk_at dksX0_bedsLeft_1 4 rfl rfl)
theorem dX0_bedsLeft_29 : decode cX0_bedsLeft 29 = .ok (.isub, 1) := dk_100 (dk_at dksX0_bedsLeft_1 5 rfl rfl)
theorem dX0_bedsLeft_30 : decode cX0_bedsLeft 30 = .ok (.aload_n 0, 1) := dk_42 (dk_at dksX0_bedsLeft_1 6 rfl rfl)
theorem dX0_bedsLeft_31 : decode cX0_bedsLeft 31 = .ok (.aload_n 1, 1) := dk_43 (dk_at dksX0_bedsLeft_1 7 rfl rfl)
theorem dX0_bedsLeft_32 : decode cX0_bedsLeft 32 = .ok (.iconst 2, 1) := dk_5 (dk_at dksX0_bedsLeft_1 8 rfl rfl)
theorem dX0_bedsLeft_33 : decode cX0_bedsLeft 33 = .ok (.invokevirtual 221, 3) := dk_182 0 221 (dk_at dksX0_bedsLeft_1 9 rfl rfl)
theorem dX0_bedsLeft_36 : decode cX0_bedsLeft 36 = .ok (.isub, 1) := dk_100 (dk_at dksX0_bedsLeft_1 12 rfl rfl)
theorem dX0_bedsLeft_37 : decode cX0_bedsLeft 37 = .ok (.ireturn, 1) := dk_172 (dk_at dksX0_bedsLeft_1 13 rfl rfl)
abbrev cX0_addPerson : ByteArray := prog_1_method_29_code
def yX0_addPerson : MethodName := ⟨RX0, "addPerson", "(ILRoadHouses$Person;LRoadHouses$Place;)I"⟩
def dkwX0_addPerson_2 : List UInt8 := [25, 4, 185, 0, 101, 2, 0, 87, 25, 4, 180, 0, 234, 172]
abbrev dktX0_addPerson_2 : List UInt8 := dkwX0_addPerson_2 ++ []
def dkwX0_addPerson_1 : List UInt8 := [181, 0, 209, 42, 180, 0, 28, 25, 4, 185, 0, 101, 2, 0, 87, 44, 198, 0, 15, 44, 180, 0, 231]
abbrev dktX0_addPerson_1 : List UInt8 := dkwX0_addPerson_1 ++ dktX0_addPerson_2
def dkwX0_addPerson_0 : List UInt8 := [187, 0, 203, 89, 42, 180, 0, 28, 185, 0, 91, 1, 0, 27, 44, 183, 0, 228, 58, 4, 25, 4, 45]
abbrev dktX0_addPerson_0 : List UInt8 := dkwX0_addPerson_0 ++ dktX0_addPerson_1
theorem dksX0_addPerson_0 : cX0_addPerson.data.toList.drop 0 = dktX0_addPerson_0 := by decide +kernel
theorem dksX0_addPerson_1 : cX0_addPerson.data.toList.drop 23 = dktX0_addPerson_1 := dk_seg dksX0_addPerson_0 23 rfl rfl
theorem dksX0_addPerson_2 : cX0_addPerson.data.toList.drop 46 = dktX0_addPerson_2 := dk_seg dksX0_addPerson_1 23 rfl rfl
theorem dX0_addPerson_0 : decode cX0_addPerson 0 = .ok (.new 203, 3) := dk_187 0 203 (dk_at dksX0_addPerson_0 0 rfl rfl)
theorem dX0_addPerson_3 : decode cX0_addPerson 3 = .ok (.dup, 1) := dk_89 (dk_at dksX0_addPerson_0 3 rfl rfl)
theorem dX0_addPerson_4 : decode cX0_addPerson 4 = .ok (.aload_n 0, 1) := dk_42 (dk_at dksX0_addPerson_0 4 rfl rfl)
theorem dX0_addPerson_5 : decode cX0_addPerson 5 = .ok (.getfield 28, 3) := dk_180 0 28 (dk_at dksX0_addPerson_0 5 rfl rfl)
theorem dX0_addPerson_8 : decode cX0_addPerson 8 = .ok (.invokeinterface 91 1, 5) := by decide +kernel
theorem dX0_addPerson_13 : decode cX0_addPerson 13 = .ok (.iload_n 1, 1) := dk_27 (dk_at dksX0_addPerson_0 13 rfl rfl)
theorem dX0_addPerson_14 : decode cX0_addPerson 14 = .ok (.aload_n 2, 1) := dk_44 (dk_at dksX0_addPerson_0 14 rfl rfl)
theorem dX0_addPerson_15 : decode cX0_addPerson 15 = .ok (.invokespecial 228, 3) := dk_183 0 228 (dk_at dksX0_addPerson_0 15 rfl rfl)
theorem dX0_addPerson_18 : decode cX0_addPerson 18 = .ok (.astore 4, 2) := dk_58 4 (dk_at dksX0_addPerson_0 18 rfl rfl)
theorem dX0_addPerson_20 : decode cX0_addPerson 20 = .ok (.aload 4, 2) := dk_25 4 (dk_at dksX0_addPerson_0 20 rfl rfl)
theorem dX0_addPerson_22 : decode cX0_addPerson 22 = .ok (.aload_n 3, 1) := dk_45 (dk_at dksX0_addPerson_0 22 rfl rfl)
theorem dX0_addPerson_23 : decode cX0_addPerson 23 = .ok (.putfield 209, 3) := dk_181 0 209 (dk_at dksX0_addPerson_1 0 rfl rfl)
theorem dX0_addPerson_26 : decode cX0_addPerson 26 = .ok (.aload_n 0, 1) := dk_42 (dk_at dksX0_addPerson_1 3 rfl rfl)
theorem dX0_addPerson_27 : decode cX0_addPerson 27 = .ok (.getfield 28, 3) := dk_180 0 28 (dk_at dksX0_addPerson_1 4 rfl rfl)
theorem dX0_addPerson_30 : decode cX0_addPerson 30 = .ok (.aload 4, 2) := dk_25 4 (dk_at dksX0_addPerson_1 7 rfl rfl)
theorem dX0_addPerson_32 : decode cX0_addPerson 32 = .ok (.invokeinterface 101 2, 5) := by decide +kernel
theorem dX0_addPerson_37 : decode cX0_addPerson 37 = .ok (.pop, 1) := dk_87 (dk_at dksX0_addPerson_1 14 rfl rfl)
theorem dX0_addPerson_38 : decode cX0_addPerson 38 = .ok (.aload_n 2, 1) := dk_44 (dk_at dksX0_addPerson_1 15 rfl rfl)
theorem dX0_addPerson_39 : decode cX0_addPerson 39 = .ok (.ifnull 15, 3) := dk_198 0 15 (dk_at dksX0_addPerson_1 16 rfl rfl)
theorem dX0_addPerson_42 : decode cX0_addPerson 42 = .ok (.aload_n 2, 1) := dk_44 (dk_at dksX0_addPerson_1 19 rfl rfl)
theorem dX0_addPerson_43 : decode cX0_addPerson 43 = .ok (.getfield 231, 3) := dk_180 0 231 (dk_at dksX0_addPerson_1 20 rfl rfl)
theorem dX0_addPerson_46 : decode cX0_addPerson 46 = .ok (.aload 4, 2) := dk_25 4 (dk_at dksX0_addPerson_2 0 rfl rfl)
theorem dX0_addPerson_48 : decode cX0_addPerson 48 = .ok (.invokeinterface 101 2, 5) := by decide +kernel
theorem dX0_addPerson_53 : decode cX0_addPerson 53 = .ok (.pop, 1) := dk_87 (dk_at dksX0_addPerson_2 7 rfl rfl)
theorem dX0_addPerson_54 : decode cX0_addPerson 54 = .ok (.aload 4, 2) := dk_25 4 (dk_at dksX0_addPerson_2 8 rfl rfl)
theorem dX0_addPerson_56 : decode cX0_addPerson 56 = .ok (.getfield 234, 3) := dk_180 0 234 (dk_at dksX0_addPerson_2 10 rfl rfl)
theorem dX0_addPerson_59 : decode cX0_addPerson 59 = .ok (.ireturn, 1) := dk_172 (dk_at dksX0_addPerson_2 13 rfl rfl)
abbrev cX0_child : ByteArray := prog_1_method_32_code
def yX0_child : MethodName := ⟨RX0, "child", "(II)I"⟩
def dkwX0_child_3 : List UInt8 := [45, 180, 0, 209, 182, 0, 242, 172]
abbrev dktX0_child_3 : List UInt8 := dkwX0_child_3 ++ []
def dkwX0_child_2 : List UInt8 := [185, 0, 152, 2, 0, 192, 0, 203, 78, 45, 180, 0, 209, 199, 0, 8, 16, 254, 167, 0, 13, 42, 27, 45]
abbrev dktX0_child_2 : List UInt8 := dkwX0_child_2 ++ dktX0_child_3
def dkwX0_child_1 : List UInt8 := [185, 0, 152, 2, 0, 192, 0, 203, 182, 0, 248, 153, 0, 5, 2, 172, 42, 180, 0, 28, 28]
abbrev dktX0_child_1 : List UInt8 := dkwX0_child_1 ++ dktX0_child_2
def dkwX0_child_0 : List UInt8 := [27, 4, 16, 9, 184, 0, 97, 153, 0, 30, 42, 28, 182, 0, 245, 153, 0, 22, 42, 180, 0, 28, 28]
abbrev dktX0_child_0 : List UInt8 := dkwX0_child_0 ++ dktX0_child_1
theorem dksX0_child_0 : cX0_child.data.toList.drop 0 = dktX0_child_0 := by decide +kernel
theorem dksX0_child_1 : cX0_child.data.toList.drop 23 = dktX0_child_1 := dk_seg dksX0_child_0 23 rfl rfl
theorem dksX0_child_2 : cX0_child.data.toList.drop 44 = dktX0_child_2 := dk_seg dksX0_child_1 21 rfl rfl
theorem dksX0_child_3 : cX0_child.data.toList.drop 68 = dktX0_child_3 := dk_seg dksX0_child_2 24 rfl rfl
theorem dX0_child_0 : decode cX0_child 0 = .ok (.iload_n 1, 1) := dk_27 (dk_at dksX0_child_0 0 rfl rfl)
theorem dX0_child_1 : decode cX0_child 1 = .ok (.iconst 1, 1) := dk_4 (dk_at dksX0_child_0 1 rfl rfl)
theorem dX0_child_2 : decode cX0_child 2 = .ok (.bipush 9, 2) := dk_16 9 (dk_at dksX0_child_0 2 rfl rfl)
theorem dX0_child_4 : decode cX0_child 4 = .ok (.invokestatic 97, 3) := dk_184 0 97 (dk_at dksX0_child_0 4 rfl rfl)
theorem dX0_child_7 : decode cX0_child 7 = .ok (.ifCond .eq 30, 3) := dk_153 0 30 (dk_at dksX0_child_0 7 rfl rfl)
theorem dX0_child_10 : decode cX0_child 10 = .ok (.aload_n 0, 1) := dk_42 (dk_at dksX0_child_0 10 rfl rfl)
theorem dX0_child_11 : decode cX0_child 11 = .ok (.iload_n 2, 1) := dk_28 (dk_at dksX0_child_0 11 rfl rfl)
theorem dX0_child_12 : decode cX0_child 12 = .ok (.invokevirtual 245, 3) := dk_182 0 245 (dk_at dksX0_child_0 12 rfl rfl)
theorem dX0_child_15 : decode cX0_child 15 = .ok (.ifCond .eq 22, 3) := dk_153 0 22 (dk_at dksX0_child_0 15 rfl rfl)
theorem dX0_child_18 : decode cX0_child 18 = .ok (.aload_n 0, 1) := dk_42 (dk_at dksX0_child_0 18 rfl rfl)
theorem dX0_child_19 : decode cX0_child 19 = .ok (.getfield 28, 3) := dk_180 0 28 (dk_at dksX0_child_0 19 rfl rfl)
theorem dX0_child_22 : decode cX0_child 22 = .ok (.iload_n 2, 1) := dk_28 (dk_at dksX0_child_0 22 rfl rfl)
theorem dX0_child_23 : decode cX0_child 23 = .ok (.invokeinterface 152 2, 5) := by decide +kernel
theorem dX0_child_28 : decode cX0_child 28 = .ok (.checkcast 203, 3) := dk_192 0 203 (dk_at dksX0_child_1 5 rfl rfl)
theorem dX0_child_31 : decode cX0_child 31 = .ok (.invokevirtual 248, 3) := dk_182 0 248 (dk_at dksX0_child_1 8 rfl rfl)
theorem dX0_child_34 : decode cX0_child 34 = .ok (.ifCond .eq 5, 3) := dk_153 0 5 (dk_at dksX0_child_1 11 rfl rfl)
theorem dX0_child_37 : decode cX0_child 37 = .ok (.iconst (-1), 1) := dk_2 (dk_at dksX0_child_1 14 rfl rfl)
theorem dX0_child_38 : decode cX0_child 38 = .ok (.ireturn, 1) := dk_172 (dk_at dksX0_child_1 15 rfl rfl)
theorem dX0_child_39 : decode cX0_child 39 = .ok (.aload_n 0, 1) := dk_42 (dk_at dksX0_child_1 16 rfl rfl)
theorem dX0_child_40 : decode cX0_child 40 = .ok (.getfield 28, 3) := dk_180 0 28 (dk_at dksX0_child_1 17 rfl rfl)
theorem dX0_child_43 : decode cX0_child 43 = .ok (.iload_n 2, 1) := dk_28 (dk_at dksX0_child_1 20 rfl rfl)
theorem dX0_child_44 : decode cX0_child 44 = .ok (.invokeinterface 152 2, 5) := by decide +kernel
theorem dX0_child_49 : decode cX0_child 49 = .ok (.checkcast 203, 3) := dk_192 0 203 (dk_at dksX0_child_2 5 rfl rfl)
theorem dX0_child_52 : decode cX0_child 52 = .ok (.astore_n 3, 1) := dk_78 (dk_at dksX0_child_2 8 rfl rfl)
theorem dX0_child_53 : decode cX0_child 53 = .ok (.aload_n 3, 1) := dk_45 (dk_at dksX0_child_2 9 rfl rfl)
theorem dX0_child_54 : decode cX0_child 54 = .ok (.getfield 209, 3) := dk_180 0 209 (dk_at dksX0_child_2 10 rfl rfl)
theorem dX0_child_57 : decode cX0_child 57 = .ok (.ifnonnull 8, 3) := dk_199 0 8 (dk_at dksX0_child_2 13 rfl rfl)
theorem dX0_child_60 : decode cX0_child 60 = .ok (.bipush (-2), 2) := dk_16 254 (dk_at dksX0_child_2 16 rfl rfl)
theorem dX0_child_62 : decode cX0_child 62 = .ok (.goto 13, 3) := dk_167 0 13 (dk_at dksX0_child_2 18 rfl rfl)
theorem dX0_child_65 : decode cX0_child 65 = .ok (.aload_n 0, 1) := dk_42 (dk_at dksX0_child_2 21 rfl rfl)
theorem dX0_child_66 : decode cX0_child 66 = .ok (.iload_n 1, 1) := dk_27 (dk_at dksX0_child_2 22 rfl rfl)
theorem dX0_child_67 : decode cX0_child 67 = .ok (.aload_n 3, 1) := dk_45 (dk_at dksX0_child_2 23 rfl rfl)
theorem dX0_child_68 : decode cX0_child 68 = .ok (.aload_n 3, 1) := dk_45 (dk_at dksX0_child_3 0 rfl rfl)
theorem dX0_child_69 : decode cX0_child 69 = .ok (.getfield 209, 3) := dk_180 0 209 (dk_at dksX0_child_3 1 rfl rfl)
theorem dX0_child_72 : decode cX0_child 72 = .ok (.invokevirtual 242, 3) := dk_182 0 242 (dk_at dksX0_child_3 4 rfl rfl)
theorem dX0_child_75 : decode cX0_child 75 = .ok (.ireturn, 1) := dk_172 (dk_at dksX0_child_3 7 rfl rfl)
abbrev cX0_isPerson : ByteArray := prog_1_method_24_code
def yX0_isPerson : MethodName := ⟨RX0, "isPerson", "(I)Z"⟩
def dkwX0_isPerson_0 : List UInt8 := [27, 3, 42, 180, 0, 28, 185, 0, 91, 1, 0, 4, 100, 184, 0, 97, 172]
abbrev dktX0_isPerson_0 : List UInt8 := dkwX0_isPerson_0 ++ []
theorem dksX0_isPerson_0 : cX0_isPerson.data.toList.drop 0 = dktX0_isPerson_0 := by decide +kernel
theorem dX0_isPerson_0 : decode cX0_isPerson 0 = .ok (.iload_n 1, 1) := dk_27 (dk_at dksX0_isPerson_0 0 rfl rfl)
theorem dX0_isPerson_1 : decode cX0_isPerson 1 = .ok (.iconst 0, 1) := dk_3 (dk_at dksX0_isPerson_0 1 rfl rfl)
theorem dX0_isPerson_2 : decode cX0_isPerson 2 = .ok (.aload_n 0, 1) := dk_42 (dk_at dksX0_isPerson_0 2 rfl rfl)
theorem dX0_isPerson_3 : decode cX0_isPerson 3 = .ok (.getfield 28, 3) := dk_180 0 28 (dk_at dksX0_isPerson_0 3 rfl rfl)
theorem dX0_isPerson_6 : decode cX0_isPerson 6 = .ok (.invokeinterface 91 1, 5) := by decide +kernel
theorem dX0_isPerson_11 : decode cX0_isPerson 11 = .ok (.iconst 1, 1) := dk_4 (dk_at dksX0_isPerson_0 11 rfl rfl)
theorem dX0_isPerson_12 : decode cX0_isPerson 12 = .ok (.isub, 1) := dk_100 (dk_at dksX0_isPerson_0 12 rfl rfl)
theorem dX0_isPerson_13 : decode cX0_isPerson 13 = .ok (.invokestatic 97, 3) := dk_184 0 97 (dk_at dksX0_isPerson_0 13 rfl rfl)
theorem dX0_isPerson_16 : decode cX0_isPerson 16 = .ok (.ireturn, 1) := dk_172 (dk_at dksX0_isPerson_0 16 rfl rfl)
abbrev cX0_where : ByteArray := prog_1_method_33_code
def yX0_where : MethodName := ⟨RX0, "where", "(I)I"⟩
def dkwX0_where_3 : List UInt8 := [167, 0, 6, 17, 0, 201, 172]
abbrev dktX0_where_3 : List UInt8 := dkwX0_where_3 ++ []
def dkwX0_where_2 : List UInt8 := [16, 100, 44, 180, 0, 205, 180, 0, 105, 96, 167, 0, 19, 44, 180, 0, 251, 153, 0, 9, 17, 0, 200]
abbrev dktX0_where_2 : List UInt8 := dkwX0_where_2 ++ dktX0_where_3
def dkwX0_where_1 : List UInt8 := [44, 180, 0, 209, 198, 0, 13, 44, 180, 0, 209, 180, 0, 105, 167, 0, 39, 44, 180, 0, 205, 198, 0, 16]
abbrev dktX0_where_1 : List UInt8 := dkwX0_where_1 ++ dktX0_where_2
def dkwX0_where_0 : List UInt8 := [42, 27, 182, 0, 245, 154, 0, 5, 2, 172, 42, 180, 0, 28, 27, 185, 0, 152, 2, 0, 192, 0, 203, 77]
abbrev dktX0_where_0 : List UInt8 := dkwX0_where_0 ++ dktX0_where_1
theorem dksX0_where_0 : cX0_where.data.toList.drop 0 = dktX0_where_0 := by decide +kernel
theorem dksX0_where_1 : cX0_where.data.toList.drop 24 = dktX0_where_1 := dk_seg dksX0_where_0 24 rfl rfl
theorem dksX0_where_2 : cX0_where.data.toList.drop 48 = dktX0_where_2 := dk_seg dksX0_where_1 24 rfl rfl
theorem dksX0_where_3 : cX0_where.data.toList.drop 71 = dktX0_where_3 := dk_seg dksX0_where_2 23 rfl rfl
theorem dX0_where_0 : decode cX0_where 0 = .ok (.aload_n 0, 1) := dk_42 (dk_at dksX0_where_0 0 rfl rfl)
theorem dX0_where_1 : decode cX0_where 1 = .ok (.iload_n 1, 1) := dk_27 (dk_at dksX0_where_0 1 rfl rfl)
theorem dX0_where_2 : decode cX0_where 2 = .ok (.invokevirtual 245, 3) := dk_182 0 245 (dk_at dksX0_where_0 2 rfl rfl)
theorem dX0_where_5 : decode cX0_where 5 = .ok (.ifCond .ne 5, 3) := dk_154 0 5 (dk_at dksX0_where_0 5 rfl rfl)
theorem dX0_where_8 : decode cX0_where 8 = .ok (.iconst (-1), 1) := dk_2 (dk_at dksX0_where_0 8 rfl rfl)
theorem dX0_where_9 : decode cX0_where 9 = .ok (.ireturn, 1) := dk_172 (dk_at dksX0_where_0 9 rfl rfl)
theorem dX0_where_10 : decode cX0_where 10 = .ok (.aload_n 0, 1) := dk_42 (dk_at dksX0_where_0 10 rfl rfl)
theorem dX0_where_11 : decode cX0_where 11 = .ok (.getfield 28, 3) := dk_180 0 28 (dk_at dksX0_where_0 11 rfl rfl)
theorem dX0_where_14 : decode cX0_where 14 = .ok (.iload_n 1, 1) := dk_27 (dk_at dksX0_where_0 14 rfl rfl)
theorem dX0_where_15 : decode cX0_where 15 = .ok (.invokeinterface 152 2, 5) := by decide +kernel
theorem dX0_where_20 : decode cX0_where 20 = .ok (.checkcast 203, 3) := dk_192 0 203 (dk_at dksX0_where_0 20 rfl rfl)
theorem dX0_where_23 : decode cX0_where 23 = .ok (.astore_n 2, 1) := dk_77 (dk_at dksX0_where_0 23 rfl rfl)
theorem dX0_where_24 : decode cX0_where 24 = .ok (.aload_n 2, 1) := dk_44 (dk_at dksX0_where_1 0 rfl rfl)
theorem dX0_where_25 : decode cX0_where 25 = .ok (.getfield 209, 3) := dk_180 0 209 (dk_at dksX0_where_1 1 rfl rfl)
theorem dX0_where_28 : decode cX0_where 28 = .ok (.ifnull 13, 3) := dk_198 0 13 (dk_at dksX0_where_1 4 rfl rfl)
theorem dX0_where_31 : decode cX0_where 31 = .ok (.aload_n 2, 1) := dk_44 (dk_at dksX0_where_1 7 rfl rfl)
theorem dX0_where_32 : decode cX0_where 32 = .ok (.getfield 209, 3) := dk_180 0 209 (dk_at dksX0_where_1 8 rfl rfl)
theorem dX0_where_35 : decode cX0_where 35 = .ok (.getfield 105, 3) := dk_180 0 105 (dk_at dksX0_where_1 11 rfl rfl)
theorem dX0_where_38 : decode cX0_where 38 = .ok (.goto 39, 3) := dk_167 0 39 (dk_at dksX0_where_1 14 rfl rfl)
theorem dX0_where_41 : decode cX0_where 41 = .ok (.aload_n 2, 1) := dk_44 (dk_at dksX0_where_1 17 rfl rfl)
theorem dX0_where_42 : decode cX0_where 42 = .ok (.getfield 205, 3) := dk_180 0 205 (dk_at dksX0_where_1 18 rfl rfl)
theorem dX0_where_45 : decode cX0_where 45 = .ok (.ifnull 16, 3) := dk_198 0 16 (dk_at dksX0_where_1 21 rfl rfl)
theorem dX0_where_48 : decode cX0_where 48 = .ok (.bipush 100, 2) := dk_16 100 (dk_at dksX0_where_2 0 rfl rfl)
theorem dX0_where_50 : decode cX0_where 50 = .ok (.aload_n 2, 1) := dk_44 (dk_at dksX0_where_2 2 rfl rfl)
theorem dX0_where_51 : decode cX0_where 51 = .ok (.getfield 205, 3) := dk_180 0 205 (dk_at dksX0_where_2 3 rfl rfl)
theorem dX0_where_54 : decode cX0_where 54 = .ok (.getfield 105, 3) := dk_180 0 105 (dk_at dksX0_where_2 6 rfl rfl)
theorem dX0_where_57 : decode cX0_where 57 = .ok (.iadd, 1) := dk_96 (dk_at dksX0_where_2 9 rfl rfl)
theorem dX0_where_58 : decode cX0_where 58 = .ok (.goto 19, 3) := dk_167 0 19 (dk_at dksX0_where_2 10 rfl rfl)
theorem dX0_where_61 : decode cX0_where 61 = .ok (.aload_n 2, 1) := dk_44 (dk_at dksX0_where_2 13 rfl rfl)
theorem dX0_where_62 : decode cX0_where 62 = .ok (.getfield 251, 3) := dk_180 0 251 (dk_at dksX0_where_2 14 rfl rfl)
theorem dX0_where_65 : decode cX0_where 65 = .ok (.ifCond .eq 9, 3) := dk_153 0 9 (dk_at dksX0_where_2 17 rfl rfl)
theorem dX0_where_68 : decode cX0_where 68 = .ok (.sipush 200, 3) := dk_17 0 200 (dk_at dksX0_where_2 20 rfl rfl)
theorem dX0_where_71 : decode cX0_where 71 = .ok (.goto 6, 3) := dk_167 0 6 (dk_at dksX0_where_3 0 rfl rfl)
theorem dX0_where_74 : decode cX0_where 74 = .ok (.sipush 201, 3) := dk_17 0 201 (dk_at dksX0_where_3 3 rfl rfl)
theorem dX0_where_77 : decode cX0_where 77 = .ok (.ireturn, 1) := dk_172 (dk_at dksX0_where_3 6 rfl rfl)
abbrev cX0_told : ByteArray := prog_1_method_34_code
def yX0_told : MethodName := ⟨RX0, "told", "(II)I"⟩
def dkwX0_told_5 : List UInt8 := [45, 180, 0, 205, 199, 0, 8, 16, 252, 167, 0, 7, 45, 180, 1, 5, 172, 2, 172]
abbrev dktX0_told_5 : List UInt8 := dkwX0_told_5 ++ []
def dkwX0_told_4 : List UInt8 := [172, 45, 180, 0, 231, 185, 0, 91, 1, 0, 172, 45, 180, 0, 212, 153, 0, 7, 4, 167, 0, 4, 3, 172]
abbrev dktX0_told_4 : List UInt8 := dkwX0_told_4 ++ dktX0_told_5
def dkwX0_told_3 : List UInt8 := [45, 180, 0, 254, 172, 45, 180, 1, 1, 199, 0, 8, 16, 252, 167, 0, 10, 45, 180, 1, 1, 180, 0, 234]
abbrev dktX0_told_3 : List UInt8 := dkwX0_told_3 ++ dktX0_told_4
def dkwX0_told_2 : List UInt8 := [170, 0, 0, 0, 0, 0, 100, 0, 0, 0, 0, 0, 0, 0, 4, 0, 0, 0, 35, 0, 0, 0, 40, 0, 0, 0, 60, 0, 0, 0, 70, 0, 0, 0, 83]
abbrev dktX0_told_2 : List UInt8 := dkwX0_told_2 ++ dktX0_told_3
def dkwX0_told_1 : List UInt8 := [28]
abbrev dktX0_told_1 : List UInt8 := dkwX0_told_1 ++ dktX0_told_2
def dkwX0_told_0 : List UInt8 := [42, 27, 182, 0, 245, 154, 0, 5, 2, 172, 42, 180, 0, 28, 27, 185, 0, 152, 2, 0, 192, 0, 203, 78]
abbrev dktX0_told_0 : List UInt8 := dkwX0_told_0 ++ dktX0_told_1
theorem dksX0_told_0 : cX0_told.data.toList.drop 0 = dktX0_told_0 := by decide +kernel
theorem dksX0_told_1 : cX0_told.data.toList.drop 24 = dktX0_told_1 := dk_seg dksX0_told_0 24 rfl rfl
theorem dksX0_told_2 : cX0_told.data.toList.drop 25 = dktX0_told_2 := dk_seg dksX0_told_1 1 rfl rfl
theorem dksX0_told_3 : cX0_told.data.toList.drop 60 = dktX0_told_3 := dk_seg dksX0_told_2 35 rfl rfl
theorem dksX0_told_4 : cX0_told.data.toList.drop 84 = dktX0_told_4 := dk_seg dksX0_told_3 24 rfl rfl
theorem dksX0_told_5 : cX0_told.data.toList.drop 108 = dktX0_told_5 := dk_seg dksX0_told_4 24 rfl rfl
theorem dX0_told_0 : decode cX0_told 0 = .ok (.aload_n 0, 1) := dk_42 (dk_at dksX0_told_0 0 rfl rfl)
theorem dX0_told_1 : decode cX0_told 1 = .ok (.iload_n 1, 1) := dk_27 (dk_at dksX0_told_0 1 rfl rfl)
theorem dX0_told_2 : decode cX0_told 2 = .ok (.invokevirtual 245, 3) := dk_182 0 245 (dk_at dksX0_told_0 2 rfl rfl)
theorem dX0_told_5 : decode cX0_told 5 = .ok (.ifCond .ne 5, 3) := dk_154 0 5 (dk_at dksX0_told_0 5 rfl rfl)
theorem dX0_told_8 : decode cX0_told 8 = .ok (.iconst (-1), 1) := dk_2 (dk_at dksX0_told_0 8 rfl rfl)
theorem dX0_told_9 : decode cX0_told 9 = .ok (.ireturn, 1) := dk_172 (dk_at dksX0_told_0 9 rfl rfl)
theorem dX0_told_10 : decode cX0_told 10 = .ok (.aload_n 0, 1) := dk_42 (dk_at dksX0_told_0 10 rfl rfl)
theorem dX0_told_11 : decode cX0_told 11 = .ok (.getfield 28, 3) := dk_180 0 28 (dk_at dksX0_told_0 11 rfl rfl)
theorem dX0_told_14 : decode cX0_told 14 = .ok (.iload_n 1, 1) := dk_27 (dk_at dksX0_told_0 14 rfl rfl)
theorem dX0_told_15 : decode cX0_told 15 = .ok (.invokeinterface 152 2, 5) := by decide +kernel
theorem dX0_told_20 : decode cX0_told 20 = .ok (.checkcast 203, 3) := dk_192 0 203 (dk_at dksX0_told_0 20 rfl rfl)
theorem dX0_told_23 : decode cX0_told 23 = .ok (.astore_n 3, 1) := dk_78 (dk_at dksX0_told_0 23 rfl rfl)
theorem dX0_told_24 : decode cX0_told 24 = .ok (.iload_n 2, 1) := dk_28 (dk_at dksX0_told_1 0 rfl rfl)
theorem dX0_told_25 : decode cX0_told 25 = .ok (.tableswitch 100 0 4 #[35, 40, 60, 70, 83], 35) := by decide +kernel
theorem dX0_told_60 : decode cX0_told 60 = .ok (.aload_n 3, 1) := dk_45 (dk_at dksX0_told_3 0 rfl rfl)
theorem dX0_told_61 : decode cX0_told 61 = .ok (.getfield 254, 3) := dk_180 0 254 (dk_at dksX0_told_3 1 rfl rfl)
theorem dX0_told_64 : decode cX0_told 64 = .ok (.ireturn, 1) := dk_172 (dk_at dksX0_told_3 4 rfl rfl)
theorem dX0_told_65 : decode cX0_told 65 = .ok (.aload_n 3, 1) := dk_45 (dk_at dksX0_told_3 5 rfl rfl)
theorem dX0_told_66 : decode cX0_told 66 = .ok (.getfield 257, 3) := dk_180 1 1 (dk_at dksX0_told_3 6 rfl rfl)
theorem dX0_told_69 : decode cX0_told 69 = .ok (.ifnonnull 8, 3) := dk_199 0 8 (dk_at dksX0_told_3 9 rfl rfl)
theorem dX0_told_72 : decode cX0_told 72 = .ok (.bipush (-4), 2) := dk_16 252 (dk_at dksX0_told_3 12 rfl rfl)
theorem dX0_told_74 : decode cX0_told 74 = .ok (.goto 10, 3) := dk_167 0 10 (dk_at dksX0_told_3 14 rfl rfl)
theorem dX0_told_77 : decode cX0_told 77 = .ok (.aload_n 3, 1) := dk_45 (dk_at dksX0_told_3 17 rfl rfl)
theorem dX0_told_78 : decode cX0_told 78 = .ok (.getfield 257, 3) := dk_180 1 1 (dk_at dksX0_told_3 18 rfl rfl)
theorem dX0_told_81 : decode cX0_told 81 = .ok (.getfield 234, 3) := dk_180 0 234 (dk_at dksX0_told_3 21 rfl rfl)
theorem dX0_told_84 : decode cX0_told 84 = .ok (.ireturn, 1) := dk_172 (dk_at dksX0_told_4 0 rfl rfl)
theorem dX0_told_85 : decode cX0_told 85 = .ok (.aload_n 3, 1) := dk_45 (dk_at dksX0_told_4 1 rfl rfl)
theorem dX0_told_86 : decode cX0_told 86 = .ok (.getfield 231, 3) := dk_180 0 231 (dk_at dksX0_told_4 2 rfl rfl)
theorem dX0_told_89 : decode cX0_told 89 = .ok (.invokeinterface 91 1, 5) := by decide +kernel
theorem dX0_told_94 : decode cX0_told 94 = .ok (.ireturn, 1) := dk_172 (dk_at dksX0_told_4 10 rfl rfl)
theorem dX0_told_95 : decode cX0_told 95 = .ok (.aload_n 3, 1) := dk_45 (dk_at dksX0_told_4 11 rfl rfl)
theorem dX0_told_96 : decode cX0_told 96 = .ok (.getfield 212, 3) := dk_180 0 212 (dk_at dksX0_told_4 12 rfl rfl)
theorem dX0_told_99 : decode cX0_told 99 = .ok (.ifCond .eq 7, 3) := dk_153 0 7 (dk_at dksX0_told_4 15 rfl rfl)
theorem dX0_told_102 : decode cX0_told 102 = .ok (.iconst 1, 1) := dk_4 (dk_at dksX0_told_4 18 rfl rfl)
theorem dX0_told_103 : decode cX0_told 103 = .ok (.goto 4, 3) := dk_167 0 4 (dk_at dksX0_told_4 19 rfl rfl)
theorem dX0_told_106 : decode cX0_told 106 = .ok (.iconst 0, 1) := dk_3 (dk_at dksX0_told_4 22 rfl rfl)
theorem dX0_told_107 : decode cX0_told 107 = .ok (.ireturn, 1) := dk_172 (dk_at dksX0_told_4 23 rfl rfl)
theorem dX0_told_108 : decode cX0_told 108 = .ok (.aload_n 3, 1) := dk_45 (dk_at dksX0_told_5 0 rfl rfl)
theorem dX0_told_109 : decode cX0_told 109 = .ok (.getfield 205, 3) := dk_180 0 205 (dk_at dksX0_told_5 1 rfl rfl)
theorem dX0_told_112 : decode cX0_told 112 = .ok (.ifnonnull 8, 3) := dk_199 0 8 (dk_at dksX0_told_5 4 rfl rfl)
theorem dX0_told_115 : decode cX0_told 115 = .ok (.bipush (-4), 2) := dk_16 252 (dk_at dksX0_told_5 7 rfl rfl)
theorem dX0_told_117 : decode cX0_told 117 = .ok (.goto 7, 3) := dk_167 0 7 (dk_at dksX0_told_5 9 rfl rfl)
theorem dX0_told_120 : decode cX0_told 120 = .ok (.aload_n 3, 1) := dk_45 (dk_at dksX0_told_5 12 rfl rfl)
theorem dX0_told_121 : decode cX0_told 121 = .ok (.getfield 261, 3) := dk_180 1 5 (dk_at dksX0_told_5 13 rfl rfl)
theorem dX0_told_124 : decode cX0_told 124 = .ok (.ireturn, 1) := dk_172 (dk_at dksX0_told_5 16 rfl rfl)
theorem dX0_told_125 : decode cX0_told 125 = .ok (.iconst (-1), 1) := dk_2 (dk_at dksX0_told_5 17 rfl rfl)
theorem dX0_told_126 : decode cX0_told 126 = .ok (.ireturn, 1) := dk_172 (dk_at dksX0_told_5 18 rfl rfl)
abbrev cX0_go : ByteArray := prog_1_method_37_code
def yX0_go : MethodName := ⟨RX0, "go", "(II)I"⟩
def dkwX0_go_10 : List UInt8 := [167, 255, 152, 45, 180, 1, 5, 172]
abbrev dktX0_go_10 : List UInt8 := dkwX0_go_10 ++ []
def dkwX0_go_9 : List UInt8 := [25, 6, 181, 1, 20, 25, 8, 25, 4, 181, 1, 23, 25, 8, 42, 180, 0, 169, 181, 1, 26, 132, 7, 1]
abbrev dktX0_go_9 : List UInt8 := dkwX0_go_9 ++ dktX0_go_10
def dkwX0_go_8 : List UInt8 := [180, 0, 18, 25, 6, 180, 0, 105, 50, 25, 4, 180, 0, 105, 46, 96, 21, 5, 96, 181, 1, 5, 25, 8]
abbrev dktX0_go_8 : List UInt8 := dkwX0_go_8 ++ dktX0_go_9
def dkwX0_go_7 : List UInt8 := [181, 0, 209, 25, 8, 3, 181, 0, 212, 25, 8, 25, 4, 181, 0, 205, 25, 8, 42, 180, 0, 169, 42]
abbrev dktX0_go_7 : List UInt8 := dkwX0_go_7 ++ dktX0_go_8
def dkwX0_go_6 : List UInt8 := [162, 0, 96, 42, 180, 0, 31, 21, 7, 185, 0, 152, 2, 0, 192, 0, 203, 58, 8, 25, 8, 1]
abbrev dktX0_go_6 : List UInt8 := dkwX0_go_6 ++ dktX0_go_7
def dkwX0_go_5 : List UInt8 := [16, 254, 172, 45, 180, 0, 209, 58, 6, 3, 54, 7, 21, 7, 42, 180, 0, 31, 185, 0, 91, 1, 0]
abbrev dktX0_go_5 : List UInt8 := dkwX0_go_5 ++ dktX0_go_6
def dkwX0_go_4 : List UInt8 := [45, 182, 1, 16, 54, 5, 42, 25, 4, 182, 0, 235, 42, 180, 0, 31, 185, 0, 91, 1, 0, 162, 0, 6]
abbrev dktX0_go_4 : List UInt8 := dkwX0_go_4 ++ dktX0_go_5
def dkwX0_go_3 : List UInt8 := [45, 180, 0, 209, 198, 0, 16, 42, 45, 180, 0, 209, 25, 4, 182, 1, 12, 154, 0, 6, 16, 254, 172, 42]
abbrev dktX0_go_3 : List UInt8 := dkwX0_go_3 ++ dktX0_go_4
def dkwX0_go_2 : List UInt8 := [185, 0, 152, 2, 0, 192, 0, 203, 78, 42, 180, 0, 12, 28, 185, 0, 152, 2, 0, 192, 0, 106, 58, 4]
abbrev dktX0_go_2 : List UInt8 := dkwX0_go_2 ++ dktX0_go_3
def dkwX0_go_1 : List UInt8 := [185, 0, 152, 2, 0, 192, 0, 203, 182, 0, 248, 153, 0, 5, 2, 172, 42, 180, 0, 28, 27]
abbrev dktX0_go_1 : List UInt8 := dkwX0_go_1 ++ dktX0_go_2
def dkwX0_go_0 : List UInt8 := [42, 27, 182, 0, 245, 153, 0, 30, 42, 28, 182, 0, 143, 153, 0, 22, 42, 180, 0, 28, 27]
abbrev dktX0_go_0 : List UInt8 := dkwX0_go_0 ++ dktX0_go_1
theorem dksX0_go_0 : cX0_go.data.toList.drop 0 = dktX0_go_0 := by decide +kernel
theorem dksX0_go_1 : cX0_go.data.toList.drop 21 = dktX0_go_1 := dk_seg dksX0_go_0 21 rfl rfl
theorem dksX0_go_2 : cX0_go.data.toList.drop 42 = dktX0_go_2 := dk_seg dksX0_go_1 21 rfl rfl
theorem dksX0_go_3 : cX0_go.data.toList.drop 66 = dktX0_go_3 := dk_seg dksX0_go_2 24 rfl rfl
theorem dksX0_go_4 : cX0_go.data.toList.drop 90 = dktX0_go_4 := dk_seg dksX0_go_3 24 rfl rfl
theorem dksX0_go_5 : cX0_go.data.toList.drop 114 = dktX0_go_5 := dk_seg dksX0_go_4 24 rfl rfl
theorem dksX0_go_6 : cX0_go.data.toList.drop 137 = dktX0_go_6 := dk_seg dksX0_go_5 23 rfl rfl
theorem dksX0_go_7 : cX0_go.data.toList.drop 159 = dktX0_go_7 := dk_seg dksX0_go_6 22 rfl rfl
theorem dksX0_go_8 : cX0_go.data.toList.drop 182 = dktX0_go_8 := dk_seg dksX0_go_7 23 rfl rfl
theorem dksX0_go_9 : cX0_go.data.toList.drop 206 = dktX0_go_9 := dk_seg dksX0_go_8 24 rfl rfl
theorem dksX0_go_10 : cX0_go.data.toList.drop 230 = dktX0_go_10 := dk_seg dksX0_go_9 24 rfl rfl
theorem dX0_go_0 : decode cX0_go 0 = .ok (.aload_n 0, 1) := dk_42 (dk_at dksX0_go_0 0 rfl rfl)
theorem dX0_go_1 : decode cX0_go 1 = .ok (.iload_n 1, 1) := dk_27 (dk_at dksX0_go_0 1 rfl rfl)
theorem dX0_go_2 : decode cX0_go 2 = .ok (.invokevirtual 245, 3) := dk_182 0 245 (dk_at dksX0_go_0 2 rfl rfl)
theorem dX0_go_5 : decode cX0_go 5 = .ok (.ifCond .eq 30, 3) := dk_153 0 30 (dk_at dksX0_go_0 5 rfl rfl)
theorem dX0_go_8 : decode cX0_go 8 = .ok (.aload_n 0, 1) := dk_42 (dk_at dksX0_go_0 8 rfl rfl)
theorem dX0_go_9 : decode cX0_go 9 = .ok (.iload_n 2, 1) := dk_28 (dk_at dksX0_go_0 9 rfl rfl)
theorem dX0_go_10 : decode cX0_go 10 = .ok (.invokevirtual 143, 3) := dk_182 0 143 (dk_at dksX0_go_0 10 rfl rfl)
theorem dX0_go_13 : decode cX0_go 13 = .ok (.ifCond .eq 22, 3) := dk_153 0 22 (dk_at dksX0_go_0 13 rfl rfl)
theorem dX0_go_16 : decode cX0_go 16 = .ok (.aload_n 0, 1) := dk_42 (dk_at dksX0_go_0 16 rfl rfl)
theorem dX0_go_17 : decode cX0_go 17 = .ok (.getfield 28, 3) := dk_180 0 28 (dk_at dksX0_go_0 17 rfl rfl)
theorem dX0_go_20 : decode cX0_go 20 = .ok (.iload_n 1, 1) := dk_27 (dk_at dksX0_go_0 20 rfl rfl)
theorem dX0_go_21 : decode cX0_go 21 = .ok (.invokeinterface 152 2, 5) := by decide +kernel
theorem dX0_go_26 : decode cX0_go 26 = .ok (.checkcast 203, 3) := dk_192 0 203 (dk_at dksX0_go_1 5 rfl rfl)
theorem dX0_go_29 : decode cX0_go 29 = .ok (.invokevirtual 248, 3) := dk_182 0 248 (dk_at dksX0_go_1 8 rfl rfl)
theorem dX0_go_32 : decode cX0_go 32 = .ok (.ifCond .eq 5, 3) := dk_153 0 5 (dk_at dksX0_go_1 11 rfl rfl)
theorem dX0_go_35 : decode cX0_go 35 = .ok (.iconst (-1), 1) := dk_2 (dk_at dksX0_go_1 14 rfl rfl)
theorem dX0_go_36 : decode cX0_go 36 = .ok (.ireturn, 1) := dk_172 (dk_at dksX0_go_1 15 rfl rfl)
theorem dX0_go_37 : decode cX0_go 37 = .ok (.aload_n 0, 1) := dk_42 (dk_at dksX0_go_1 16 rfl rfl)
theorem dX0_go_38 : decode cX0_go 38 = .ok (.getfield 28, 3) := dk_180 0 28 (dk_at dksX0_go_1 17 rfl rfl)
theorem dX0_go_41 : decode cX0_go 41 = .ok (.iload_n 1, 1) := dk_27 (dk_at dksX0_go_1 20 rfl rfl)
theorem dX0_go_42 : decode cX0_go 42 = .ok (.invokeinterface 152 2, 5) := by decide +kernel
theorem dX0_go_47 : decode cX0_go 47 = .ok (.checkcast 203, 3) := dk_192 0 203 (dk_at dksX0_go_2 5 rfl rfl)
theorem dX0_go_50 : decode cX0_go 50 = .ok (.astore_n 3, 1) := dk_78 (dk_at dksX0_go_2 8 rfl rfl)
theorem dX0_go_51 : decode cX0_go 51 = .ok (.aload_n 0, 1) := dk_42 (dk_at dksX0_go_2 9 rfl rfl)
theorem dX0_go_52 : decode cX0_go 52 = .ok (.getfield 12, 3) := dk_180 0 12 (dk_at dksX0_go_2 10 rfl rfl)
theorem dX0_go_55 : decode cX0_go 55 = .ok (.iload_n 2, 1) := dk_28 (dk_at dksX0_go_2 13 rfl rfl)
theorem dX0_go_56 : decode cX0_go 56 = .ok (.invokeinterface 152 2, 5) := by decide +kernel
theorem dX0_go_61 : decode cX0_go 61 = .ok (.checkcast 106, 3) := dk_192 0 106 (dk_at dksX0_go_2 19 rfl rfl)
theorem dX0_go_64 : decode cX0_go 64 = .ok (.astore 4, 2) := dk_58 4 (dk_at dksX0_go_2 22 rfl rfl)
theorem dX0_go_66 : decode cX0_go 66 = .ok (.aload_n 3, 1) := dk_45 (dk_at dksX0_go_3 0 rfl rfl)
theorem dX0_go_67 : decode cX0_go 67 = .ok (.getfield 209, 3) := dk_180 0 209 (dk_at dksX0_go_3 1 rfl rfl)
theorem dX0_go_70 : decode cX0_go 70 = .ok (.ifnull 16, 3) := dk_198 0 16 (dk_at dksX0_go_3 4 rfl rfl)
theorem dX0_go_73 : decode cX0_go 73 = .ok (.aload_n 0, 1) := dk_42 (dk_at dksX0_go_3 7 rfl rfl)
theorem dX0_go_74 : decode cX0_go 74 = .ok (.aload_n 3, 1) := dk_45 (dk_at dksX0_go_3 8 rfl rfl)
theorem dX0_go_75 : decode cX0_go 75 = .ok (.getfield 209, 3) := dk_180 0 209 (dk_at dksX0_go_3 9 rfl rfl)
theorem dX0_go_78 : decode cX0_go 78 = .ok (.aload 4, 2) := dk_25 4 (dk_at dksX0_go_3 12 rfl rfl)
theorem dX0_go_80 : decode cX0_go 80 = .ok (.invokevirtual 268, 3) := dk_182 1 12 (dk_at dksX0_go_3 14 rfl rfl)
theorem dX0_go_83 : decode cX0_go 83 = .ok (.ifCond .ne 6, 3) := dk_154 0 6 (dk_at dksX0_go_3 17 rfl rfl)
theorem dX0_go_86 : decode cX0_go 86 = .ok (.bipush (-2), 2) := dk_16 254 (dk_at dksX0_go_3 20 rfl rfl)
theorem dX0_go_88 : decode cX0_go 88 = .ok (.ireturn, 1) := dk_172 (dk_at dksX0_go_3 22 rfl rfl)
theorem dX0_go_89 : decode cX0_go 89 = .ok (.aload_n 0, 1) := dk_42 (dk_at dksX0_go_3 23 rfl rfl)
theorem dX0_go_90 : decode cX0_go 90 = .ok (.aload_n 3, 1) := dk_45 (dk_at dksX0_go_4 0 rfl rfl)
theorem dX0_go_91 : decode cX0_go 91 = .ok (.invokevirtual 272, 3) := dk_182 1 16 (dk_at dksX0_go_4 1 rfl rfl)
theorem dX0_go_94 : decode cX0_go 94 = .ok (.istore 5, 2) := dk_54 5 (dk_at dksX0_go_4 4 rfl rfl)
theorem dX0_go_96 : decode cX0_go 96 = .ok (.aload_n 0, 1) := dk_42 (dk_at dksX0_go_4 6 rfl rfl)
theorem dX0_go_97 : decode cX0_go 97 = .ok (.aload 4, 2) := dk_25 4 (dk_at dksX0_go_4 7 rfl rfl)
theorem dX0_go_99 : decode cX0_go 99 = .ok (.invokevirtual 235, 3) := dk_182 0 235 (dk_at dksX0_go_4 9 rfl rfl)
theorem dX0_go_102 : decode cX0_go 102 = .ok (.aload_n 0, 1) := dk_42 (dk_at dksX0_go_4 12 rfl rfl)
theorem dX0_go_103 : decode cX0_go 103 = .ok (.getfield 31, 3) := dk_180 0 31 (dk_at dksX0_go_4 13 rfl rfl)
theorem dX0_go_106 : decode cX0_go 106 = .ok (.invokeinterface 91 1, 5) := by decide +kernel
theorem dX0_go_111 : decode cX0_go 111 = .ok (.if_icmp .ge 6, 3) := dk_162 0 6 (dk_at dksX0_go_4 21 rfl rfl)
theorem dX0_go_114 : decode cX0_go 114 = .ok (.bipush (-2), 2) := dk_16 254 (dk_at dksX0_go_5 0 rfl rfl)
theorem dX0_go_116 : decode cX0_go 116 = .ok (.ireturn, 1) := dk_172 (dk_at dksX0_go_5 2 rfl rfl)
theorem dX0_go_117 : decode cX0_go 117 = .ok (.aload_n 3, 1) := dk_45 (dk_at dksX0_go_5 3 rfl rfl)
theorem dX0_go_118 : decode cX0_go 118 = .ok (.getfield 209, 3) := dk_180 0 209 (dk_at dksX0_go_5 4 rfl rfl)
theorem dX0_go_121 : decode cX0_go 121 = .ok (.astore 6, 2) := dk_58 6 (dk_at dksX0_go_5 7 rfl rfl)
theorem dX0_go_123 : decode cX0_go 123 = .ok (.iconst 0, 1) := dk_3 (dk_at dksX0_go_5 9 rfl rfl)
theorem dX0_go_124 : decode cX0_go 124 = .ok (.istore 7, 2) := dk_54 7 (dk_at dksX0_go_5 10 rfl rfl)
theorem dX0_go_126 : decode cX0_go 126 = .ok (.iload 7, 2) := dk_21 7 (dk_at dksX0_go_5 12 rfl rfl)
theorem dX0_go_128 : decode cX0_go 128 = .ok (.aload_n 0, 1) := dk_42 (dk_at dksX0_go_5 14 rfl rfl)
theorem dX0_go_129 : decode cX0_go 129 = .ok (.getfield 31, 3) := dk_180 0 31 (dk_at dksX0_go_5 15 rfl rfl)
theorem dX0_go_132 : decode cX0_go 132 = .ok (.invokeinterface 91 1, 5) := by decide +kernel
theorem dX0_go_137 : decode cX0_go 137 = .ok (.if_icmp .ge 96, 3) := dk_162 0 96 (dk_at dksX0_go_6 0 rfl rfl)
theorem dX0_go_140 : decode cX0_go 140 = .ok (.aload_n 0, 1) := dk_42 (dk_at dksX0_go_6 3 rfl rfl)
theorem dX0_go_141 : decode cX0_go 141 = .ok (.getfield 31, 3) := dk_180 0 31 (dk_at dksX0_go_6 4 rfl rfl)
theorem dX0_go_144 : decode cX0_go 144 = .ok (.iload 7, 2) := dk_21 7 (dk_at dksX0_go_6 7 rfl rfl)
theorem dX0_go_146 : decode cX0_go 146 = .ok (.invokeinterface 152 2, 5) := by decide +kernel
theorem dX0_go_151 : decode cX0_go 151 = .ok (.checkcast 203, 3) := dk_192 0 203 (dk_at dksX0_go_6 14 rfl rfl)
theorem dX0_go_154 : decode cX0_go 154 = .ok (.astore 8, 2) := dk_58 8 (dk_at dksX0_go_6 17 rfl rfl)
theorem dX0_go_156 : decode cX0_go 156 = .ok (.aload 8, 2) := dk_25 8 (dk_at dksX0_go_6 19 rfl rfl)
theorem dX0_go_158 : decode cX0_go 158 = .ok (.aconst_null, 1) := dk_1 (dk_at dksX0_go_6 21 rfl rfl)
theorem dX0_go_159 : decode cX0_go 159 = .ok (.putfield 209, 3) := dk_181 0 209 (dk_at dksX0_go_7 0 rfl rfl)
theorem dX0_go_162 : decode cX0_go 162 = .ok (.aload 8, 2) := dk_25 8 (dk_at dksX0_go_7 3 rfl rfl)
theorem dX0_go_164 : decode cX0_go 164 = .ok (.iconst 0, 1) := dk_3 (dk_at dksX0_go_7 5 rfl rfl)
theorem dX0_go_165 : decode cX0_go 165 = .ok (.putfield 212, 3) := dk_181 0 212 (dk_at dksX0_go_7 6 rfl rfl)
theorem dX0_go_168 : decode cX0_go 168 = .ok (.aload 8, 2) := dk_25 8 (dk_at dksX0_go_7 9 rfl rfl)
theorem dX0_go_170 : decode cX0_go 170 = .ok (.aload 4, 2) := dk_25 4 (dk_at dksX0_go_7 11 rfl rfl)
theorem dX0_go_172 : decode cX0_go 172 = .ok (.putfield 205, 3) := dk_181 0 205 (dk_at dksX0_go_7 13 rfl rfl)
theorem dX0_go_175 : decode cX0_go 175 = .ok (.aload 8, 2) := dk_25 8 (dk_at dksX0_go_7 16 rfl rfl)
theorem dX0_go_177 : decode cX0_go 177 = .ok (.aload_n 0, 1) := dk_42 (dk_at dksX0_go_7 18 rfl rfl)
theorem dX0_go_178 : decode cX0_go 178 = .ok (.getfield 169, 3) := dk_180 0 169 (dk_at dksX0_go_7 19 rfl rfl)
theorem dX0_go_181 : decode cX0_go 181 = .ok (.aload_n 0, 1) := dk_42 (dk_at dksX0_go_7 22 rfl rfl)
theorem dX0_go_182 : decode cX0_go 182 = .ok (.getfield 18, 3) := dk_180 0 18 (dk_at dksX0_go_8 0 rfl rfl)
theorem dX0_go_185 : decode cX0_go 185 = .ok (.aload 6, 2) := dk_25 6 (dk_at dksX0_go_8 3 rfl rfl)
theorem dX0_go_187 : decode cX0_go 187 = .ok (.getfield 105, 3) := dk_180 0 105 (dk_at dksX0_go_8 5 rfl rfl)
theorem dX0_go_190 : decode cX0_go 190 = .ok (.aaload, 1) := dk_50 (dk_at dksX0_go_8 8 rfl rfl)
theorem dX0_go_191 : decode cX0_go 191 = .ok (.aload 4, 2) := dk_25 4 (dk_at dksX0_go_8 9 rfl rfl)
theorem dX0_go_193 : decode cX0_go 193 = .ok (.getfield 105, 3) := dk_180 0 105 (dk_at dksX0_go_8 11 rfl rfl)
theorem dX0_go_196 : decode cX0_go 196 = .ok (.iaload, 1) := dk_46 (dk_at dksX0_go_8 14 rfl rfl)
theorem dX0_go_197 : decode cX0_go 197 = .ok (.iadd, 1) := dk_96 (dk_at dksX0_go_8 15 rfl rfl)
theorem dX0_go_198 : decode cX0_go 198 = .ok (.iload 5, 2) := dk_21 5 (dk_at dksX0_go_8 16 rfl rfl)
theorem dX0_go_200 : decode cX0_go 200 = .ok (.iadd, 1) := dk_96 (dk_at dksX0_go_8 18 rfl rfl)
theorem dX0_go_201 : decode cX0_go 201 = .ok (.putfield 261, 3) := dk_181 1 5 (dk_at dksX0_go_8 19 rfl rfl)
theorem dX0_go_204 : decode cX0_go 204 = .ok (.aload 8, 2) := dk_25 8 (dk_at dksX0_go_8 22 rfl rfl)
theorem dX0_go_206 : decode cX0_go 206 = .ok (.aload 6, 2) := dk_25 6 (dk_at dksX0_go_9 0 rfl rfl)
theorem dX0_go_208 : decode cX0_go 208 = .ok (.putfield 276, 3) := dk_181 1 20 (dk_at dksX0_go_9 2 rfl rfl)
theorem dX0_go_211 : decode cX0_go 211 = .ok (.aload 8, 2) := dk_25 8 (dk_at dksX0_go_9 5 rfl rfl)
theorem dX0_go_213 : decode cX0_go 213 = .ok (.aload 4, 2) := dk_25 4 (dk_at dksX0_go_9 7 rfl rfl)
theorem dX0_go_215 : decode cX0_go 215 = .ok (.putfield 279, 3) := dk_181 1 23 (dk_at dksX0_go_9 9 rfl rfl)
theorem dX0_go_218 : decode cX0_go 218 = .ok (.aload 8, 2) := dk_25 8 (dk_at dksX0_go_9 12 rfl rfl)
theorem dX0_go_220 : decode cX0_go 220 = .ok (.aload_n 0, 1) := dk_42 (dk_at dksX0_go_9 14 rfl rfl)
theorem dX0_go_221 : decode cX0_go 221 = .ok (.getfield 169, 3) := dk_180 0 169 (dk_at dksX0_go_9 15 rfl rfl)
theorem dX0_go_224 : decode cX0_go 224 = .ok (.putfield 282, 3) := dk_181 1 26 (dk_at dksX0_go_9 18 rfl rfl)
theorem dX0_go_227 : decode cX0_go 227 = .ok (.iinc 7 1, 3) := dk_132 7 1 (dk_at dksX0_go_9 21 rfl rfl)
theorem dX0_go_230 : decode cX0_go 230 = .ok (.goto (-104), 3) := dk_167 255 152 (dk_at dksX0_go_10 0 rfl rfl)
theorem dX0_go_233 : decode cX0_go 233 = .ok (.aload_n 3, 1) := dk_45 (dk_at dksX0_go_10 3 rfl rfl)
theorem dX0_go_234 : decode cX0_go 234 = .ok (.getfield 261, 3) := dk_180 1 5 (dk_at dksX0_go_10 4 rfl rfl)
theorem dX0_go_237 : decode cX0_go 237 = .ok (.ireturn, 1) := dk_172 (dk_at dksX0_go_10 7 rfl rfl)
abbrev cX0_canPass : ByteArray := prog_1_method_36_code
def yX0_canPass : MethodName := ⟨RX0, "canPass", "(LRoadHouses$Place;LRoadHouses$Place;)Z"⟩
def dkwX0_canPass_2 : List UInt8 := [167, 0, 4, 3, 172]
abbrev dktX0_canPass_2 : List UInt8 := dkwX0_canPass_2 ++ []
def dkwX0_canPass_1 : List UInt8 := [184, 0, 196, 182, 1, 11, 153, 0, 21, 44, 42, 180, 0, 169, 184, 0, 196, 182, 1, 11, 153, 0, 7, 4]
abbrev dktX0_canPass_1 : List UInt8 := dkwX0_canPass_1 ++ dktX0_canPass_2
def dkwX0_canPass_0 : List UInt8 := [42, 180, 0, 18, 43, 180, 0, 105, 50, 44, 180, 0, 105, 46, 158, 0, 35, 43, 42, 180, 0, 169]
abbrev dktX0_canPass_0 : List UInt8 := dkwX0_canPass_0 ++ dktX0_canPass_1
theorem dksX0_canPass_0 : cX0_canPass.data.toList.drop 0 = dktX0_canPass_0 := by decide +kernel
theorem dksX0_canPass_1 : cX0_canPass.data.toList.drop 22 = dktX0_canPass_1 := dk_seg dksX0_canPass_0 22 rfl rfl
theorem dksX0_canPass_2 : cX0_canPass.data.toList.drop 46 = dktX0_canPass_2 := dk_seg dksX0_canPass_1 24 rfl rfl
theorem dX0_canPass_0 : decode cX0_canPass 0 = .ok (.aload_n 0, 1) := dk_42 (dk_at dksX0_canPass_0 0 rfl rfl)
theorem dX0_canPass_1 : decode cX0_canPass 1 = .ok (.getfield 18, 3) := dk_180 0 18 (dk_at dksX0_canPass_0 1 rfl rfl)
theorem dX0_canPass_4 : decode cX0_canPass 4 = .ok (.aload_n 1, 1) := dk_43 (dk_at dksX0_canPass_0 4 rfl rfl)
theorem dX0_canPass_5 : decode cX0_canPass 5 = .ok (.getfield 105, 3) := dk_180 0 105 (dk_at dksX0_canPass_0 5 rfl rfl)
theorem dX0_canPass_8 : decode cX0_canPass 8 = .ok (.aaload, 1) := dk_50 (dk_at dksX0_canPass_0 8 rfl rfl)
theorem dX0_canPass_9 : decode cX0_canPass 9 = .ok (.aload_n 2, 1) := dk_44 (dk_at dksX0_canPass_0 9 rfl rfl)
theorem dX0_canPass_10 : decode cX0_canPass 10 = .ok (.getfield 105, 3) := dk_180 0 105 (dk_at dksX0_canPass_0 10 rfl rfl)
theorem dX0_canPass_13 : decode cX0_canPass 13 = .ok (.iaload, 1) := dk_46 (dk_at dksX0_canPass_0 13 rfl rfl)
theorem dX0_canPass_14 : decode cX0_canPass 14 = .ok (.ifCond .le 35, 3) := dk_158 0 35 (dk_at dksX0_canPass_0 14 rfl rfl)
theorem dX0_canPass_17 : decode cX0_canPass 17 = .ok (.aload_n 1, 1) := dk_43 (dk_at dksX0_canPass_0 17 rfl rfl)
theorem dX0_canPass_18 : decode cX0_canPass 18 = .ok (.aload_n 0, 1) := dk_42 (dk_at dksX0_canPass_0 18 rfl rfl)
theorem dX0_canPass_19 : decode cX0_canPass 19 = .ok (.getfield 169, 3) := dk_180 0 169 (dk_at dksX0_canPass_0 19 rfl rfl)
theorem dX0_canPass_22 : decode cX0_canPass 22 = .ok (.invokestatic 196, 3) := dk_184 0 196 (dk_at dksX0_canPass_1 0 rfl rfl)
theorem dX0_canPass_25 : decode cX0_canPass 25 = .ok (.invokevirtual 267, 3) := dk_182 1 11 (dk_at dksX0_canPass_1 3 rfl rfl)
theorem dX0_canPass_28 : decode cX0_canPass 28 = .ok (.ifCond .eq 21, 3) := dk_153 0 21 (dk_at dksX0_canPass_1 6 rfl rfl)
theorem dX0_canPass_31 : decode cX0_canPass 31 = .ok (.aload_n 2, 1) := dk_44 (dk_at dksX0_canPass_1 9 rfl rfl)
theorem dX0_canPass_32 : decode cX0_canPass 32 = .ok (.aload_n 0, 1) := dk_42 (dk_at dksX0_canPass_1 10 rfl rfl)
theorem dX0_canPass_33 : decode cX0_canPass 33 = .ok (.getfield 169, 3) := dk_180 0 169 (dk_at dksX0_canPass_1 11 rfl rfl)
theorem dX0_canPass_36 : decode cX0_canPass 36 = .ok (.invokestatic 196, 3) := dk_184 0 196 (dk_at dksX0_canPass_1 14 rfl rfl)
theorem dX0_canPass_39 : decode cX0_canPass 39 = .ok (.invokevirtual 267, 3) := dk_182 1 11 (dk_at dksX0_canPass_1 17 rfl rfl)
theorem dX0_canPass_42 : decode cX0_canPass 42 = .ok (.ifCond .eq 7, 3) := dk_153 0 7 (dk_at dksX0_canPass_1 20 rfl rfl)
theorem dX0_canPass_45 : decode cX0_canPass 45 = .ok (.iconst 1, 1) := dk_4 (dk_at dksX0_canPass_1 23 rfl rfl)
theorem dX0_canPass_46 : decode cX0_canPass 46 = .ok (.goto 4, 3) := dk_167 0 4 (dk_at dksX0_canPass_2 0 rfl rfl)
theorem dX0_canPass_49 : decode cX0_canPass 49 = .ok (.iconst 0, 1) := dk_3 (dk_at dksX0_canPass_2 3 rfl rfl)
theorem dX0_canPass_50 : decode cX0_canPass 50 = .ok (.ireturn, 1) := dk_172 (dk_at dksX0_canPass_2 4 rfl rfl)
abbrev cX0_findParty : ByteArray := prog_1_method_35_code
def yX0_findParty : MethodName := ⟨RX0, "findParty", "(LRoadHouses$Person;)I"⟩
def dkwX0_findParty_4 : List UInt8 := [132, 3, 1, 167, 255, 184, 28, 172]
abbrev dktX0_findParty_4 : List UInt8 := dkwX0_findParty_4 ++ []
def dkwX0_findParty_3 : List UInt8 := [185, 0, 101, 2, 0, 87, 28, 25, 4, 180, 0, 254, 7, 162, 0, 7, 4, 167, 0, 4, 3, 96, 61]
abbrev dktX0_findParty_3 : List UInt8 := dkwX0_findParty_3 ++ dktX0_findParty_4
def dkwX0_findParty_2 : List UInt8 := [192, 0, 203, 58, 4, 25, 4, 180, 0, 209, 43, 180, 0, 209, 166, 0, 32, 42, 180, 0, 31, 25, 4]
abbrev dktX0_findParty_2 : List UInt8 := dkwX0_findParty_2 ++ dktX0_findParty_3
def dkwX0_findParty_1 : List UInt8 := [29, 43, 180, 0, 231, 185, 0, 91, 1, 0, 162, 0, 65, 43, 180, 0, 231, 29, 185, 0, 152, 2, 0]
abbrev dktX0_findParty_1 : List UInt8 := dkwX0_findParty_1 ++ dktX0_findParty_2
def dkwX0_findParty_0 : List UInt8 := [42, 180, 0, 31, 185, 1, 8, 1, 0, 42, 180, 0, 31, 43, 185, 0, 101, 2, 0, 87, 3, 61, 3, 62]
abbrev dktX0_findParty_0 : List UInt8 := dkwX0_findParty_0 ++ dktX0_findParty_1
theorem dksX0_findParty_0 : cX0_findParty.data.toList.drop 0 = dktX0_findParty_0 := by decide +kernel
theorem dksX0_findParty_1 : cX0_findParty.data.toList.drop 24 = dktX0_findParty_1 := dk_seg dksX0_findParty_0 24 rfl rfl
theorem dksX0_findParty_2 : cX0_findParty.data.toList.drop 47 = dktX0_findParty_2 := dk_seg dksX0_findParty_1 23 rfl rfl
theorem dksX0_findParty_3 : cX0_findParty.data.toList.drop 70 = dktX0_findParty_3 := dk_seg dksX0_findParty_2 23 rfl rfl
theorem dksX0_findParty_4 : cX0_findParty.data.toList.drop 93 = dktX0_findParty_4 := dk_seg dksX0_findParty_3 23 rfl rfl
theorem dX0_findParty_0 : decode cX0_findParty 0 = .ok (.aload_n 0, 1) := dk_42 (dk_at dksX0_findParty_0 0 rfl rfl)
theorem dX0_findParty_1 : decode cX0_findParty 1 = .ok (.getfield 31, 3) := dk_180 0 31 (dk_at dksX0_findParty_0 1 rfl rfl)
theorem dX0_findParty_4 : decode cX0_findParty 4 = .ok (.invokeinterface 264 1, 5) := by decide +kernel
theorem dX0_findParty_9 : decode cX0_findParty 9 = .ok (.aload_n 0, 1) := dk_42 (dk_at dksX0_findParty_0 9 rfl rfl)
theorem dX0_findParty_10 : decode cX0_findParty 10 = .ok (.getfield 31, 3) := dk_180 0 31 (dk_at dksX0_findParty_0 10 rfl rfl)
theorem dX0_findParty_13 : decode cX0_findParty 13 = .ok (.aload_n 1, 1) := dk_43 (dk_at dksX0_findParty_0 13 rfl rfl)
theorem dX0_findParty_14 : decode cX0_findParty 14 = .ok (.invokeinterface 101 2, 5) := by decide +kernel
theorem dX0_findParty_19 : decode cX0_findParty 19 = .ok (.pop, 1) := dk_87 (dk_at dksX0_findParty_0 19 rfl rfl)
theorem dX0_findParty_20 : decode cX0_findParty 20 = .ok (.iconst 0, 1) := dk_3 (dk_at dksX0_findParty_0 20 rfl rfl)
theorem dX0_findParty_21 : decode cX0_findParty 21 = .ok (.istore_n 2, 1) := dk_61 (dk_at dksX0_findParty_0 21 rfl rfl)
theorem dX0_findParty_22 : decode cX0_findParty 22 = .ok (.iconst 0, 1) := dk_3 (dk_at dksX0_findParty_0 22 rfl rfl)
theorem dX0_findParty_23 : decode cX0_findParty 23 = .ok (.istore_n 3, 1) := dk_62 (dk_at dksX0_findParty_0 23 rfl rfl)
theorem dX0_findParty_24 : decode cX0_findParty 24 = .ok (.iload_n 3, 1) := dk_29 (dk_at dksX0_findParty_1 0 rfl rfl)
theorem dX0_findParty_25 : decode cX0_findParty 25 = .ok (.aload_n 1, 1) := dk_43 (dk_at dksX0_findParty_1 1 rfl rfl)
theorem dX0_findParty_26 : decode cX0_findParty 26 = .ok (.getfield 231, 3) := dk_180 0 231 (dk_at dksX0_findParty_1 2 rfl rfl)
theorem dX0_findParty_29 : decode cX0_findParty 29 = .ok (.invokeinterface 91 1, 5) := by decide +kernel
theorem dX0_findParty_34 : decode cX0_findParty 34 = .ok (.if_icmp .ge 65, 3) := dk_162 0 65 (dk_at dksX0_findParty_1 10 rfl rfl)
theorem dX0_findParty_37 : decode cX0_findParty 37 = .ok (.aload_n 1, 1) := dk_43 (dk_at dksX0_findParty_1 13 rfl rfl)
theorem dX0_findParty_38 : decode cX0_findParty 38 = .ok (.getfield 231, 3) := dk_180 0 231 (dk_at dksX0_findParty_1 14 rfl rfl)
theorem dX0_findParty_41 : decode cX0_findParty 41 = .ok (.iload_n 3, 1) := dk_29 (dk_at dksX0_findParty_1 17 rfl rfl)
theorem dX0_findParty_42 : decode cX0_findParty 42 = .ok (.invokeinterface 152 2, 5) := by decide +kernel
theorem dX0_findParty_47 : decode cX0_findParty 47 = .ok (.checkcast 203, 3) := dk_192 0 203 (dk_at dksX0_findParty_2 0 rfl rfl)
theorem dX0_findParty_50 : decode cX0_findParty 50 = .ok (.astore 4, 2) := dk_58 4 (dk_at dksX0_findParty_2 3 rfl rfl)
theorem dX0_findParty_52 : decode cX0_findParty 52 = .ok (.aload 4, 2) := dk_25 4 (dk_at dksX0_findParty_2 5 rfl rfl)
theorem dX0_findParty_54 : decode cX0_findParty 54 = .ok (.getfield 209, 3) := dk_180 0 209 (dk_at dksX0_findParty_2 7 rfl rfl)
theorem dX0_findParty_57 : decode cX0_findParty 57 = .ok (.aload_n 1, 1) := dk_43 (dk_at dksX0_findParty_2 10 rfl rfl)
theorem dX0_findParty_58 : decode cX0_findParty 58 = .ok (.getfield 209, 3) := dk_180 0 209 (dk_at dksX0_findParty_2 11 rfl rfl)
theorem dX0_findParty_61 : decode cX0_findParty 61 = .ok (.if_acmp .ne 32, 3) := dk_166 0 32 (dk_at dksX0_findParty_2 14 rfl rfl)
theorem dX0_findParty_64 : decode cX0_findParty 64 = .ok (.aload_n 0, 1) := dk_42 (dk_at dksX0_findParty_2 17 rfl rfl)
theorem dX0_findParty_65 : decode cX0_findParty 65 = .ok (.getfield 31, 3) := dk_180 0 31 (dk_at dksX0_findParty_2 18 rfl rfl)
theorem dX0_findParty_68 : decode cX0_findParty 68 = .ok (.aload 4, 2) := dk_25 4 (dk_at dksX0_findParty_2 21 rfl rfl)
theorem dX0_findParty_70 : decode cX0_findParty 70 = .ok (.invokeinterface 101 2, 5) := by decide +kernel
theorem dX0_findParty_75 : decode cX0_findParty 75 = .ok (.pop, 1) := dk_87 (dk_at dksX0_findParty_3 5 rfl rfl)
theorem dX0_findParty_76 : decode cX0_findParty 76 = .ok (.iload_n 2, 1) := dk_28 (dk_at dksX0_findParty_3 6 rfl rfl)
theorem dX0_findParty_77 : decode cX0_findParty 77 = .ok (.aload 4, 2) := dk_25 4 (dk_at dksX0_findParty_3 7 rfl rfl)
theorem dX0_findParty_79 : decode cX0_findParty 79 = .ok (.getfield 254, 3) := dk_180 0 254 (dk_at dksX0_findParty_3 9 rfl rfl)
theorem dX0_findParty_82 : decode cX0_findParty 82 = .ok (.iconst 4, 1) := dk_7 (dk_at dksX0_findParty_3 12 rfl rfl)
theorem dX0_findParty_83 : decode cX0_findParty 83 = .ok (.if_icmp .ge 7, 3) := dk_162 0 7 (dk_at dksX0_findParty_3 13 rfl rfl)
theorem dX0_findParty_86 : decode cX0_findParty 86 = .ok (.iconst 1, 1) := dk_4 (dk_at dksX0_findParty_3 16 rfl rfl)
theorem dX0_findParty_87 : decode cX0_findParty 87 = .ok (.goto 4, 3) := dk_167 0 4 (dk_at dksX0_findParty_3 17 rfl rfl)
theorem dX0_findParty_90 : decode cX0_findParty 90 = .ok (.iconst 0, 1) := dk_3 (dk_at dksX0_findParty_3 20 rfl rfl)
theorem dX0_findParty_91 : decode cX0_findParty 91 = .ok (.iadd, 1) := dk_96 (dk_at dksX0_findParty_3 21 rfl rfl)
theorem dX0_findParty_92 : decode cX0_findParty 92 = .ok (.istore_n 2, 1) := dk_61 (dk_at dksX0_findParty_3 22 rfl rfl)
theorem dX0_findParty_93 : decode cX0_findParty 93 = .ok (.iinc 3 1, 3) := dk_132 3 1 (dk_at dksX0_findParty_4 0 rfl rfl)
theorem dX0_findParty_96 : decode cX0_findParty 96 = .ok (.goto (-72), 3) := dk_167 255 184 (dk_at dksX0_findParty_4 3 rfl rfl)
theorem dX0_findParty_99 : decode cX0_findParty 99 = .ok (.iload_n 2, 1) := dk_28 (dk_at dksX0_findParty_4 6 rfl rfl)
theorem dX0_findParty_100 : decode cX0_findParty 100 = .ok (.ireturn, 1) := dk_172 (dk_at dksX0_findParty_4 7 rfl rfl)
abbrev cX0_hide : ByteArray := prog_1_method_38_code
def yX0_hide : MethodName := ⟨RX0, "hide", "(IZ)I"⟩
def dkwX0_hide_5 : List UInt8 := [180, 0, 212, 28, 159, 0, 11, 21, 6, 154, 0, 6, 16, 253, 172, 45, 28, 181, 0, 212, 21, 5, 172]
abbrev dktX0_hide_5 : List UInt8 := dkwX0_hide_5 ++ []
def dkwX0_hide_4 : List UInt8 := [167, 0, 21, 3, 167, 0, 17, 42, 25, 4, 182, 0, 235, 158, 0, 7, 4, 167, 0, 4, 3, 54, 6, 45]
abbrev dktX0_hide_4 : List UInt8 := dkwX0_hide_4 ++ dktX0_hide_5
def dkwX0_hide_3 : List UInt8 := [3, 54, 5, 28, 153, 0, 26, 42, 25, 4, 4, 182, 0, 221, 25, 4, 180, 1, 29, 162, 0, 7, 4]
abbrev dktX0_hide_3 : List UInt8 := dkwX0_hide_3 ++ dktX0_hide_4
def dkwX0_hide_2 : List UInt8 := [25, 5, 192, 0, 130, 58, 4, 167, 0, 6, 16, 244, 172, 45, 180, 0, 212, 153, 0, 7, 4, 167, 0, 4]
abbrev dktX0_hide_2 : List UInt8 := dkwX0_hide_2 ++ dktX0_hide_3
def dkwX0_hide_1 : List UInt8 := [45, 180, 0, 209, 199, 0, 6, 16, 254, 172, 45, 180, 0, 209, 58, 5, 25, 5, 193, 0, 130, 153, 0, 13]
abbrev dktX0_hide_1 : List UInt8 := dkwX0_hide_1 ++ dktX0_hide_2
def dkwX0_hide_0 : List UInt8 := [42, 27, 182, 0, 245, 154, 0, 5, 2, 172, 42, 180, 0, 28, 27, 185, 0, 152, 2, 0, 192, 0, 203, 78]
abbrev dktX0_hide_0 : List UInt8 := dkwX0_hide_0 ++ dktX0_hide_1
theorem dksX0_hide_0 : cX0_hide.data.toList.drop 0 = dktX0_hide_0 := by decide +kernel
theorem dksX0_hide_1 : cX0_hide.data.toList.drop 24 = dktX0_hide_1 := dk_seg dksX0_hide_0 24 rfl rfl
theorem dksX0_hide_2 : cX0_hide.data.toList.drop 48 = dktX0_hide_2 := dk_seg dksX0_hide_1 24 rfl rfl
theorem dksX0_hide_3 : cX0_hide.data.toList.drop 72 = dktX0_hide_3 := dk_seg dksX0_hide_2 24 rfl rfl
theorem dksX0_hide_4 : cX0_hide.data.toList.drop 95 = dktX0_hide_4 := dk_seg dksX0_hide_3 23 rfl rfl
theorem dksX0_hide_5 : cX0_hide.data.toList.drop 119 = dktX0_hide_5 := dk_seg dksX0_hide_4 24 rfl rfl
theorem dX0_hide_0 : decode cX0_hide 0 = .ok (.aload_n 0, 1) := dk_42 (dk_at dksX0_hide_0 0 rfl rfl)
theorem dX0_hide_1 : decode cX0_hide 1 = .ok (.iload_n 1, 1) := dk_27 (dk_at dksX0_hide_0 1 rfl rfl)
theorem dX0_hide_2 : decode cX0_hide 2 = .ok (.invokevirtual 245, 3) := dk_182 0 245 (dk_at dksX0_hide_0 2 rfl rfl)
theorem dX0_hide_5 : decode cX0_hide 5 = .ok (.ifCond .ne 5, 3) := dk_154 0 5 (dk_at dksX0_hide_0 5 rfl rfl)
theorem dX0_hide_8 : decode cX0_hide 8 = .ok (.iconst (-1), 1) := dk_2 (dk_at dksX0_hide_0 8 rfl rfl)
theorem dX0_hide_9 : decode cX0_hide 9 = .ok (.ireturn, 1) := dk_172 (dk_at dksX0_hide_0 9 rfl rfl)
theorem dX0_hide_10 : decode cX0_hide 10 = .ok (.aload_n 0, 1) := dk_42 (dk_at dksX0_hide_0 10 rfl rfl)
theorem dX0_hide_11 : decode cX0_hide 11 = .ok (.getfield 28, 3) := dk_180 0 28 (dk_at dksX0_hide_0 11 rfl rfl)
theorem dX0_hide_14 : decode cX0_hide 14 = .ok (.iload_n 1, 1) := dk_27 (dk_at dksX0_hide_0 14 rfl rfl)
theorem dX0_hide_15 : decode cX0_hide 15 = .ok (.invokeinterface 152 2, 5) := by decide +kernel
theorem dX0_hide_20 : decode cX0_hide 20 = .ok (.checkcast 203, 3) := dk_192 0 203 (dk_at dksX0_hide_0 20 rfl rfl)
theorem dX0_hide_23 : decode cX0_hide 23 = .ok (.astore_n 3, 1) := dk_78 (dk_at dksX0_hide_0 23 rfl rfl)
theorem dX0_hide_24 : decode cX0_hide 24 = .ok (.aload_n 3, 1) := dk_45 (dk_at dksX0_hide_1 0 rfl rfl)
theorem dX0_hide_25 : decode cX0_hide 25 = .ok (.getfield 209, 3) := dk_180 0 209 (dk_at dksX0_hide_1 1 rfl rfl)
theorem dX0_hide_28 : decode cX0_hide 28 = .ok (.ifnonnull 6, 3) := dk_199 0 6 (dk_at dksX0_hide_1 4 rfl rfl)
theorem dX0_hide_31 : decode cX0_hide 31 = .ok (.bipush (-2), 2) := dk_16 254 (dk_at dksX0_hide_1 7 rfl rfl)
theorem dX0_hide_33 : decode cX0_hide 33 = .ok (.ireturn, 1) := dk_172 (dk_at dksX0_hide_1 9 rfl rfl)
theorem dX0_hide_34 : decode cX0_hide 34 = .ok (.aload_n 3, 1) := dk_45 (dk_at dksX0_hide_1 10 rfl rfl)
theorem dX0_hide_35 : decode cX0_hide 35 = .ok (.getfield 209, 3) := dk_180 0 209 (dk_at dksX0_hide_1 11 rfl rfl)
theorem dX0_hide_38 : decode cX0_hide 38 = .ok (.astore 5, 2) := dk_58 5 (dk_at dksX0_hide_1 14 rfl rfl)
theorem dX0_hide_40 : decode cX0_hide 40 = .ok (.aload 5, 2) := dk_25 5 (dk_at dksX0_hide_1 16 rfl rfl)
theorem dX0_hide_42 : decode cX0_hide 42 = .ok (.instanceof 130, 3) := dk_193 0 130 (dk_at dksX0_hide_1 18 rfl rfl)
theorem dX0_hide_45 : decode cX0_hide 45 = .ok (.ifCond .eq 13, 3) := dk_153 0 13 (dk_at dksX0_hide_1 21 rfl rfl)
theorem dX0_hide_48 : decode cX0_hide 48 = .ok (.aload 5, 2) := dk_25 5 (dk_at dksX0_hide_2 0 rfl rfl)
theorem dX0_hide_50 : decode cX0_hide 50 = .ok (.checkcast 130, 3) := dk_192 0 130 (dk_at dksX0_hide_2 2 rfl rfl)
theorem dX0_hide_53 : decode cX0_hide 53 = .ok (.astore 4, 2) := dk_58 4 (dk_at dksX0_hide_2 5 rfl rfl)
theorem dX0_hide_55 : decode cX0_hide 55 = .ok (.goto 6, 3) := dk_167 0 6 (dk_at dksX0_hide_2 7 rfl rfl)
theorem dX0_hide_58 : decode cX0_hide 58 = .ok (.bipush (-12), 2) := dk_16 244 (dk_at dksX0_hide_2 10 rfl rfl)
theorem dX0_hide_60 : decode cX0_hide 60 = .ok (.ireturn, 1) := dk_172 (dk_at dksX0_hide_2 12 rfl rfl)
theorem dX0_hide_61 : decode cX0_hide 61 = .ok (.aload_n 3, 1) := dk_45 (dk_at dksX0_hide_2 13 rfl rfl)
theorem dX0_hide_62 : decode cX0_hide 62 = .ok (.getfield 212, 3) := dk_180 0 212 (dk_at dksX0_hide_2 14 rfl rfl)
theorem dX0_hide_65 : decode cX0_hide 65 = .ok (.ifCond .eq 7, 3) := dk_153 0 7 (dk_at dksX0_hide_2 17 rfl rfl)
theorem dX0_hide_68 : decode cX0_hide 68 = .ok (.iconst 1, 1) := dk_4 (dk_at dksX0_hide_2 20 rfl rfl)
theorem dX0_hide_69 : decode cX0_hide 69 = .ok (.goto 4, 3) := dk_167 0 4 (dk_at dksX0_hide_2 21 rfl rfl)
theorem dX0_hide_72 : decode cX0_hide 72 = .ok (.iconst 0, 1) := dk_3 (dk_at dksX0_hide_3 0 rfl rfl)
theorem dX0_hide_73 : decode cX0_hide 73 = .ok (.istore 5, 2) := dk_54 5 (dk_at dksX0_hide_3 1 rfl rfl)
theorem dX0_hide_75 : decode cX0_hide 75 = .ok (.iload_n 2, 1) := dk_28 (dk_at dksX0_hide_3 3 rfl rfl)
theorem dX0_hide_76 : decode cX0_hide 76 = .ok (.ifCond .eq 26, 3) := dk_153 0 26 (dk_at dksX0_hide_3 4 rfl rfl)
theorem dX0_hide_79 : decode cX0_hide 79 = .ok (.aload_n 0, 1) := dk_42 (dk_at dksX0_hide_3 7 rfl rfl)
theorem dX0_hide_80 : decode cX0_hide 80 = .ok (.aload 4, 2) := dk_25 4 (dk_at dksX0_hide_3 8 rfl rfl)
theorem dX0_hide_82 : decode cX0_hide 82 = .ok (.iconst 1, 1) := dk_4 (dk_at dksX0_hide_3 10 rfl rfl)
theorem dX0_hide_83 : decode cX0_hide 83 = .ok (.invokevirtual 221, 3) := dk_182 0 221 (dk_at dksX0_hide_3 11 rfl rfl)
theorem dX0_hide_86 : decode cX0_hide 86 = .ok (.aload 4, 2) := dk_25 4 (dk_at dksX0_hide_3 14 rfl rfl)
theorem dX0_hide_88 : decode cX0_hide 88 = .ok (.getfield 285, 3) := dk_180 1 29 (dk_at dksX0_hide_3 16 rfl rfl)
theorem dX0_hide_91 : decode cX0_hide 91 = .ok (.if_icmp .ge 7, 3) := dk_162 0 7 (dk_at dksX0_hide_3 19 rfl rfl)
theorem dX0_hide_94 : decode cX0_hide 94 = .ok (.iconst 1, 1) := dk_4 (dk_at dksX0_hide_3 22 rfl rfl)
theorem dX0_hide_95 : decode cX0_hide 95 = .ok (.goto 21, 3) := dk_167 0 21 (dk_at dksX0_hide_4 0 rfl rfl)
theorem dX0_hide_98 : decode cX0_hide 98 = .ok (.iconst 0, 1) := dk_3 (dk_at dksX0_hide_4 3 rfl rfl)
theorem dX0_hide_99 : decode cX0_hide 99 = .ok (.goto 17, 3) := dk_167 0 17 (dk_at dksX0_hide_4 4 rfl rfl)
theorem dX0_hide_102 : decode cX0_hide 102 = .ok (.aload_n 0, 1) := dk_42 (dk_at dksX0_hide_4 7 rfl rfl)
theorem dX0_hide_103 : decode cX0_hide 103 = .ok (.aload 4, 2) := dk_25 4 (dk_at dksX0_hide_4 8 rfl rfl)
theorem dX0_hide_105 : decode cX0_hide 105 = .ok (.invokevirtual 235, 3) := dk_182 0 235 (dk_at dksX0_hide_4 10 rfl rfl)
theorem dX0_hide_108 : decode cX0_hide 108 = .ok (.ifCond .le 7, 3) := dk_158 0 7 (dk_at dksX0_hide_4 13 rfl rfl)
theorem dX0_hide_111 : decode cX0_hide 111 = .ok (.iconst 1, 1) := dk_4 (dk_at dksX0_hide_4 16 rfl rfl)
theorem dX0_hide_112 : decode cX0_hide 112 = .ok (.goto 4, 3) := dk_167 0 4 (dk_at dksX0_hide_4 17 rfl rfl)
theorem dX0_hide_115 : decode cX0_hide 115 = .ok (.iconst 0, 1) := dk_3 (dk_at dksX0_hide_4 20 rfl rfl)
theorem dX0_hide_116 : decode cX0_hide 116 = .ok (.istore 6, 2) := dk_54 6 (dk_at dksX0_hide_4 21 rfl rfl)
theorem dX0_hide_118 : decode cX0_hide 118 = .ok (.aload_n 3, 1) := dk_45 (dk_at dksX0_hide_4 23 rfl rfl)
theorem dX0_hide_119 : decode cX0_hide 119 = .ok (.getfield 212, 3) := dk_180 0 212 (dk_at dksX0_hide_5 0 rfl rfl)
theorem dX0_hide_122 : decode cX0_hide 122 = .ok (.iload_n 2, 1) := dk_28 (dk_at dksX0_hide_5 3 rfl rfl)
theorem dX0_hide_123 : decode cX0_hide 123 = .ok (.if_icmp .eq 11, 3) := dk_159 0 11 (dk_at dksX0_hide_5 4 rfl rfl)
theorem dX0_hide_126 : decode cX0_hide 126 = .ok (.iload 6, 2) := dk_21 6 (dk_at dksX0_hide_5 7 rfl rfl)
theorem dX0_hide_128 : decode cX0_hide 128 = .ok (.ifCond .ne 6, 3) := dk_154 0 6 (dk_at dksX0_hide_5 9 rfl rfl)
theorem dX0_hide_131 : decode cX0_hide 131 = .ok (.bipush (-3), 2) := dk_16 253 (dk_at dksX0_hide_5 12 rfl rfl)
theorem dX0_hide_133 : decode cX0_hide 133 = .ok (.ireturn, 1) := dk_172 (dk_at dksX0_hide_5 14 rfl rfl)
theorem dX0_hide_134 : decode cX0_hide 134 = .ok (.aload_n 3, 1) := dk_45 (dk_at dksX0_hide_5 15 rfl rfl)
theorem dX0_hide_135 : decode cX0_hide 135 = .ok (.iload_n 2, 1) := dk_28 (dk_at dksX0_hide_5 16 rfl rfl)
theorem dX0_hide_136 : decode cX0_hide 136 = .ok (.putfield 212, 3) := dk_181 0 212 (dk_at dksX0_hide_5 17 rfl rfl)
theorem dX0_hide_139 : decode cX0_hide 139 = .ok (.iload 5, 2) := dk_21 5 (dk_at dksX0_hide_5 20 rfl rfl)
theorem dX0_hide_141 : decode cX0_hide 141 = .ok (.ireturn, 1) := dk_172 (dk_at dksX0_hide_5 22 rfl rfl)
abbrev cX0_over : ByteArray := prog_1_method_39_code
def yX0_over : MethodName := ⟨RX0, "over", "(I)I"⟩
def dkwX0_over_5 : List UInt8 := [192, 0, 203, 4, 181, 1, 32, 132, 3, 1, 167, 255, 189, 42, 180, 0, 31, 185, 0, 91, 1, 0, 172]
abbrev dktX0_over_5 : List UInt8 := dkwX0_over_5 ++ []
def dkwX0_over_4 : List UInt8 := [29, 185, 0, 152, 2, 0, 192, 0, 203, 3, 181, 0, 212, 42, 180, 0, 31, 29, 185, 0, 152, 2, 0]
abbrev dktX0_over_4 : List UInt8 := dkwX0_over_4 ++ dktX0_over_5
def dkwX0_over_3 : List UInt8 := [162, 0, 60, 42, 180, 0, 31, 29, 185, 0, 152, 2, 0, 192, 0, 203, 1, 181, 0, 209, 42, 180, 0, 31]
abbrev dktX0_over_3 : List UInt8 := dkwX0_over_3 ++ dktX0_over_4
def dkwX0_over_2 : List UInt8 := [199, 0, 6, 16, 254, 172, 42, 44, 182, 1, 16, 87, 3, 62, 29, 42, 180, 0, 31, 185, 0, 91, 1, 0]
abbrev dktX0_over_2 : List UInt8 := dkwX0_over_2 ++ dktX0_over_3
def dkwX0_over_1 : List UInt8 := [153, 0, 5, 2, 172, 42, 180, 0, 28, 27, 185, 0, 152, 2, 0, 192, 0, 203, 77, 44, 180, 0, 209]
abbrev dktX0_over_1 : List UInt8 := dkwX0_over_1 ++ dktX0_over_2
def dkwX0_over_0 : List UInt8 := [42, 27, 182, 0, 245, 153, 0, 22, 42, 180, 0, 28, 27, 185, 0, 152, 2, 0, 192, 0, 203, 182, 0, 248]
abbrev dktX0_over_0 : List UInt8 := dkwX0_over_0 ++ dktX0_over_1
theorem dksX0_over_0 : cX0_over.data.toList.drop 0 = dktX0_over_0 := by decide +kernel
theorem dksX0_over_1 : cX0_over.data.toList.drop 24 = dktX0_over_1 := dk_seg dksX0_over_0 24 rfl rfl
theorem dksX0_over_2 : cX0_over.data.toList.drop 47 = dktX0_over_2 := dk_seg dksX0_over_1 23 rfl rfl
theorem dksX0_over_3 : cX0_over.data.toList.drop 71 = dktX0_over_3 := dk_seg dksX0_over_2 24 rfl rfl
theorem dksX0_over_4 : cX0_over.data.toList.drop 95 = dktX0_over_4 := dk_seg dksX0_over_3 24 rfl rfl
theorem dksX0_over_5 : cX0_over.data.toList.drop 118 = dktX0_over_5 := dk_seg dksX0_over_4 23 rfl rfl
theorem dX0_over_0 : decode cX0_over 0 = .ok (.aload_n 0, 1) := dk_42 (dk_at dksX0_over_0 0 rfl rfl)
theorem dX0_over_1 : decode cX0_over 1 = .ok (.iload_n 1, 1) := dk_27 (dk_at dksX0_over_0 1 rfl rfl)
theorem dX0_over_2 : decode cX0_over 2 = .ok (.invokevirtual 245, 3) := dk_182 0 245 (dk_at dksX0_over_0 2 rfl rfl)
theorem dX0_over_5 : decode cX0_over 5 = .ok (.ifCond .eq 22, 3) := dk_153 0 22 (dk_at dksX0_over_0 5 rfl rfl)
theorem dX0_over_8 : decode cX0_over 8 = .ok (.aload_n 0, 1) := dk_42 (dk_at dksX0_over_0 8 rfl rfl)
theorem dX0_over_9 : decode cX0_over 9 = .ok (.getfield 28, 3) := dk_180 0 28 (dk_at dksX0_over_0 9 rfl rfl)
theorem dX0_over_12 : decode cX0_over 12 = .ok (.iload_n 1, 1) := dk_27 (dk_at dksX0_over_0 12 rfl rfl)
theorem dX0_over_13 : decode cX0_over 13 = .ok (.invokeinterface 152 2, 5) := by decide +kernel
theorem dX0_over_18 : decode cX0_over 18 = .ok (.checkcast 203, 3) := dk_192 0 203 (dk_at dksX0_over_0 18 rfl rfl)
theorem dX0_over_21 : decode cX0_over 21 = .ok (.invokevirtual 248, 3) := dk_182 0 248 (dk_at dksX0_over_0 21 rfl rfl)
theorem dX0_over_24 : decode cX0_over 24 = .ok (.ifCond .eq 5, 3) := dk_153 0 5 (dk_at dksX0_over_1 0 rfl rfl)
theorem dX0_over_27 : decode cX0_over 27 = .ok (.iconst (-1), 1) := dk_2 (dk_at dksX0_over_1 3 rfl rfl)
theorem dX0_over_28 : decode cX0_over 28 = .ok (.ireturn, 1) := dk_172 (dk_at dksX0_over_1 4 rfl rfl)
theorem dX0_over_29 : decode cX0_over 29 = .ok (.aload_n 0, 1) := dk_42 (dk_at dksX0_over_1 5 rfl rfl)
theorem dX0_over_30 : decode cX0_over 30 = .ok (.getfield 28, 3) := dk_180 0 28 (dk_at dksX0_over_1 6 rfl rfl)
theorem dX0_over_33 : decode cX0_over 33 = .ok (.iload_n 1, 1) := dk_27 (dk_at dksX0_over_1 9 rfl rfl)
theorem dX0_over_34 : decode cX0_over 34 = .ok (.invokeinterface 152 2, 5) := by decide +kernel
theorem dX0_over_39 : decode cX0_over 39 = .ok (.checkcast 203, 3) := dk_192 0 203 (dk_at dksX0_over_1 15 rfl rfl)
theorem dX0_over_42 : decode cX0_over 42 = .ok (.astore_n 2, 1) := dk_77 (dk_at dksX0_over_1 18 rfl rfl)
theorem dX0_over_43 : decode cX0_over 43 = .ok (.aload_n 2, 1) := dk_44 (dk_at dksX0_over_1 19 rfl rfl)
theorem dX0_over_44 : decode cX0_over 44 = .ok (.getfield 209, 3) := dk_180 0 209 (dk_at dksX0_over_1 20 rfl rfl)
theorem dX0_over_47 : decode cX0_over 47 = .ok (.ifnonnull 6, 3) := dk_199 0 6 (dk_at dksX0_over_2 0 rfl rfl)
theorem dX0_over_50 : decode cX0_over 50 = .ok (.bipush (-2), 2) := dk_16 254 (dk_at dksX0_over_2 3 rfl rfl)
theorem dX0_over_52 : decode cX0_over 52 = .ok (.ireturn, 1) := dk_172 (dk_at dksX0_over_2 5 rfl rfl)
theorem dX0_over_53 : decode cX0_over 53 = .ok (.aload_n 0, 1) := dk_42 (dk_at dksX0_over_2 6 rfl rfl)
theorem dX0_over_54 : decode cX0_over 54 = .ok (.aload_n 2, 1) := dk_44 (dk_at dksX0_over_2 7 rfl rfl)
theorem dX0_over_55 : decode cX0_over 55 = .ok (.invokevirtual 272, 3) := dk_182 1 16 (dk_at dksX0_over_2 8 rfl rfl)
theorem dX0_over_58 : decode cX0_over 58 = .ok (.pop, 1) := dk_87 (dk_at dksX0_over_2 11 rfl rfl)
theorem dX0_over_59 : decode cX0_over 59 = .ok (.iconst 0, 1) := dk_3 (dk_at dksX0_over_2 12 rfl rfl)
theorem dX0_over_60 : decode cX0_over 60 = .ok (.istore_n 3, 1) := dk_62 (dk_at dksX0_over_2 13 rfl rfl)
theorem dX0_over_61 : decode cX0_over 61 = .ok (.iload_n 3, 1) := dk_29 (dk_at dksX0_over_2 14 rfl rfl)
theorem dX0_over_62 : decode cX0_over 62 = .ok (.aload_n 0, 1) := dk_42 (dk_at dksX0_over_2 15 rfl rfl)
theorem dX0_over_63 : decode cX0_over 63 = .ok (.getfield 31, 3) := dk_180 0 31 (dk_at dksX0_over_2 16 rfl rfl)
theorem dX0_over_66 : decode cX0_over 66 = .ok (.invokeinterface 91 1, 5) := by decide +kernel
theorem dX0_over_71 : decode cX0_over 71 = .ok (.if_icmp .ge 60, 3) := dk_162 0 60 (dk_at dksX0_over_3 0 rfl rfl)
theorem dX0_over_74 : decode cX0_over 74 = .ok (.aload_n 0, 1) := dk_42 (dk_at dksX0_over_3 3 rfl rfl)
theorem dX0_over_75 : decode cX0_over 75 = .ok (.getfield 31, 3) := dk_180 0 31 (dk_at dksX0_over_3 4 rfl rfl)
theorem dX0_over_78 : decode cX0_over 78 = .ok (.iload_n 3, 1) := dk_29 (dk_at dksX0_over_3 7 rfl rfl)
theorem dX0_over_79 : decode cX0_over 79 = .ok (.invokeinterface 152 2, 5) := by decide +kernel
theorem dX0_over_84 : decode cX0_over 84 = .ok (.checkcast 203, 3) := dk_192 0 203 (dk_at dksX0_over_3 13 rfl rfl)
theorem dX0_over_87 : decode cX0_over 87 = .ok (.aconst_null, 1) := dk_1 (dk_at dksX0_over_3 16 rfl rfl)
theorem dX0_over_88 : decode cX0_over 88 = .ok (.putfield 209, 3) := dk_181 0 209 (dk_at dksX0_over_3 17 rfl rfl)
theorem dX0_over_91 : decode cX0_over 91 = .ok (.aload_n 0, 1) := dk_42 (dk_at dksX0_over_3 20 rfl rfl)
theorem dX0_over_92 : decode cX0_over 92 = .ok (.getfield 31, 3) := dk_180 0 31 (dk_at dksX0_over_3 21 rfl rfl)
theorem dX0_over_95 : decode cX0_over 95 = .ok (.iload_n 3, 1) := dk_29 (dk_at dksX0_over_4 0 rfl rfl)
theorem dX0_over_96 : decode cX0_over 96 = .ok (.invokeinterface 152 2, 5) := by decide +kernel
theorem dX0_over_101 : decode cX0_over 101 = .ok (.checkcast 203, 3) := dk_192 0 203 (dk_at dksX0_over_4 6 rfl rfl)
theorem dX0_over_104 : decode cX0_over 104 = .ok (.iconst 0, 1) := dk_3 (dk_at dksX0_over_4 9 rfl rfl)
theorem dX0_over_105 : decode cX0_over 105 = .ok (.putfield 212, 3) := dk_181 0 212 (dk_at dksX0_over_4 10 rfl rfl)
theorem dX0_over_108 : decode cX0_over 108 = .ok (.aload_n 0, 1) := dk_42 (dk_at dksX0_over_4 13 rfl rfl)
theorem dX0_over_109 : decode cX0_over 109 = .ok (.getfield 31, 3) := dk_180 0 31 (dk_at dksX0_over_4 14 rfl rfl)
theorem dX0_over_112 : decode cX0_over 112 = .ok (.iload_n 3, 1) := dk_29 (dk_at dksX0_over_4 17 rfl rfl)
theorem dX0_over_113 : decode cX0_over 113 = .ok (.invokeinterface 152 2, 5) := by decide +kernel
theorem dX0_over_118 : decode cX0_over 118 = .ok (.checkcast 203, 3) := dk_192 0 203 (dk_at dksX0_over_5 0 rfl rfl)
theorem dX0_over_121 : decode cX0_over 121 = .ok (.iconst 1, 1) := dk_4 (dk_at dksX0_over_5 3 rfl rfl)
theorem dX0_over_122 : decode cX0_over 122 = .ok (.putfield 288, 3) := dk_181 1 32 (dk_at dksX0_over_5 4 rfl rfl)
theorem dX0_over_125 : decode cX0_over 125 = .ok (.iinc 3 1, 3) := dk_132 3 1 (dk_at dksX0_over_5 7 rfl rfl)
theorem dX0_over_128 : decode cX0_over 128 = .ok (.goto (-67), 3) := dk_167 255 189 (dk_at dksX0_over_5 10 rfl rfl)
theorem dX0_over_131 : decode cX0_over 131 = .ok (.aload_n 0, 1) := dk_42 (dk_at dksX0_over_5 13 rfl rfl)
theorem dX0_over_132 : decode cX0_over 132 = .ok (.getfield 31, 3) := dk_180 0 31 (dk_at dksX0_over_5 14 rfl rfl)
theorem dX0_over_135 : decode cX0_over 135 = .ok (.invokeinterface 91 1, 5) := by decide +kernel
theorem dX0_over_140 : decode cX0_over 140 = .ok (.ireturn, 1) := dk_172 (dk_at dksX0_over_5 22 rfl rfl)
abbrev cX0_hour : ByteArray := prog_1_method_40_code
def yX0_hour : MethodName := ⟨RX0, "hour", "(I)I"⟩
def dkwX0_hour_4 : List UInt8 := [181, 0, 209, 45, 1, 181, 0, 205, 132, 2, 1, 167, 255, 195, 42, 180, 0, 169, 172]
abbrev dktX0_hour_4 : List UInt8 := dkwX0_hour_4 ++ []
def dkwX0_hour_3 : List UInt8 := [180, 0, 205, 198, 0, 27, 45, 180, 1, 5, 42, 180, 0, 169, 163, 0, 16, 45, 45, 180, 0, 205]
abbrev dktX0_hour_3 : List UInt8 := dkwX0_hour_3 ++ dktX0_hour_4
def dkwX0_hour_2 : List UInt8 := [185, 0, 91, 1, 0, 162, 0, 54, 42, 180, 0, 28, 28, 185, 0, 152, 2, 0, 192, 0, 203, 78, 45]
abbrev dktX0_hour_2 : List UInt8 := dkwX0_hour_2 ++ dktX0_hour_3
def dkwX0_hour_1 : List UInt8 := [164, 0, 6, 16, 254, 172, 42, 89, 180, 0, 169, 27, 96, 181, 0, 169, 3, 61, 28, 42, 180, 0, 28]
abbrev dktX0_hour_1 : List UInt8 := dkwX0_hour_1 ++ dktX0_hour_2
def dkwX0_hour_0 : List UInt8 := [27, 4, 17, 0, 200, 184, 0, 97, 154, 0, 5, 2, 172, 42, 180, 0, 169, 27, 96, 17, 39, 15]
abbrev dktX0_hour_0 : List UInt8 := dkwX0_hour_0 ++ dktX0_hour_1
theorem dksX0_hour_0 : cX0_hour.data.toList.drop 0 = dktX0_hour_0 := by decide +kernel
theorem dksX0_hour_1 : cX0_hour.data.toList.drop 22 = dktX0_hour_1 := dk_seg dksX0_hour_0 22 rfl rfl
theorem dksX0_hour_2 : cX0_hour.data.toList.drop 45 = dktX0_hour_2 := dk_seg dksX0_hour_1 23 rfl rfl
theorem dksX0_hour_3 : cX0_hour.data.toList.drop 68 = dktX0_hour_3 := dk_seg dksX0_hour_2 23 rfl rfl
theorem dksX0_hour_4 : cX0_hour.data.toList.drop 90 = dktX0_hour_4 := dk_seg dksX0_hour_3 22 rfl rfl
theorem dX0_hour_0 : decode cX0_hour 0 = .ok (.iload_n 1, 1) := dk_27 (dk_at dksX0_hour_0 0 rfl rfl)
theorem dX0_hour_1 : decode cX0_hour 1 = .ok (.iconst 1, 1) := dk_4 (dk_at dksX0_hour_0 1 rfl rfl)
theorem dX0_hour_2 : decode cX0_hour 2 = .ok (.sipush 200, 3) := dk_17 0 200 (dk_at dksX0_hour_0 2 rfl rfl)
theorem dX0_hour_5 : decode cX0_hour 5 = .ok (.invokestatic 97, 3) := dk_184 0 97 (dk_at dksX0_hour_0 5 rfl rfl)
theorem dX0_hour_8 : decode cX0_hour 8 = .ok (.ifCond .ne 5, 3) := dk_154 0 5 (dk_at dksX0_hour_0 8 rfl rfl)
theorem dX0_hour_11 : decode cX0_hour 11 = .ok (.iconst (-1), 1) := dk_2 (dk_at dksX0_hour_0 11 rfl rfl)
theorem dX0_hour_12 : decode cX0_hour 12 = .ok (.ireturn, 1) := dk_172 (dk_at dksX0_hour_0 12 rfl rfl)
theorem dX0_hour_13 : decode cX0_hour 13 = .ok (.aload_n 0, 1) := dk_42 (dk_at dksX0_hour_0 13 rfl rfl)
theorem dX0_hour_14 : decode cX0_hour 14 = .ok (.getfield 169, 3) := dk_180 0 169 (dk_at dksX0_hour_0 14 rfl rfl)
theorem dX0_hour_17 : decode cX0_hour 17 = .ok (.iload_n 1, 1) := dk_27 (dk_at dksX0_hour_0 17 rfl rfl)
theorem dX0_hour_18 : decode cX0_hour 18 = .ok (.iadd, 1) := dk_96 (dk_at dksX0_hour_0 18 rfl rfl)
theorem dX0_hour_19 : decode cX0_hour 19 = .ok (.sipush 9999, 3) := dk_17 39 15 (dk_at dksX0_hour_0 19 rfl rfl)
theorem dX0_hour_22 : decode cX0_hour 22 = .ok (.if_icmp .le 6, 3) := dk_164 0 6 (dk_at dksX0_hour_1 0 rfl rfl)
theorem dX0_hour_25 : decode cX0_hour 25 = .ok (.bipush (-2), 2) := dk_16 254 (dk_at dksX0_hour_1 3 rfl rfl)
theorem dX0_hour_27 : decode cX0_hour 27 = .ok (.ireturn, 1) := dk_172 (dk_at dksX0_hour_1 5 rfl rfl)
theorem dX0_hour_28 : decode cX0_hour 28 = .ok (.aload_n 0, 1) := dk_42 (dk_at dksX0_hour_1 6 rfl rfl)
theorem dX0_hour_29 : decode cX0_hour 29 = .ok (.dup, 1) := dk_89 (dk_at dksX0_hour_1 7 rfl rfl)
theorem dX0_hour_30 : decode cX0_hour 30 = .ok (.getfield 169, 3) := dk_180 0 169 (dk_at dksX0_hour_1 8 rfl rfl)
theorem dX0_hour_33 : decode cX0_hour 33 = .ok (.iload_n 1, 1) := dk_27 (dk_at dksX0_hour_1 11 rfl rfl)
theorem dX0_hour_34 : decode cX0_hour 34 = .ok (.iadd, 1) := dk_96 (dk_at dksX0_hour_1 12 rfl rfl)
theorem dX0_hour_35 : decode cX0_hour 35 = .ok (.putfield 169, 3) := dk_181 0 169 (dk_at dksX0_hour_1 13 rfl rfl)
theorem dX0_hour_38 : decode cX0_hour 38 = .ok (.iconst 0, 1) := dk_3 (dk_at dksX0_hour_1 16 rfl rfl)
theorem dX0_hour_39 : decode cX0_hour 39 = .ok (.istore_n 2, 1) := dk_61 (dk_at dksX0_hour_1 17 rfl rfl)
theorem dX0_hour_40 : decode cX0_hour 40 = .ok (.iload_n 2, 1) := dk_28 (dk_at dksX0_hour_1 18 rfl rfl)
theorem dX0_hour_41 : decode cX0_hour 41 = .ok (.aload_n 0, 1) := dk_42 (dk_at dksX0_hour_1 19 rfl rfl)
theorem dX0_hour_42 : decode cX0_hour 42 = .ok (.getfield 28, 3) := dk_180 0 28 (dk_at dksX0_hour_1 20 rfl rfl)
theorem dX0_hour_45 : decode cX0_hour 45 = .ok (.invokeinterface 91 1, 5) := by decide +kernel
theorem dX0_hour_50 : decode cX0_hour 50 = .ok (.if_icmp .ge 54, 3) := dk_162 0 54 (dk_at dksX0_hour_2 5 rfl rfl)
theorem dX0_hour_53 : decode cX0_hour 53 = .ok (.aload_n 0, 1) := dk_42 (dk_at dksX0_hour_2 8 rfl rfl)
theorem dX0_hour_54 : decode cX0_hour 54 = .ok (.getfield 28, 3) := dk_180 0 28 (dk_at dksX0_hour_2 9 rfl rfl)
theorem dX0_hour_57 : decode cX0_hour 57 = .ok (.iload_n 2, 1) := dk_28 (dk_at dksX0_hour_2 12 rfl rfl)
theorem dX0_hour_58 : decode cX0_hour 58 = .ok (.invokeinterface 152 2, 5) := by decide +kernel
theorem dX0_hour_63 : decode cX0_hour 63 = .ok (.checkcast 203, 3) := dk_192 0 203 (dk_at dksX0_hour_2 18 rfl rfl)
theorem dX0_hour_66 : decode cX0_hour 66 = .ok (.astore_n 3, 1) := dk_78 (dk_at dksX0_hour_2 21 rfl rfl)
theorem dX0_hour_67 : decode cX0_hour 67 = .ok (.aload_n 3, 1) := dk_45 (dk_at dksX0_hour_2 22 rfl rfl)
theorem dX0_hour_68 : decode cX0_hour 68 = .ok (.getfield 205, 3) := dk_180 0 205 (dk_at dksX0_hour_3 0 rfl rfl)
theorem dX0_hour_71 : decode cX0_hour 71 = .ok (.ifnull 27, 3) := dk_198 0 27 (dk_at dksX0_hour_3 3 rfl rfl)
theorem dX0_hour_74 : decode cX0_hour 74 = .ok (.aload_n 3, 1) := dk_45 (dk_at dksX0_hour_3 6 rfl rfl)
theorem dX0_hour_75 : decode cX0_hour 75 = .ok (.getfield 261, 3) := dk_180 1 5 (dk_at dksX0_hour_3 7 rfl rfl)
theorem dX0_hour_78 : decode cX0_hour 78 = .ok (.aload_n 0, 1) := dk_42 (dk_at dksX0_hour_3 10 rfl rfl)
theorem dX0_hour_79 : decode cX0_hour 79 = .ok (.getfield 169, 3) := dk_180 0 169 (dk_at dksX0_hour_3 11 rfl rfl)
theorem dX0_hour_82 : decode cX0_hour 82 = .ok (.if_icmp .gt 16, 3) := dk_163 0 16 (dk_at dksX0_hour_3 14 rfl rfl)
theorem dX0_hour_85 : decode cX0_hour 85 = .ok (.aload_n 3, 1) := dk_45 (dk_at dksX0_hour_3 17 rfl rfl)
theorem dX0_hour_86 : decode cX0_hour 86 = .ok (.aload_n 3, 1) := dk_45 (dk_at dksX0_hour_3 18 rfl rfl)
theorem dX0_hour_87 : decode cX0_hour 87 = .ok (.getfield 205, 3) := dk_180 0 205 (dk_at dksX0_hour_3 19 rfl rfl)
theorem dX0_hour_90 : decode cX0_hour 90 = .ok (.putfield 209, 3) := dk_181 0 209 (dk_at dksX0_hour_4 0 rfl rfl)
theorem dX0_hour_93 : decode cX0_hour 93 = .ok (.aload_n 3, 1) := dk_45 (dk_at dksX0_hour_4 3 rfl rfl)
theorem dX0_hour_94 : decode cX0_hour 94 = .ok (.aconst_null, 1) := dk_1 (dk_at dksX0_hour_4 4 rfl rfl)
theorem dX0_hour_95 : decode cX0_hour 95 = .ok (.putfield 205, 3) := dk_181 0 205 (dk_at dksX0_hour_4 5 rfl rfl)
theorem dX0_hour_98 : decode cX0_hour 98 = .ok (.iinc 2 1, 3) := dk_132 2 1 (dk_at dksX0_hour_4 8 rfl rfl)
theorem dX0_hour_101 : decode cX0_hour 101 = .ok (.goto (-61), 3) := dk_167 255 195 (dk_at dksX0_hour_4 11 rfl rfl)
theorem dX0_hour_104 : decode cX0_hour 104 = .ok (.aload_n 0, 1) := dk_42 (dk_at dksX0_hour_4 14 rfl rfl)
theorem dX0_hour_105 : decode cX0_hour 105 = .ok (.getfield 169, 3) := dk_180 0 169 (dk_at dksX0_hour_4 15 rfl rfl)
theorem dX0_hour_108 : decode cX0_hour 108 = .ok (.ireturn, 1) := dk_172 (dk_at dksX0_hour_4 18 rfl rfl)
abbrev cX0_rain : ByteArray := prog_1_method_41_code
def yX0_rain : MethodName := ⟨RX0, "rain", "()I"⟩
def dkwX0_rain_3 : List UInt8 := [27, 172]
abbrev dktX0_rain_3 : List UInt8 := dkwX0_rain_3 ++ []
def dkwX0_rain_2 : List UInt8 := [60, 42, 180, 0, 28, 28, 185, 0, 152, 2, 0, 192, 0, 203, 1, 181, 1, 20, 132, 2, 1, 167, 255, 192]
abbrev dktX0_rain_2 : List UInt8 := dkwX0_rain_2 ++ dktX0_rain_3
def dkwX0_rain_1 : List UInt8 := [185, 0, 152, 2, 0, 192, 0, 203, 42, 180, 0, 169, 182, 1, 35, 153, 0, 7, 4, 167, 0, 4, 3, 96]
abbrev dktX0_rain_1 : List UInt8 := dkwX0_rain_1 ++ dktX0_rain_2
def dkwX0_rain_0 : List UInt8 := [3, 60, 3, 61, 28, 42, 180, 0, 28, 185, 0, 91, 1, 0, 162, 0, 57, 27, 42, 180, 0, 28, 28]
abbrev dktX0_rain_0 : List UInt8 := dkwX0_rain_0 ++ dktX0_rain_1
theorem dksX0_rain_0 : cX0_rain.data.toList.drop 0 = dktX0_rain_0 := by decide +kernel
theorem dksX0_rain_1 : cX0_rain.data.toList.drop 23 = dktX0_rain_1 := dk_seg dksX0_rain_0 23 rfl rfl
theorem dksX0_rain_2 : cX0_rain.data.toList.drop 47 = dktX0_rain_2 := dk_seg dksX0_rain_1 24 rfl rfl
theorem dksX0_rain_3 : cX0_rain.data.toList.drop 71 = dktX0_rain_3 := dk_seg dksX0_rain_2 24 rfl rfl
theorem dX0_rain_0 : decode cX0_rain 0 = .ok (.iconst 0, 1) := dk_3 (dk_at dksX0_rain_0 0 rfl rfl)
theorem dX0_rain_1 : decode cX0_rain 1 = .ok (.istore_n 1, 1) := dk_60 (dk_at dksX0_rain_0 1 rfl rfl)
theorem dX0_rain_2 : decode cX0_rain 2 = .ok (.iconst 0, 1) := dk_3 (dk_at dksX0_rain_0 2 rfl rfl)
theorem dX0_rain_3 : decode cX0_rain 3 = .ok (.istore_n 2, 1) := dk_61 (dk_at dksX0_rain_0 3 rfl rfl)
theorem dX0_rain_4 : decode cX0_rain 4 = .ok (.iload_n 2, 1) := dk_28 (dk_at dksX0_rain_0 4 rfl rfl)
theorem dX0_rain_5 : decode cX0_rain 5 = .ok (.aload_n 0, 1) := dk_42 (dk_at dksX0_rain_0 5 rfl rfl)
theorem dX0_rain_6 : decode cX0_rain 6 = .ok (.getfield 28, 3) := dk_180 0 28 (dk_at dksX0_rain_0 6 rfl rfl)
theorem dX0_rain_9 : decode cX0_rain 9 = .ok (.invokeinterface 91 1, 5) := by decide +kernel
theorem dX0_rain_14 : decode cX0_rain 14 = .ok (.if_icmp .ge 57, 3) := dk_162 0 57 (dk_at dksX0_rain_0 14 rfl rfl)
theorem dX0_rain_17 : decode cX0_rain 17 = .ok (.iload_n 1, 1) := dk_27 (dk_at dksX0_rain_0 17 rfl rfl)
theorem dX0_rain_18 : decode cX0_rain 18 = .ok (.aload_n 0, 1) := dk_42 (dk_at dksX0_rain_0 18 rfl rfl)
theorem dX0_rain_19 : decode cX0_rain 19 = .ok (.getfield 28, 3) := dk_180 0 28 (dk_at dksX0_rain_0 19 rfl rfl)
theorem dX0_rain_22 : decode cX0_rain 22 = .ok (.iload_n 2, 1) := dk_28 (dk_at dksX0_rain_0 22 rfl rfl)
theorem dX0_rain_23 : decode cX0_rain 23 = .ok (.invokeinterface 152 2, 5) := by decide +kernel
theorem dX0_rain_28 : decode cX0_rain 28 = .ok (.checkcast 203, 3) := dk_192 0 203 (dk_at dksX0_rain_1 5 rfl rfl)
theorem dX0_rain_31 : decode cX0_rain 31 = .ok (.aload_n 0, 1) := dk_42 (dk_at dksX0_rain_1 8 rfl rfl)
theorem dX0_rain_32 : decode cX0_rain 32 = .ok (.getfield 169, 3) := dk_180 0 169 (dk_at dksX0_rain_1 9 rfl rfl)
theorem dX0_rain_35 : decode cX0_rain 35 = .ok (.invokevirtual 291, 3) := dk_182 1 35 (dk_at dksX0_rain_1 12 rfl rfl)
theorem dX0_rain_38 : decode cX0_rain 38 = .ok (.ifCond .eq 7, 3) := dk_153 0 7 (dk_at dksX0_rain_1 15 rfl rfl)
theorem dX0_rain_41 : decode cX0_rain 41 = .ok (.iconst 1, 1) := dk_4 (dk_at dksX0_rain_1 18 rfl rfl)
theorem dX0_rain_42 : decode cX0_rain 42 = .ok (.goto 4, 3) := dk_167 0 4 (dk_at dksX0_rain_1 19 rfl rfl)
theorem dX0_rain_45 : decode cX0_rain 45 = .ok (.iconst 0, 1) := dk_3 (dk_at dksX0_rain_1 22 rfl rfl)
theorem dX0_rain_46 : decode cX0_rain 46 = .ok (.iadd, 1) := dk_96 (dk_at dksX0_rain_1 23 rfl rfl)
theorem dX0_rain_47 : decode cX0_rain 47 = .ok (.istore_n 1, 1) := dk_60 (dk_at dksX0_rain_2 0 rfl rfl)
theorem dX0_rain_48 : decode cX0_rain 48 = .ok (.aload_n 0, 1) := dk_42 (dk_at dksX0_rain_2 1 rfl rfl)
theorem dX0_rain_49 : decode cX0_rain 49 = .ok (.getfield 28, 3) := dk_180 0 28 (dk_at dksX0_rain_2 2 rfl rfl)
theorem dX0_rain_52 : decode cX0_rain 52 = .ok (.iload_n 2, 1) := dk_28 (dk_at dksX0_rain_2 5 rfl rfl)
theorem dX0_rain_53 : decode cX0_rain 53 = .ok (.invokeinterface 152 2, 5) := by decide +kernel
theorem dX0_rain_58 : decode cX0_rain 58 = .ok (.checkcast 203, 3) := dk_192 0 203 (dk_at dksX0_rain_2 11 rfl rfl)
theorem dX0_rain_61 : decode cX0_rain 61 = .ok (.aconst_null, 1) := dk_1 (dk_at dksX0_rain_2 14 rfl rfl)
theorem dX0_rain_62 : decode cX0_rain 62 = .ok (.putfield 276, 3) := dk_181 1 20 (dk_at dksX0_rain_2 15 rfl rfl)
theorem dX0_rain_65 : decode cX0_rain 65 = .ok (.iinc 2 1, 3) := dk_132 2 1 (dk_at dksX0_rain_2 18 rfl rfl)
theorem dX0_rain_68 : decode cX0_rain 68 = .ok (.goto (-64), 3) := dk_167 255 192 (dk_at dksX0_rain_2 21 rfl rfl)
theorem dX0_rain_71 : decode cX0_rain 71 = .ok (.iload_n 1, 1) := dk_27 (dk_at dksX0_rain_3 0 rfl rfl)
theorem dX0_rain_72 : decode cX0_rain 72 = .ok (.ireturn, 1) := dk_172 (dk_at dksX0_rain_3 1 rfl rfl)
abbrev cX0_hunter : ByteArray := prog_1_method_43_code
def yX0_hunter : MethodName := ⟨RX0, "hunter", "(I)I"⟩
def dkwX0_hunter_3 : List UInt8 := [185, 0, 91, 1, 0, 4, 100, 172]
abbrev dktX0_hunter_3 : List UInt8 := dkwX0_hunter_3 ++ []
def dkwX0_hunter_2 : List UInt8 := [192, 0, 106, 181, 1, 41, 42, 180, 0, 34, 44, 185, 0, 101, 2, 0, 87, 42, 180, 0, 34]
abbrev dktX0_hunter_2 : List UInt8 := dkwX0_hunter_2 ++ dktX0_hunter_3
def dkwX0_hunter_1 : List UInt8 := [16, 253, 172, 187, 1, 38, 89, 183, 1, 40, 77, 44, 42, 180, 0, 12, 27, 185, 0, 152, 2, 0]
abbrev dktX0_hunter_1 : List UInt8 := dkwX0_hunter_1 ++ dktX0_hunter_2
def dkwX0_hunter_0 : List UInt8 := [42, 27, 182, 0, 143, 154, 0, 5, 2, 172, 42, 180, 0, 34, 185, 0, 91, 1, 0, 16, 6, 160, 0, 6]
abbrev dktX0_hunter_0 : List UInt8 := dkwX0_hunter_0 ++ dktX0_hunter_1
theorem dksX0_hunter_0 : cX0_hunter.data.toList.drop 0 = dktX0_hunter_0 := by decide +kernel
theorem dksX0_hunter_1 : cX0_hunter.data.toList.drop 24 = dktX0_hunter_1 := dk_seg dksX0_hunter_0 24 rfl rfl
theorem dksX0_hunter_2 : cX0_hunter.data.toList.drop 46 = dktX0_hunter_2 := dk_seg dksX0_hunter_1 22 rfl rfl
theorem dksX0_hunter_3 : cX0_hunter.data.toList.drop 67 = dktX0_hunter_3 := dk_seg dksX0_hunter_2 21 rfl rfl
theorem dX0_hunter_0 : decode cX0_hunter 0 = .ok (.aload_n 0, 1) := dk_42 (dk_at dksX0_hunter_0 0 rfl rfl)
theorem dX0_hunter_1 : decode cX0_hunter 1 = .ok (.iload_n 1, 1) := dk_27 (dk_at dksX0_hunter_0 1 rfl rfl)
theorem dX0_hunter_2 : decode cX0_hunter 2 = .ok (.invokevirtual 143, 3) := dk_182 0 143 (dk_at dksX0_hunter_0 2 rfl rfl)
theorem dX0_hunter_5 : decode cX0_hunter 5 = .ok (.ifCond .ne 5, 3) := dk_154 0 5 (dk_at dksX0_hunter_0 5 rfl rfl)
theorem dX0_hunter_8 : decode cX0_hunter 8 = .ok (.iconst (-1), 1) := dk_2 (dk_at dksX0_hunter_0 8 rfl rfl)
theorem dX0_hunter_9 : decode cX0_hunter 9 = .ok (.ireturn, 1) := dk_172 (dk_at dksX0_hunter_0 9 rfl rfl)
theorem dX0_hunter_10 : decode cX0_hunter 10 = .ok (.aload_n 0, 1) := dk_42 (dk_at dksX0_hunter_0 10 rfl rfl)
theorem dX0_hunter_11 : decode cX0_hunter 11 = .ok (.getfield 34, 3) := dk_180 0 34 (dk_at dksX0_hunter_0 11 rfl rfl)
theorem dX0_hunter_14 : decode cX0_hunter 14 = .ok (.invokeinterface 91 1, 5) := by decide +kernel
theorem dX0_hunter_19 : decode cX0_hunter 19 = .ok (.bipush 6, 2) := dk_16 6 (dk_at dksX0_hunter_0 19 rfl rfl)
theorem dX0_hunter_21 : decode cX0_hunter 21 = .ok (.if_icmp .ne 6, 3) := dk_160 0 6 (dk_at dksX0_hunter_0 21 rfl rfl)
theorem dX0_hunter_24 : decode cX0_hunter 24 = .ok (.bipush (-3), 2) := dk_16 253 (dk_at dksX0_hunter_1 0 rfl rfl)
theorem dX0_hunter_26 : decode cX0_hunter 26 = .ok (.ireturn, 1) := dk_172 (dk_at dksX0_hunter_1 2 rfl rfl)
theorem dX0_hunter_27 : decode cX0_hunter 27 = .ok (.new 294, 3) := dk_187 1 38 (dk_at dksX0_hunter_1 3 rfl rfl)
theorem dX0_hunter_30 : decode cX0_hunter 30 = .ok (.dup, 1) := dk_89 (dk_at dksX0_hunter_1 6 rfl rfl)
theorem dX0_hunter_31 : decode cX0_hunter 31 = .ok (.invokespecial 296, 3) := dk_183 1 40 (dk_at dksX0_hunter_1 7 rfl rfl)
theorem dX0_hunter_34 : decode cX0_hunter 34 = .ok (.astore_n 2, 1) := dk_77 (dk_at dksX0_hunter_1 10 rfl rfl)
theorem dX0_hunter_35 : decode cX0_hunter 35 = .ok (.aload_n 2, 1) := dk_44 (dk_at dksX0_hunter_1 11 rfl rfl)
theorem dX0_hunter_36 : decode cX0_hunter 36 = .ok (.aload_n 0, 1) := dk_42 (dk_at dksX0_hunter_1 12 rfl rfl)
theorem dX0_hunter_37 : decode cX0_hunter 37 = .ok (.getfield 12, 3) := dk_180 0 12 (dk_at dksX0_hunter_1 13 rfl rfl)
theorem dX0_hunter_40 : decode cX0_hunter 40 = .ok (.iload_n 1, 1) := dk_27 (dk_at dksX0_hunter_1 16 rfl rfl)
theorem dX0_hunter_41 : decode cX0_hunter 41 = .ok (.invokeinterface 152 2, 5) := by decide +kernel
theorem dX0_hunter_46 : decode cX0_hunter 46 = .ok (.checkcast 106, 3) := dk_192 0 106 (dk_at dksX0_hunter_2 0 rfl rfl)
theorem dX0_hunter_49 : decode cX0_hunter 49 = .ok (.putfield 297, 3) := dk_181 1 41 (dk_at dksX0_hunter_2 3 rfl rfl)
theorem dX0_hunter_52 : decode cX0_hunter 52 = .ok (.aload_n 0, 1) := dk_42 (dk_at dksX0_hunter_2 6 rfl rfl)
theorem dX0_hunter_53 : decode cX0_hunter 53 = .ok (.getfield 34, 3) := dk_180 0 34 (dk_at dksX0_hunter_2 7 rfl rfl)
theorem dX0_hunter_56 : decode cX0_hunter 56 = .ok (.aload_n 2, 1) := dk_44 (dk_at dksX0_hunter_2 10 rfl rfl)
theorem dX0_hunter_57 : decode cX0_hunter 57 = .ok (.invokeinterface 101 2, 5) := by decide +kernel
theorem dX0_hunter_62 : decode cX0_hunter 62 = .ok (.pop, 1) := dk_87 (dk_at dksX0_hunter_2 16 rfl rfl)
theorem dX0_hunter_63 : decode cX0_hunter 63 = .ok (.aload_n 0, 1) := dk_42 (dk_at dksX0_hunter_2 17 rfl rfl)
theorem dX0_hunter_64 : decode cX0_hunter 64 = .ok (.getfield 34, 3) := dk_180 0 34 (dk_at dksX0_hunter_2 18 rfl rfl)
theorem dX0_hunter_67 : decode cX0_hunter 67 = .ok (.invokeinterface 91 1, 5) := by decide +kernel
theorem dX0_hunter_72 : decode cX0_hunter 72 = .ok (.iconst 1, 1) := dk_4 (dk_at dksX0_hunter_3 5 rfl rfl)
theorem dX0_hunter_73 : decode cX0_hunter 73 = .ok (.isub, 1) := dk_100 (dk_at dksX0_hunter_3 6 rfl rfl)
theorem dX0_hunter_74 : decode cX0_hunter 74 = .ok (.ireturn, 1) := dk_172 (dk_at dksX0_hunter_3 7 rfl rfl)
abbrev cX0_ride : ByteArray := prog_1_method_44_code
def yX0_ride : MethodName := ⟨RX0, "ride", "(II)I"⟩
def dkwX0_ride_3 : List UInt8 := [29, 172]
abbrev dktX0_ride_3 : List UInt8 := dkwX0_ride_3 ++ []
def dkwX0_ride_2 : List UInt8 := [185, 0, 152, 2, 0, 192, 1, 38, 42, 180, 0, 12, 28, 185, 0, 152, 2, 0, 192, 0, 106, 181, 1, 41]
abbrev dktX0_ride_2 : List UInt8 := dkwX0_ride_2 ++ dktX0_ride_3
def dkwX0_ride_1 : List UInt8 := [185, 0, 152, 2, 0, 192, 1, 38, 180, 1, 41, 180, 0, 105, 62, 42, 180, 0, 34, 27]
abbrev dktX0_ride_1 : List UInt8 := dkwX0_ride_1 ++ dktX0_ride_2
def dkwX0_ride_0 : List UInt8 := [42, 27, 182, 1, 42, 153, 0, 11, 42, 28, 182, 0, 143, 154, 0, 5, 2, 172, 42, 180, 0, 34, 27]
abbrev dktX0_ride_0 : List UInt8 := dkwX0_ride_0 ++ dktX0_ride_1
theorem dksX0_ride_0 : cX0_ride.data.toList.drop 0 = dktX0_ride_0 := by decide +kernel
theorem dksX0_ride_1 : cX0_ride.data.toList.drop 23 = dktX0_ride_1 := dk_seg dksX0_ride_0 23 rfl rfl
theorem dksX0_ride_2 : cX0_ride.data.toList.drop 43 = dktX0_ride_2 := dk_seg dksX0_ride_1 20 rfl rfl
theorem dksX0_ride_3 : cX0_ride.data.toList.drop 67 = dktX0_ride_3 := dk_seg dksX0_ride_2 24 rfl rfl
theorem dX0_ride_0 : decode cX0_ride 0 = .ok (.aload_n 0, 1) := dk_42 (dk_at dksX0_ride_0 0 rfl rfl)
theorem dX0_ride_1 : decode cX0_ride 1 = .ok (.iload_n 1, 1) := dk_27 (dk_at dksX0_ride_0 1 rfl rfl)
theorem dX0_ride_2 : decode cX0_ride 2 = .ok (.invokevirtual 298, 3) := dk_182 1 42 (dk_at dksX0_ride_0 2 rfl rfl)
theorem dX0_ride_5 : decode cX0_ride 5 = .ok (.ifCond .eq 11, 3) := dk_153 0 11 (dk_at dksX0_ride_0 5 rfl rfl)
theorem dX0_ride_8 : decode cX0_ride 8 = .ok (.aload_n 0, 1) := dk_42 (dk_at dksX0_ride_0 8 rfl rfl)
theorem dX0_ride_9 : decode cX0_ride 9 = .ok (.iload_n 2, 1) := dk_28 (dk_at dksX0_ride_0 9 rfl rfl)
theorem dX0_ride_10 : decode cX0_ride 10 = .ok (.invokevirtual 143, 3) := dk_182 0 143 (dk_at dksX0_ride_0 10 rfl rfl)
theorem dX0_ride_13 : decode cX0_ride 13 = .ok (.ifCond .ne 5, 3) := dk_154 0 5 (dk_at dksX0_ride_0 13 rfl rfl)
theorem dX0_ride_16 : decode cX0_ride 16 = .ok (.iconst (-1), 1) := dk_2 (dk_at dksX0_ride_0 16 rfl rfl)
theorem dX0_ride_17 : decode cX0_ride 17 = .ok (.ireturn, 1) := dk_172 (dk_at dksX0_ride_0 17 rfl rfl)
theorem dX0_ride_18 : decode cX0_ride 18 = .ok (.aload_n 0, 1) := dk_42 (dk_at dksX0_ride_0 18 rfl rfl)
theorem dX0_ride_19 : decode cX0_ride 19 = .ok (.getfield 34, 3) := dk_180 0 34 (dk_at dksX0_ride_0 19 rfl rfl)
theorem dX0_ride_22 : decode cX0_ride 22 = .ok (.iload_n 1, 1) := dk_27 (dk_at dksX0_ride_0 22 rfl rfl)
theorem dX0_ride_23 : decode cX0_ride 23 = .ok (.invokeinterface 152 2, 5) := by decide +kernel
theorem dX0_ride_28 : decode cX0_ride 28 = .ok (.checkcast 294, 3) := dk_192 1 38 (dk_at dksX0_ride_1 5 rfl rfl)
theorem dX0_ride_31 : decode cX0_ride 31 = .ok (.getfield 297, 3) := dk_180 1 41 (dk_at dksX0_ride_1 8 rfl rfl)
theorem dX0_ride_34 : decode cX0_ride 34 = .ok (.getfield 105, 3) := dk_180 0 105 (dk_at dksX0_ride_1 11 rfl rfl)
theorem dX0_ride_37 : decode cX0_ride 37 = .ok (.istore_n 3, 1) := dk_62 (dk_at dksX0_ride_1 14 rfl rfl)
theorem dX0_ride_38 : decode cX0_ride 38 = .ok (.aload_n 0, 1) := dk_42 (dk_at dksX0_ride_1 15 rfl rfl)
theorem dX0_ride_39 : decode cX0_ride 39 = .ok (.getfield 34, 3) := dk_180 0 34 (dk_at dksX0_ride_1 16 rfl rfl)
theorem dX0_ride_42 : decode cX0_ride 42 = .ok (.iload_n 1, 1) := dk_27 (dk_at dksX0_ride_1 19 rfl rfl)
theorem dX0_ride_43 : decode cX0_ride 43 = .ok (.invokeinterface 152 2, 5) := by decide +kernel
theorem dX0_ride_48 : decode cX0_ride 48 = .ok (.checkcast 294, 3) := dk_192 1 38 (dk_at dksX0_ride_2 5 rfl rfl)
theorem dX0_ride_51 : decode cX0_ride 51 = .ok (.aload_n 0, 1) := dk_42 (dk_at dksX0_ride_2 8 rfl rfl)
theorem dX0_ride_52 : decode cX0_ride 52 = .ok (.getfield 12, 3) := dk_180 0 12 (dk_at dksX0_ride_2 9 rfl rfl)
theorem dX0_ride_55 : decode cX0_ride 55 = .ok (.iload_n 2, 1) := dk_28 (dk_at dksX0_ride_2 12 rfl rfl)
theorem dX0_ride_56 : decode cX0_ride 56 = .ok (.invokeinterface 152 2, 5) := by decide +kernel
theorem dX0_ride_61 : decode cX0_ride 61 = .ok (.checkcast 106, 3) := dk_192 0 106 (dk_at dksX0_ride_2 18 rfl rfl)
theorem dX0_ride_64 : decode cX0_ride 64 = .ok (.putfield 297, 3) := dk_181 1 41 (dk_at dksX0_ride_2 21 rfl rfl)
theorem dX0_ride_67 : decode cX0_ride 67 = .ok (.iload_n 3, 1) := dk_29 (dk_at dksX0_ride_3 0 rfl rfl)
theorem dX0_ride_68 : decode cX0_ride 68 = .ok (.ireturn, 1) := dk_172 (dk_at dksX0_ride_3 1 rfl rfl)
abbrev cX0_isHunter : ByteArray := prog_1_method_42_code
def yX0_isHunter : MethodName := ⟨RX0, "isHunter", "(I)Z"⟩
def dkwX0_isHunter_0 : List UInt8 := [27, 3, 42, 180, 0, 34, 185, 0, 91, 1, 0, 4, 100, 184, 0, 97, 172]
abbrev dktX0_isHunter_0 : List UInt8 := dkwX0_isHunter_0 ++ []
theorem dksX0_isHunter_0 : cX0_isHunter.data.toList.drop 0 = dktX0_isHunter_0 := by decide +kernel
theorem dX0_isHunter_0 : decode cX0_isHunter 0 = .ok (.iload_n 1, 1) := dk_27 (dk_at dksX0_isHunter_0 0 rfl rfl)
theorem dX0_isHunter_1 : decode cX0_isHunter 1 = .ok (.iconst 0, 1) := dk_3 (dk_at dksX0_isHunter_0 1 rfl rfl)
theorem dX0_isHunter_2 : decode cX0_isHunter 2 = .ok (.aload_n 0, 1) := dk_42 (dk_at dksX0_isHunter_0 2 rfl rfl)
theorem dX0_isHunter_3 : decode cX0_isHunter 3 = .ok (.getfield 34, 3) := dk_180 0 34 (dk_at dksX0_isHunter_0 3 rfl rfl)
theorem dX0_isHunter_6 : decode cX0_isHunter 6 = .ok (.invokeinterface 91 1, 5) := by decide +kernel
theorem dX0_isHunter_11 : decode cX0_isHunter 11 = .ok (.iconst 1, 1) := dk_4 (dk_at dksX0_isHunter_0 11 rfl rfl)
theorem dX0_isHunter_12 : decode cX0_isHunter 12 = .ok (.isub, 1) := dk_100 (dk_at dksX0_isHunter_0 12 rfl rfl)
theorem dX0_isHunter_13 : decode cX0_isHunter 13 = .ok (.invokestatic 97, 3) := dk_184 0 97 (dk_at dksX0_isHunter_0 13 rfl rfl)
theorem dX0_isHunter_16 : decode cX0_isHunter 16 = .ok (.ireturn, 1) := dk_172 (dk_at dksX0_isHunter_0 16 rfl rfl)
abbrev cX0_warrant : ByteArray := prog_1_method_45_code
def yX0_warrant : MethodName := ⟨RX0, "warrant", "(II)I"⟩
def dkwX0_warrant_2 : List UInt8 := [192, 1, 38, 28, 181, 1, 48, 29, 172]
abbrev dktX0_warrant_2 : List UInt8 := dkwX0_warrant_2 ++ []
def dkwX0_warrant_1 : List UInt8 := [185, 0, 152, 2, 0, 192, 1, 38, 180, 1, 48, 62, 42, 180, 0, 34, 27, 185, 0, 152, 2, 0]
abbrev dktX0_warrant_1 : List UInt8 := dkwX0_warrant_1 ++ dktX0_warrant_2
def dkwX0_warrant_0 : List UInt8 := [42, 27, 182, 1, 42, 153, 0, 11, 42, 28, 182, 1, 45, 154, 0, 5, 2, 172, 42, 180, 0, 34, 27]
abbrev dktX0_warrant_0 : List UInt8 := dkwX0_warrant_0 ++ dktX0_warrant_1
theorem dksX0_warrant_0 : cX0_warrant.data.toList.drop 0 = dktX0_warrant_0 := by decide +kernel
theorem dksX0_warrant_1 : cX0_warrant.data.toList.drop 23 = dktX0_warrant_1 := dk_seg dksX0_warrant_0 23 rfl rfl
theorem dksX0_warrant_2 : cX0_warrant.data.toList.drop 45 = dktX0_warrant_2 := dk_seg dksX0_warrant_1 22 rfl rfl
theorem dX0_warrant_0 : decode cX0_warrant 0 = .ok (.aload_n 0, 1) := dk_42 (dk_at dksX0_warrant_0 0 rfl rfl)
theorem dX0_warrant_1 : decode cX0_warrant 1 = .ok (.iload_n 1, 1) := dk_27 (dk_at dksX0_warrant_0 1 rfl rfl)
theorem dX0_warrant_2 : decode cX0_warrant 2 = .ok (.invokevirtual 298, 3) := dk_182 1 42 (dk_at dksX0_warrant_0 2 rfl rfl)
theorem dX0_warrant_5 : decode cX0_warrant 5 = .ok (.ifCond .eq 11, 3) := dk_153 0 11 (dk_at dksX0_warrant_0 5 rfl rfl)
theorem dX0_warrant_8 : decode cX0_warrant 8 = .ok (.aload_n 0, 1) := dk_42 (dk_at dksX0_warrant_0 8 rfl rfl)
theorem dX0_warrant_9 : decode cX0_warrant 9 = .ok (.iload_n 2, 1) := dk_28 (dk_at dksX0_warrant_0 9 rfl rfl)
theorem dX0_warrant_10 : decode cX0_warrant 10 = .ok (.invokevirtual 301, 3) := dk_182 1 45 (dk_at dksX0_warrant_0 10 rfl rfl)
theorem dX0_warrant_13 : decode cX0_warrant 13 = .ok (.ifCond .ne 5, 3) := dk_154 0 5 (dk_at dksX0_warrant_0 13 rfl rfl)
theorem dX0_warrant_16 : decode cX0_warrant 16 = .ok (.iconst (-1), 1) := dk_2 (dk_at dksX0_warrant_0 16 rfl rfl)
theorem dX0_warrant_17 : decode cX0_warrant 17 = .ok (.ireturn, 1) := dk_172 (dk_at dksX0_warrant_0 17 rfl rfl)
theorem dX0_warrant_18 : decode cX0_warrant 18 = .ok (.aload_n 0, 1) := dk_42 (dk_at dksX0_warrant_0 18 rfl rfl)
theorem dX0_warrant_19 : decode cX0_warrant 19 = .ok (.getfield 34, 3) := dk_180 0 34 (dk_at dksX0_warrant_0 19 rfl rfl)
theorem dX0_warrant_22 : decode cX0_warrant 22 = .ok (.iload_n 1, 1) := dk_27 (dk_at dksX0_warrant_0 22 rfl rfl)
theorem dX0_warrant_23 : decode cX0_warrant 23 = .ok (.invokeinterface 152 2, 5) := by decide +kernel
theorem dX0_warrant_28 : decode cX0_warrant 28 = .ok (.checkcast 294, 3) := dk_192 1 38 (dk_at dksX0_warrant_1 5 rfl rfl)
theorem dX0_warrant_31 : decode cX0_warrant 31 = .ok (.getfield 304, 3) := dk_180 1 48 (dk_at dksX0_warrant_1 8 rfl rfl)
theorem dX0_warrant_34 : decode cX0_warrant 34 = .ok (.istore_n 3, 1) := dk_62 (dk_at dksX0_warrant_1 11 rfl rfl)
theorem dX0_warrant_35 : decode cX0_warrant 35 = .ok (.aload_n 0, 1) := dk_42 (dk_at dksX0_warrant_1 12 rfl rfl)
theorem dX0_warrant_36 : decode cX0_warrant 36 = .ok (.getfield 34, 3) := dk_180 0 34 (dk_at dksX0_warrant_1 13 rfl rfl)
theorem dX0_warrant_39 : decode cX0_warrant 39 = .ok (.iload_n 1, 1) := dk_27 (dk_at dksX0_warrant_1 16 rfl rfl)
theorem dX0_warrant_40 : decode cX0_warrant 40 = .ok (.invokeinterface 152 2, 5) := by decide +kernel
theorem dX0_warrant_45 : decode cX0_warrant 45 = .ok (.checkcast 294, 3) := dk_192 1 38 (dk_at dksX0_warrant_2 0 rfl rfl)
theorem dX0_warrant_48 : decode cX0_warrant 48 = .ok (.iload_n 2, 1) := dk_28 (dk_at dksX0_warrant_2 3 rfl rfl)
theorem dX0_warrant_49 : decode cX0_warrant 49 = .ok (.putfield 304, 3) := dk_181 1 48 (dk_at dksX0_warrant_2 4 rfl rfl)
theorem dX0_warrant_52 : decode cX0_warrant 52 = .ok (.iload_n 3, 1) := dk_29 (dk_at dksX0_warrant_2 7 rfl rfl)
theorem dX0_warrant_53 : decode cX0_warrant 53 = .ok (.ireturn, 1) := dk_172 (dk_at dksX0_warrant_2 8 rfl rfl)
abbrev cX0_isPersons : ByteArray := prog_1_method_25_code
def yX0_isPersons : MethodName := ⟨RX0, "isPersons", "(I)Z"⟩
def dkwX0_isPersons_0 : List UInt8 := [27, 3, 4, 42, 180, 0, 28, 185, 0, 91, 1, 0, 120, 4, 100, 184, 0, 97, 172]
abbrev dktX0_isPersons_0 : List UInt8 := dkwX0_isPersons_0 ++ []
theorem dksX0_isPersons_0 : cX0_isPersons.data.toList.drop 0 = dktX0_isPersons_0 := by decide +kernel
theorem dX0_isPersons_0 : decode cX0_isPersons 0 = .ok (.iload_n 1, 1) := dk_27 (dk_at dksX0_isPersons_0 0 rfl rfl)
theorem dX0_isPersons_1 : decode cX0_isPersons 1 = .ok (.iconst 0, 1) := dk_3 (dk_at dksX0_isPersons_0 1 rfl rfl)
theorem dX0_isPersons_2 : decode cX0_isPersons 2 = .ok (.iconst 1, 1) := dk_4 (dk_at dksX0_isPersons_0 2 rfl rfl)
theorem dX0_isPersons_3 : decode cX0_isPersons 3 = .ok (.aload_n 0, 1) := dk_42 (dk_at dksX0_isPersons_0 3 rfl rfl)
theorem dX0_isPersons_4 : decode cX0_isPersons 4 = .ok (.getfield 28, 3) := dk_180 0 28 (dk_at dksX0_isPersons_0 4 rfl rfl)
theorem dX0_isPersons_7 : decode cX0_isPersons 7 = .ok (.invokeinterface 91 1, 5) := by decide +kernel
theorem dX0_isPersons_12 : decode cX0_isPersons 12 = .ok (.ishl, 1) := dk_120 (dk_at dksX0_isPersons_0 12 rfl rfl)
theorem dX0_isPersons_13 : decode cX0_isPersons 13 = .ok (.iconst 1, 1) := dk_4 (dk_at dksX0_isPersons_0 13 rfl rfl)
theorem dX0_isPersons_14 : decode cX0_isPersons 14 = .ok (.isub, 1) := dk_100 (dk_at dksX0_isPersons_0 14 rfl rfl)
theorem dX0_isPersons_15 : decode cX0_isPersons 15 = .ok (.invokestatic 97, 3) := dk_184 0 97 (dk_at dksX0_isPersons_0 15 rfl rfl)
theorem dX0_isPersons_18 : decode cX0_isPersons 18 = .ok (.ireturn, 1) := dk_172 (dk_at dksX0_isPersons_0 18 rfl rfl)
abbrev cX0_search : ByteArray := prog_1_method_47_code
def yX0_search : MethodName := ⟨RX0, "search", "(II)I"⟩
def dkwX0_search_9 : List UInt8 := [187, 1, 65, 89, 45, 180, 1, 41, 42, 180, 0, 169, 183, 1, 67, 185, 0, 101, 2, 0, 87, 21, 4, 172]
abbrev dktX0_search_9 : List UInt8 := dkwX0_search_9 ++ []
def dkwX0_search_8 : List UInt8 := [185, 0, 152, 2, 0, 192, 0, 203, 4, 181, 0, 251, 132, 5, 1, 167, 255, 174, 42, 180, 0, 37]
abbrev dktX0_search_8 : List UInt8 := dkwX0_search_8 ++ dktX0_search_9
def dkwX0_search_7 : List UInt8 := [180, 0, 28, 21, 5, 185, 0, 152, 2, 0, 192, 0, 203, 3, 181, 0, 212, 42, 180, 0, 28, 21, 5]
abbrev dktX0_search_7 : List UInt8 := dkwX0_search_7 ++ dktX0_search_8
def dkwX0_search_6 : List UInt8 := [160, 0, 57, 42, 180, 0, 28, 21, 5, 185, 0, 152, 2, 0, 192, 0, 203, 1, 181, 0, 209, 42]
abbrev dktX0_search_6 : List UInt8 := dkwX0_search_6 ++ dktX0_search_7
def dkwX0_search_5 : List UInt8 := [21, 5, 42, 180, 0, 28, 185, 0, 91, 1, 0, 162, 0, 74, 21, 4, 21, 5, 122, 4, 126, 4]
abbrev dktX0_search_5 : List UInt8 := dkwX0_search_5 ++ dktX0_search_6
def dkwX0_search_4 : List UInt8 := [153, 0, 10, 4, 21, 5, 120, 167, 0, 4, 3, 128, 54, 4, 132, 5, 1, 167, 255, 203, 3, 54, 5]
abbrev dktX0_search_4 : List UInt8 := dkwX0_search_4 ++ dktX0_search_5
def dkwX0_search_3 : List UInt8 := [21, 4, 42, 42, 180, 0, 28, 21, 5, 185, 0, 152, 2, 0, 192, 0, 203, 45, 28, 182, 1, 61]
abbrev dktX0_search_3 : List UInt8 := dkwX0_search_3 ++ dktX0_search_4
def dkwX0_search_2 : List UInt8 := [192, 1, 38, 78, 3, 54, 4, 3, 54, 5, 21, 5, 42, 180, 0, 28, 185, 0, 91, 1, 0, 162, 0, 45]
abbrev dktX0_search_2 : List UInt8 := dkwX0_search_2 ++ dktX0_search_3
def dkwX0_search_1 : List UInt8 := [185, 0, 91, 1, 0, 16, 40, 160, 0, 6, 16, 253, 172, 42, 180, 0, 34, 27, 185, 0, 152, 2, 0]
abbrev dktX0_search_1 : List UInt8 := dkwX0_search_1 ++ dktX0_search_2
def dkwX0_search_0 : List UInt8 := [42, 27, 182, 1, 42, 153, 0, 13, 28, 3, 16, 24, 184, 0, 97, 154, 0, 5, 2, 172, 42, 180, 0, 37]
abbrev dktX0_search_0 : List UInt8 := dkwX0_search_0 ++ dktX0_search_1
theorem dksX0_search_0 : cX0_search.data.toList.drop 0 = dktX0_search_0 := by decide +kernel
theorem dksX0_search_1 : cX0_search.data.toList.drop 24 = dktX0_search_1 := dk_seg dksX0_search_0 24 rfl rfl
theorem dksX0_search_2 : cX0_search.data.toList.drop 47 = dktX0_search_2 := dk_seg dksX0_search_1 23 rfl rfl
theorem dksX0_search_3 : cX0_search.data.toList.drop 71 = dktX0_search_3 := dk_seg dksX0_search_2 24 rfl rfl
theorem dksX0_search_4 : cX0_search.data.toList.drop 93 = dktX0_search_4 := dk_seg dksX0_search_3 22 rfl rfl
theorem dksX0_search_5 : cX0_search.data.toList.drop 116 = dktX0_search_5 := dk_seg dksX0_search_4 23 rfl rfl
theorem dksX0_search_6 : cX0_search.data.toList.drop 138 = dktX0_search_6 := dk_seg dksX0_search_5 22 rfl rfl
theorem dksX0_search_7 : cX0_search.data.toList.drop 160 = dktX0_search_7 := dk_seg dksX0_search_6 22 rfl rfl
theorem dksX0_search_8 : cX0_search.data.toList.drop 183 = dktX0_search_8 := dk_seg dksX0_search_7 23 rfl rfl
theorem dksX0_search_9 : cX0_search.data.toList.drop 205 = dktX0_search_9 := dk_seg dksX0_search_8 22 rfl rfl
theorem dX0_search_0 : decode cX0_search 0 = .ok (.aload_n 0, 1) := dk_42 (dk_at dksX0_search_0 0 rfl rfl)
theorem dX0_search_1 : decode cX0_search 1 = .ok (.iload_n 1, 1) := dk_27 (dk_at dksX0_search_0 1 rfl rfl)
theorem dX0_search_2 : decode cX0_search 2 = .ok (.invokevirtual 298, 3) := dk_182 1 42 (dk_at dksX0_search_0 2 rfl rfl)
theorem dX0_search_5 : decode cX0_search 5 = .ok (.ifCond .eq 13, 3) := dk_153 0 13 (dk_at dksX0_search_0 5 rfl rfl)
theorem dX0_search_8 : decode cX0_search 8 = .ok (.iload_n 2, 1) := dk_28 (dk_at dksX0_search_0 8 rfl rfl)
theorem dX0_search_9 : decode cX0_search 9 = .ok (.iconst 0, 1) := dk_3 (dk_at dksX0_search_0 9 rfl rfl)
theorem dX0_search_10 : decode cX0_search 10 = .ok (.bipush 24, 2) := dk_16 24 (dk_at dksX0_search_0 10 rfl rfl)
theorem dX0_search_12 : decode cX0_search 12 = .ok (.invokestatic 97, 3) := dk_184 0 97 (dk_at dksX0_search_0 12 rfl rfl)
theorem dX0_search_15 : decode cX0_search 15 = .ok (.ifCond .ne 5, 3) := dk_154 0 5 (dk_at dksX0_search_0 15 rfl rfl)
theorem dX0_search_18 : decode cX0_search 18 = .ok (.iconst (-1), 1) := dk_2 (dk_at dksX0_search_0 18 rfl rfl)
theorem dX0_search_19 : decode cX0_search 19 = .ok (.ireturn, 1) := dk_172 (dk_at dksX0_search_0 19 rfl rfl)
theorem dX0_search_20 : decode cX0_search 20 = .ok (.aload_n 0, 1) := dk_42 (dk_at dksX0_search_0 20 rfl rfl)
theorem dX0_search_21 : decode cX0_search 21 = .ok (.getfield 37, 3) := dk_180 0 37 (dk_at dksX0_search_0 21 rfl rfl)
theorem dX0_search_24 : decode cX0_search 24 = .ok (.invokeinterface 91 1, 5) := by decide +kernel
theorem dX0_search_29 : decode cX0_search 29 = .ok (.bipush 40, 2) := dk_16 40 (dk_at dksX0_search_1 5 rfl rfl)
theorem dX0_search_31 : decode cX0_search 31 = .ok (.if_icmp .ne 6, 3) := dk_160 0 6 (dk_at dksX0_search_1 7 rfl rfl)
theorem dX0_search_34 : decode cX0_search 34 = .ok (.bipush (-3), 2) := dk_16 253 (dk_at dksX0_search_1 10 rfl rfl)
theorem dX0_search_36 : decode cX0_search 36 = .ok (.ireturn, 1) := dk_172 (dk_at dksX0_search_1 12 rfl rfl)
theorem dX0_search_37 : decode cX0_search 37 = .ok (.aload_n 0, 1) := dk_42 (dk_at dksX0_search_1 13 rfl rfl)
theorem dX0_search_38 : decode cX0_search 38 = .ok (.getfield 34, 3) := dk_180 0 34 (dk_at dksX0_search_1 14 rfl rfl)
theorem dX0_search_41 : decode cX0_search 41 = .ok (.iload_n 1, 1) := dk_27 (dk_at dksX0_search_1 17 rfl rfl)
theorem dX0_search_42 : decode cX0_search 42 = .ok (.invokeinterface 152 2, 5) := by decide +kernel
theorem dX0_search_47 : decode cX0_search 47 = .ok (.checkcast 294, 3) := dk_192 1 38 (dk_at dksX0_search_2 0 rfl rfl)
theorem dX0_search_50 : decode cX0_search 50 = .ok (.astore_n 3, 1) := dk_78 (dk_at dksX0_search_2 3 rfl rfl)
theorem dX0_search_51 : decode cX0_search 51 = .ok (.iconst 0, 1) := dk_3 (dk_at dksX0_search_2 4 rfl rfl)
theorem dX0_search_52 : decode cX0_search 52 = .ok (.istore 4, 2) := dk_54 4 (dk_at dksX0_search_2 5 rfl rfl)
theorem dX0_search_54 : decode cX0_search 54 = .ok (.iconst 0, 1) := dk_3 (dk_at dksX0_search_2 7 rfl rfl)
theorem dX0_search_55 : decode cX0_search 55 = .ok (.istore 5, 2) := dk_54 5 (dk_at dksX0_search_2 8 rfl rfl)
theorem dX0_search_57 : decode cX0_search 57 = .ok (.iload 5, 2) := dk_21 5 (dk_at dksX0_search_2 10 rfl rfl)
theorem dX0_search_59 : decode cX0_search 59 = .ok (.aload_n 0, 1) := dk_42 (dk_at dksX0_search_2 12 rfl rfl)
theorem dX0_search_60 : decode cX0_search 60 = .ok (.getfield 28, 3) := dk_180 0 28 (dk_at dksX0_search_2 13 rfl rfl)
theorem dX0_search_63 : decode cX0_search 63 = .ok (.invokeinterface 91 1, 5) := by decide +kernel
theorem dX0_search_68 : decode cX0_search 68 = .ok (.if_icmp .ge 45, 3) := dk_162 0 45 (dk_at dksX0_search_2 21 rfl rfl)
theorem dX0_search_71 : decode cX0_search 71 = .ok (.iload 4, 2) := dk_21 4 (dk_at dksX0_search_3 0 rfl rfl)
theorem dX0_search_73 : decode cX0_search 73 = .ok (.aload_n 0, 1) := dk_42 (dk_at dksX0_search_3 2 rfl rfl)
theorem dX0_search_74 : decode cX0_search 74 = .ok (.aload_n 0, 1) := dk_42 (dk_at dksX0_search_3 3 rfl rfl)
theorem dX0_search_75 : decode cX0_search 75 = .ok (.getfield 28, 3) := dk_180 0 28 (dk_at dksX0_search_3 4 rfl rfl)
theorem dX0_search_78 : decode cX0_search 78 = .ok (.iload 5, 2) := dk_21 5 (dk_at dksX0_search_3 7 rfl rfl)
theorem dX0_search_80 : decode cX0_search 80 = .ok (.invokeinterface 152 2, 5) := by decide +kernel
theorem dX0_search_85 : decode cX0_search 85 = .ok (.checkcast 203, 3) := dk_192 0 203 (dk_at dksX0_search_3 14 rfl rfl)
theorem dX0_search_88 : decode cX0_search 88 = .ok (.aload_n 3, 1) := dk_45 (dk_at dksX0_search_3 17 rfl rfl)
theorem dX0_search_89 : decode cX0_search 89 = .ok (.iload_n 2, 1) := dk_28 (dk_at dksX0_search_3 18 rfl rfl)
theorem dX0_search_90 : decode cX0_search 90 = .ok (.invokevirtual 317, 3) := dk_182 1 61 (dk_at dksX0_search_3 19 rfl rfl)
theorem dX0_search_93 : decode cX0_search 93 = .ok (.ifCond .eq 10, 3) := dk_153 0 10 (dk_at dksX0_search_4 0 rfl rfl)
theorem dX0_search_96 : decode cX0_search 96 = .ok (.iconst 1, 1) := dk_4 (dk_at dksX0_search_4 3 rfl rfl)
theorem dX0_search_97 : decode cX0_search 97 = .ok (.iload 5, 2) := dk_21 5 (dk_at dksX0_search_4 4 rfl rfl)
theorem dX0_search_99 : decode cX0_search 99 = .ok (.ishl, 1) := dk_120 (dk_at dksX0_search_4 6 rfl rfl)
theorem dX0_search_100 : decode cX0_search 100 = .ok (.goto 4, 3) := dk_167 0 4 (dk_at dksX0_search_4 7 rfl rfl)
theorem dX0_search_103 : decode cX0_search 103 = .ok (.iconst 0, 1) := dk_3 (dk_at dksX0_search_4 10 rfl rfl)
theorem dX0_search_104 : decode cX0_search 104 = .ok (.ior, 1) := dk_128 (dk_at dksX0_search_4 11 rfl rfl)
theorem dX0_search_105 : decode cX0_search 105 = .ok (.istore 4, 2) := dk_54 4 (dk_at dksX0_search_4 12 rfl rfl)
theorem dX0_search_107 : decode cX0_search 107 = .ok (.iinc 5 1, 3) := dk_132 5 1 (dk_at dksX0_search_4 14 rfl rfl)
theorem dX0_search_110 : decode cX0_search 110 = .ok (.goto (-53), 3) := dk_167 255 203 (dk_at dksX0_search_4 17 rfl rfl)
theorem dX0_search_113 : decode cX0_search 113 = .ok (.iconst 0, 1) := dk_3 (dk_at dksX0_search_4 20 rfl rfl)
theorem dX0_search_114 : decode cX0_search 114 = .ok (.istore 5, 2) := dk_54 5 (dk_at dksX0_search_4 21 rfl rfl)
theorem dX0_search_116 : decode cX0_search 116 = .ok (.iload 5, 2) := dk_21 5 (dk_at dksX0_search_5 0 rfl rfl)
theorem dX0_search_118 : decode cX0_search 118 = .ok (.aload_n 0, 1) := dk_42 (dk_at dksX0_search_5 2 rfl rfl)
theorem dX0_search_119 : decode cX0_search 119 = .ok (.getfield 28, 3) := dk_180 0 28 (dk_at dksX0_search_5 3 rfl rfl)
theorem dX0_search_122 : decode cX0_search 122 = .ok (.invokeinterface 91 1, 5) := by decide +kernel
theorem dX0_search_127 : decode cX0_search 127 = .ok (.if_icmp .ge 74, 3) := dk_162 0 74 (dk_at dksX0_search_5 11 rfl rfl)
theorem dX0_search_130 : decode cX0_search 130 = .ok (.iload 4, 2) := dk_21 4 (dk_at dksX0_search_5 14 rfl rfl)
theorem dX0_search_132 : decode cX0_search 132 = .ok (.iload 5, 2) := dk_21 5 (dk_at dksX0_search_5 16 rfl rfl)
theorem dX0_search_134 : decode cX0_search 134 = .ok (.ishr, 1) := dk_122 (dk_at dksX0_search_5 18 rfl rfl)
theorem dX0_search_135 : decode cX0_search 135 = .ok (.iconst 1, 1) := dk_4 (dk_at dksX0_search_5 19 rfl rfl)
theorem dX0_search_136 : decode cX0_search 136 = .ok (.iand, 1) := dk_126 (dk_at dksX0_search_5 20 rfl rfl)
theorem dX0_search_137 : decode cX0_search 137 = .ok (.iconst 1, 1) := dk_4 (dk_at dksX0_search_5 21 rfl rfl)
theorem dX0_search_138 : decode cX0_search 138 = .ok (.if_icmp .ne 57, 3) := dk_160 0 57 (dk_at dksX0_search_6 0 rfl rfl)
theorem dX0_search_141 : decode cX0_search 141 = .ok (.aload_n 0, 1) := dk_42 (dk_at dksX0_search_6 3 rfl rfl)
theorem dX0_search_142 : decode cX0_search 142 = .ok (.getfield 28, 3) := dk_180 0 28 (dk_at dksX0_search_6 4 rfl rfl)
theorem dX0_search_145 : decode cX0_search 145 = .ok (.iload 5, 2) := dk_21 5 (dk_at dksX0_search_6 7 rfl rfl)
theorem dX0_search_147 : decode cX0_search 147 = .ok (.invokeinterface 152 2, 5) := by decide +kernel
theorem dX0_search_152 : decode cX0_search 152 = .ok (.checkcast 203, 3) := dk_192 0 203 (dk_at dksX0_search_6 14 rfl rfl)
theorem dX0_search_155 : decode cX0_search 155 = .ok (.aconst_null, 1) := dk_1 (dk_at dksX0_search_6 17 rfl rfl)
theorem dX0_search_156 : decode cX0_search 156 = .ok (.putfield 209, 3) := dk_181 0 209 (dk_at dksX0_search_6 18 rfl rfl)
theorem dX0_search_159 : decode cX0_search 159 = .ok (.aload_n 0, 1) := dk_42 (dk_at dksX0_search_6 21 rfl rfl)
theorem dX0_search_160 : decode cX0_search 160 = .ok (.getfield 28, 3) := dk_180 0 28 (dk_at dksX0_search_7 0 rfl rfl)
theorem dX0_search_163 : decode cX0_search 163 = .ok (.iload 5, 2) := dk_21 5 (dk_at dksX0_search_7 3 rfl rfl)
theorem dX0_search_165 : decode cX0_search 165 = .ok (.invokeinterface 152 2, 5) := by decide +kernel
theorem dX0_search_170 : decode cX0_search 170 = .ok (.checkcast 203, 3) := dk_192 0 203 (dk_at dksX0_search_7 10 rfl rfl)
theorem dX0_search_173 : decode cX0_search 173 = .ok (.iconst 0, 1) := dk_3 (dk_at dksX0_search_7 13 rfl rfl)
theorem dX0_search_174 : decode cX0_search 174 = .ok (.putfield 212, 3) := dk_181 0 212 (dk_at dksX0_search_7 14 rfl rfl)
theorem dX0_search_177 : decode cX0_search 177 = .ok (.aload_n 0, 1) := dk_42 (dk_at dksX0_search_7 17 rfl rfl)
theorem dX0_search_178 : decode cX0_search 178 = .ok (.getfield 28, 3) := dk_180 0 28 (dk_at dksX0_search_7 18 rfl rfl)
theorem dX0_search_181 : decode cX0_search 181 = .ok (.iload 5, 2) := dk_21 5 (dk_at dksX0_search_7 21 rfl rfl)
theorem dX0_search_183 : decode cX0_search 183 = .ok (.invokeinterface 152 2, 5) := by decide +kernel
theorem dX0_search_188 : decode cX0_search 188 = .ok (.checkcast 203, 3) := dk_192 0 203 (dk_at dksX0_search_8 5 rfl rfl)
theorem dX0_search_191 : decode cX0_search 191 = .ok (.iconst 1, 1) := dk_4 (dk_at dksX0_search_8 8 rfl rfl)
theorem dX0_search_192 : decode cX0_search 192 = .ok (.putfield 251, 3) := dk_181 0 251 (dk_at dksX0_search_8 9 rfl rfl)
theorem dX0_search_195 : decode cX0_search 195 = .ok (.iinc 5 1, 3) := dk_132 5 1 (dk_at dksX0_search_8 12 rfl rfl)
theorem dX0_search_198 : decode cX0_search 198 = .ok (.goto (-82), 3) := dk_167 255 174 (dk_at dksX0_search_8 15 rfl rfl)
theorem dX0_search_201 : decode cX0_search 201 = .ok (.aload_n 0, 1) := dk_42 (dk_at dksX0_search_8 18 rfl rfl)
theorem dX0_search_202 : decode cX0_search 202 = .ok (.getfield 37, 3) := dk_180 0 37 (dk_at dksX0_search_8 19 rfl rfl)
theorem dX0_search_205 : decode cX0_search 205 = .ok (.new 321, 3) := dk_187 1 65 (dk_at dksX0_search_9 0 rfl rfl)
theorem dX0_search_208 : decode cX0_search 208 = .ok (.dup, 1) := dk_89 (dk_at dksX0_search_9 3 rfl rfl)
theorem dX0_search_209 : decode cX0_search 209 = .ok (.aload_n 3, 1) := dk_45 (dk_at dksX0_search_9 4 rfl rfl)
theorem dX0_search_210 : decode cX0_search 210 = .ok (.getfield 297, 3) := dk_180 1 41 (dk_at dksX0_search_9 5 rfl rfl)
theorem dX0_search_213 : decode cX0_search 213 = .ok (.aload_n 0, 1) := dk_42 (dk_at dksX0_search_9 8 rfl rfl)
theorem dX0_search_214 : decode cX0_search 214 = .ok (.getfield 169, 3) := dk_180 0 169 (dk_at dksX0_search_9 9 rfl rfl)
theorem dX0_search_217 : decode cX0_search 217 = .ok (.invokespecial 323, 3) := dk_183 1 67 (dk_at dksX0_search_9 12 rfl rfl)
theorem dX0_search_220 : decode cX0_search 220 = .ok (.invokeinterface 101 2, 5) := by decide +kernel
theorem dX0_search_225 : decode cX0_search 225 = .ok (.pop, 1) := dk_87 (dk_at dksX0_search_9 20 rfl rfl)
theorem dX0_search_226 : decode cX0_search 226 = .ok (.iload 4, 2) := dk_21 4 (dk_at dksX0_search_9 21 rfl rfl)
theorem dX0_search_228 : decode cX0_search 228 = .ok (.ireturn, 1) := dk_172 (dk_at dksX0_search_9 23 rfl rfl)
abbrev cX0_isFound : ByteArray := prog_1_method_46_code
def yX0_isFound : MethodName := ⟨RX0, "isFound", "(LRoadHouses$Person;LRoadHouses$Hunter;I)Z"⟩
def dkwX0_isFound_4 : List UInt8 := [180, 1, 55, 161, 0, 7, 4, 167, 0, 15, 3, 167, 0, 11, 43, 180, 0, 209, 29, 182, 1, 58, 172]
abbrev dktX0_isFound_4 : List UInt8 := dkwX0_isFound_4 ++ []
def dkwX0_isFound_3 : List UInt8 := [180, 0, 209, 58, 6, 25, 6, 193, 0, 130, 153, 0, 23, 25, 6, 192, 0, 130, 58, 5, 29, 25, 5]
abbrev dktX0_isFound_3 : List UInt8 := dkwX0_isFound_3 ++ dktX0_isFound_4
def dkwX0_isFound_2 : List UInt8 := [180, 0, 169, 16, 24, 108, 182, 1, 51, 156, 0, 5, 3, 172, 43, 180, 0, 212, 153, 0, 41, 43]
abbrev dktX0_isFound_2 : List UInt8 := dkwX0_isFound_2 ++ dktX0_isFound_3
def dkwX0_isFound_1 : List UInt8 := [160, 0, 7, 4, 167, 0, 4, 3, 54, 4, 21, 4, 153, 0, 24, 42, 16, 116, 43, 43, 180, 0, 209, 42]
abbrev dktX0_isFound_1 : List UInt8 := dkwX0_isFound_1 ++ dktX0_isFound_2
def dkwX0_isFound_0 : List UInt8 := [43, 180, 0, 209, 44, 180, 1, 41, 166, 0, 22, 44, 180, 1, 48, 43, 180, 0, 234, 122, 4, 126, 4]
abbrev dktX0_isFound_0 : List UInt8 := dkwX0_isFound_0 ++ dktX0_isFound_1
theorem dksX0_isFound_0 : cX0_isFound.data.toList.drop 0 = dktX0_isFound_0 := by decide +kernel
theorem dksX0_isFound_1 : cX0_isFound.data.toList.drop 23 = dktX0_isFound_1 := dk_seg dksX0_isFound_0 23 rfl rfl
theorem dksX0_isFound_2 : cX0_isFound.data.toList.drop 47 = dktX0_isFound_2 := dk_seg dksX0_isFound_1 24 rfl rfl
theorem dksX0_isFound_3 : cX0_isFound.data.toList.drop 69 = dktX0_isFound_3 := dk_seg dksX0_isFound_2 22 rfl rfl
theorem dksX0_isFound_4 : cX0_isFound.data.toList.drop 92 = dktX0_isFound_4 := dk_seg dksX0_isFound_3 23 rfl rfl
theorem dX0_isFound_0 : decode cX0_isFound 0 = .ok (.aload_n 1, 1) := dk_43 (dk_at dksX0_isFound_0 0 rfl rfl)
theorem dX0_isFound_1 : decode cX0_isFound 1 = .ok (.getfield 209, 3) := dk_180 0 209 (dk_at dksX0_isFound_0 1 rfl rfl)
theorem dX0_isFound_4 : decode cX0_isFound 4 = .ok (.aload_n 2, 1) := dk_44 (dk_at dksX0_isFound_0 4 rfl rfl)
theorem dX0_isFound_5 : decode cX0_isFound 5 = .ok (.getfield 297, 3) := dk_180 1 41 (dk_at dksX0_isFound_0 5 rfl rfl)
theorem dX0_isFound_8 : decode cX0_isFound 8 = .ok (.if_acmp .ne 22, 3) := dk_166 0 22 (dk_at dksX0_isFound_0 8 rfl rfl)
theorem dX0_isFound_11 : decode cX0_isFound 11 = .ok (.aload_n 2, 1) := dk_44 (dk_at dksX0_isFound_0 11 rfl rfl)
theorem dX0_isFound_12 : decode cX0_isFound 12 = .ok (.getfield 304, 3) := dk_180 1 48 (dk_at dksX0_isFound_0 12 rfl rfl)
theorem dX0_isFound_15 : decode cX0_isFound 15 = .ok (.aload_n 1, 1) := dk_43 (dk_at dksX0_isFound_0 15 rfl rfl)
theorem dX0_isFound_16 : decode cX0_isFound 16 = .ok (.getfield 234, 3) := dk_180 0 234 (dk_at dksX0_isFound_0 16 rfl rfl)
theorem dX0_isFound_19 : decode cX0_isFound 19 = .ok (.ishr, 1) := dk_122 (dk_at dksX0_isFound_0 19 rfl rfl)
theorem dX0_isFound_20 : decode cX0_isFound 20 = .ok (.iconst 1, 1) := dk_4 (dk_at dksX0_isFound_0 20 rfl rfl)
theorem dX0_isFound_21 : decode cX0_isFound 21 = .ok (.iand, 1) := dk_126 (dk_at dksX0_isFound_0 21 rfl rfl)
theorem dX0_isFound_22 : decode cX0_isFound 22 = .ok (.iconst 1, 1) := dk_4 (dk_at dksX0_isFound_0 22 rfl rfl)
theorem dX0_isFound_23 : decode cX0_isFound 23 = .ok (.if_icmp .ne 7, 3) := dk_160 0 7 (dk_at dksX0_isFound_1 0 rfl rfl)
theorem dX0_isFound_26 : decode cX0_isFound 26 = .ok (.iconst 1, 1) := dk_4 (dk_at dksX0_isFound_1 3 rfl rfl)
theorem dX0_isFound_27 : decode cX0_isFound 27 = .ok (.goto 4, 3) := dk_167 0 4 (dk_at dksX0_isFound_1 4 rfl rfl)
theorem dX0_isFound_30 : decode cX0_isFound 30 = .ok (.iconst 0, 1) := dk_3 (dk_at dksX0_isFound_1 7 rfl rfl)
theorem dX0_isFound_31 : decode cX0_isFound 31 = .ok (.istore 4, 2) := dk_54 4 (dk_at dksX0_isFound_1 8 rfl rfl)
theorem dX0_isFound_33 : decode cX0_isFound 33 = .ok (.iload 4, 2) := dk_21 4 (dk_at dksX0_isFound_1 10 rfl rfl)
theorem dX0_isFound_35 : decode cX0_isFound 35 = .ok (.ifCond .eq 24, 3) := dk_153 0 24 (dk_at dksX0_isFound_1 12 rfl rfl)
theorem dX0_isFound_38 : decode cX0_isFound 38 = .ok (.aload_n 0, 1) := dk_42 (dk_at dksX0_isFound_1 15 rfl rfl)
theorem dX0_isFound_39 : decode cX0_isFound 39 = .ok (.bipush 116, 2) := dk_16 116 (dk_at dksX0_isFound_1 16 rfl rfl)
theorem dX0_isFound_41 : decode cX0_isFound 41 = .ok (.aload_n 1, 1) := dk_43 (dk_at dksX0_isFound_1 18 rfl rfl)
theorem dX0_isFound_42 : decode cX0_isFound 42 = .ok (.aload_n 1, 1) := dk_43 (dk_at dksX0_isFound_1 19 rfl rfl)
theorem dX0_isFound_43 : decode cX0_isFound 43 = .ok (.getfield 209, 3) := dk_180 0 209 (dk_at dksX0_isFound_1 20 rfl rfl)
theorem dX0_isFound_46 : decode cX0_isFound 46 = .ok (.aload_n 0, 1) := dk_42 (dk_at dksX0_isFound_1 23 rfl rfl)
theorem dX0_isFound_47 : decode cX0_isFound 47 = .ok (.getfield 169, 3) := dk_180 0 169 (dk_at dksX0_isFound_2 0 rfl rfl)
theorem dX0_isFound_50 : decode cX0_isFound 50 = .ok (.bipush 24, 2) := dk_16 24 (dk_at dksX0_isFound_2 3 rfl rfl)
theorem dX0_isFound_52 : decode cX0_isFound 52 = .ok (.idiv, 1) := dk_108 (dk_at dksX0_isFound_2 5 rfl rfl)
theorem dX0_isFound_53 : decode cX0_isFound 53 = .ok (.invokevirtual 307, 3) := dk_182 1 51 (dk_at dksX0_isFound_2 6 rfl rfl)
theorem dX0_isFound_56 : decode cX0_isFound 56 = .ok (.ifCond .ge 5, 3) := dk_156 0 5 (dk_at dksX0_isFound_2 9 rfl rfl)
theorem dX0_isFound_59 : decode cX0_isFound 59 = .ok (.iconst 0, 1) := dk_3 (dk_at dksX0_isFound_2 12 rfl rfl)
theorem dX0_isFound_60 : decode cX0_isFound 60 = .ok (.ireturn, 1) := dk_172 (dk_at dksX0_isFound_2 13 rfl rfl)
theorem dX0_isFound_61 : decode cX0_isFound 61 = .ok (.aload_n 1, 1) := dk_43 (dk_at dksX0_isFound_2 14 rfl rfl)
theorem dX0_isFound_62 : decode cX0_isFound 62 = .ok (.getfield 212, 3) := dk_180 0 212 (dk_at dksX0_isFound_2 15 rfl rfl)
theorem dX0_isFound_65 : decode cX0_isFound 65 = .ok (.ifCond .eq 41, 3) := dk_153 0 41 (dk_at dksX0_isFound_2 18 rfl rfl)
theorem dX0_isFound_68 : decode cX0_isFound 68 = .ok (.aload_n 1, 1) := dk_43 (dk_at dksX0_isFound_2 21 rfl rfl)
theorem dX0_isFound_69 : decode cX0_isFound 69 = .ok (.getfield 209, 3) := dk_180 0 209 (dk_at dksX0_isFound_3 0 rfl rfl)
theorem dX0_isFound_72 : decode cX0_isFound 72 = .ok (.astore 6, 2) := dk_58 6 (dk_at dksX0_isFound_3 3 rfl rfl)
theorem dX0_isFound_74 : decode cX0_isFound 74 = .ok (.aload 6, 2) := dk_25 6 (dk_at dksX0_isFound_3 5 rfl rfl)
theorem dX0_isFound_76 : decode cX0_isFound 76 = .ok (.instanceof 130, 3) := dk_193 0 130 (dk_at dksX0_isFound_3 7 rfl rfl)
theorem dX0_isFound_79 : decode cX0_isFound 79 = .ok (.ifCond .eq 23, 3) := dk_153 0 23 (dk_at dksX0_isFound_3 10 rfl rfl)
theorem dX0_isFound_82 : decode cX0_isFound 82 = .ok (.aload 6, 2) := dk_25 6 (dk_at dksX0_isFound_3 13 rfl rfl)
theorem dX0_isFound_84 : decode cX0_isFound 84 = .ok (.checkcast 130, 3) := dk_192 0 130 (dk_at dksX0_isFound_3 15 rfl rfl)
theorem dX0_isFound_87 : decode cX0_isFound 87 = .ok (.astore 5, 2) := dk_58 5 (dk_at dksX0_isFound_3 18 rfl rfl)
theorem dX0_isFound_89 : decode cX0_isFound 89 = .ok (.iload_n 3, 1) := dk_29 (dk_at dksX0_isFound_3 20 rfl rfl)
theorem dX0_isFound_90 : decode cX0_isFound 90 = .ok (.aload 5, 2) := dk_25 5 (dk_at dksX0_isFound_3 21 rfl rfl)
theorem dX0_isFound_92 : decode cX0_isFound 92 = .ok (.getfield 311, 3) := dk_180 1 55 (dk_at dksX0_isFound_4 0 rfl rfl)
theorem dX0_isFound_95 : decode cX0_isFound 95 = .ok (.if_icmp .lt 7, 3) := dk_161 0 7 (dk_at dksX0_isFound_4 3 rfl rfl)
theorem dX0_isFound_98 : decode cX0_isFound 98 = .ok (.iconst 1, 1) := dk_4 (dk_at dksX0_isFound_4 6 rfl rfl)
theorem dX0_isFound_99 : decode cX0_isFound 99 = .ok (.goto 15, 3) := dk_167 0 15 (dk_at dksX0_isFound_4 7 rfl rfl)
theorem dX0_isFound_102 : decode cX0_isFound 102 = .ok (.iconst 0, 1) := dk_3 (dk_at dksX0_isFound_4 10 rfl rfl)
theorem dX0_isFound_103 : decode cX0_isFound 103 = .ok (.goto 11, 3) := dk_167 0 11 (dk_at dksX0_isFound_4 11 rfl rfl)
theorem dX0_isFound_106 : decode cX0_isFound 106 = .ok (.aload_n 1, 1) := dk_43 (dk_at dksX0_isFound_4 14 rfl rfl)
theorem dX0_isFound_107 : decode cX0_isFound 107 = .ok (.getfield 209, 3) := dk_180 0 209 (dk_at dksX0_isFound_4 15 rfl rfl)
theorem dX0_isFound_110 : decode cX0_isFound 110 = .ok (.iload_n 3, 1) := dk_29 (dk_at dksX0_isFound_4 18 rfl rfl)
theorem dX0_isFound_111 : decode cX0_isFound 111 = .ok (.invokevirtual 314, 3) := dk_182 1 58 (dk_at dksX0_isFound_4 19 rfl rfl)
theorem dX0_isFound_114 : decode cX0_isFound 114 = .ok (.ireturn, 1) := dk_172 (dk_at dksX0_isFound_4 22 rfl rfl)
abbrev cX0_lawFor : ByteArray := prog_1_method_63_code
def yX0_lawFor : MethodName := ⟨RX0, "lawFor", "(CLRoadHouses$Person;LRoadHouses$Place;I)I"⟩
def dkwX0_lawFor_8 : List UInt8 := [132, 6, 1, 167, 255, 170, 16, 252, 172]
abbrev dktX0_lawFor_8 : List UInt8 := dkwX0_lawFor_8 ++ []
def dkwX0_lawFor_7 : List UInt8 := [4, 126, 4, 160, 0, 21, 25, 7, 180, 1, 136, 42, 180, 0, 54, 182, 1, 162, 153, 0, 6, 21, 6, 172]
abbrev dktX0_lawFor_7 : List UInt8 := dkwX0_lawFor_7 ++ dktX0_lawFor_8
def dkwX0_lawFor_6 : List UInt8 := [27, 160, 0, 47, 25, 7, 21, 4, 182, 1, 159, 153, 0, 37, 25, 7, 180, 1, 133, 45, 180, 0, 225, 122]
abbrev dktX0_lawFor_6 : List UInt8 := dkwX0_lawFor_6 ++ dktX0_lawFor_7
def dkwX0_lawFor_5 : List UInt8 := [162, 0, 78, 42, 180, 0, 40, 21, 6, 185, 0, 152, 2, 0, 192, 1, 126, 58, 7, 25, 7, 180, 1, 129]
abbrev dktX0_lawFor_5 : List UInt8 := dkwX0_lawFor_5 ++ dktX0_lawFor_6
def dkwX0_lawFor_4 : List UInt8 := [153, 0, 7, 4, 167, 0, 4, 3, 79, 3, 54, 6, 21, 6, 42, 180, 0, 40, 185, 0, 91, 1, 0]
abbrev dktX0_lawFor_4 : List UInt8 := dkwX0_lawFor_4 ++ dktX0_lawFor_5
def dkwX0_lawFor_3 : List UInt8 := [79, 42, 180, 0, 54, 8, 45, 193, 0, 125, 153, 0, 21, 45, 192, 0, 125, 58, 6, 25, 6, 180, 0, 175]
abbrev dktX0_lawFor_3 : List UInt8 := dkwX0_lawFor_3 ++ dktX0_lawFor_4
def dkwX0_lawFor_2 : List UInt8 := [79, 42, 180, 0, 54, 7, 45, 182, 0, 215, 154, 0, 7, 3, 167, 0, 10, 45, 182, 0, 218, 21, 5, 100]
abbrev dktX0_lawFor_2 : List UInt8 := dkwX0_lawFor_2 ++ dktX0_lawFor_3
def dkwX0_lawFor_1 : List UInt8 := [180, 0, 231, 185, 0, 91, 1, 0, 79, 42, 180, 0, 54, 5, 21, 4, 79, 42, 180, 0, 54, 6, 21, 5]
abbrev dktX0_lawFor_1 : List UInt8 := dkwX0_lawFor_1 ++ dktX0_lawFor_2
def dkwX0_lawFor_0 : List UInt8 := [42, 45, 3, 182, 0, 221, 54, 5, 42, 180, 0, 54, 3, 44, 180, 0, 254, 79, 42, 180, 0, 54, 4, 44]
abbrev dktX0_lawFor_0 : List UInt8 := dkwX0_lawFor_0 ++ dktX0_lawFor_1
theorem dksX0_lawFor_0 : cX0_lawFor.data.toList.drop 0 = dktX0_lawFor_0 := by decide +kernel
theorem dksX0_lawFor_1 : cX0_lawFor.data.toList.drop 24 = dktX0_lawFor_1 := dk_seg dksX0_lawFor_0 24 rfl rfl
theorem dksX0_lawFor_2 : cX0_lawFor.data.toList.drop 48 = dktX0_lawFor_2 := dk_seg dksX0_lawFor_1 24 rfl rfl
theorem dksX0_lawFor_3 : cX0_lawFor.data.toList.drop 72 = dktX0_lawFor_3 := dk_seg dksX0_lawFor_2 24 rfl rfl
theorem dksX0_lawFor_4 : cX0_lawFor.data.toList.drop 96 = dktX0_lawFor_4 := dk_seg dksX0_lawFor_3 24 rfl rfl
theorem dksX0_lawFor_5 : cX0_lawFor.data.toList.drop 119 = dktX0_lawFor_5 := dk_seg dksX0_lawFor_4 23 rfl rfl
theorem dksX0_lawFor_6 : cX0_lawFor.data.toList.drop 143 = dktX0_lawFor_6 := dk_seg dksX0_lawFor_5 24 rfl rfl
theorem dksX0_lawFor_7 : cX0_lawFor.data.toList.drop 167 = dktX0_lawFor_7 := dk_seg dksX0_lawFor_6 24 rfl rfl
theorem dksX0_lawFor_8 : cX0_lawFor.data.toList.drop 191 = dktX0_lawFor_8 := dk_seg dksX0_lawFor_7 24 rfl rfl
theorem dX0_lawFor_0 : decode cX0_lawFor 0 = .ok (.aload_n 0, 1) := dk_42 (dk_at dksX0_lawFor_0 0 rfl rfl)
theorem dX0_lawFor_1 : decode cX0_lawFor 1 = .ok (.aload_n 3, 1) := dk_45 (dk_at dksX0_lawFor_0 1 rfl rfl)
theorem dX0_lawFor_2 : decode cX0_lawFor 2 = .ok (.iconst 0, 1) := dk_3 (dk_at dksX0_lawFor_0 2 rfl rfl)
theorem dX0_lawFor_3 : decode cX0_lawFor 3 = .ok (.invokevirtual 221, 3) := dk_182 0 221 (dk_at dksX0_lawFor_0 3 rfl rfl)
theorem dX0_lawFor_6 : decode cX0_lawFor 6 = .ok (.istore 5, 2) := dk_54 5 (dk_at dksX0_lawFor_0 6 rfl rfl)
theorem dX0_lawFor_8 : decode cX0_lawFor 8 = .ok (.aload_n 0, 1) := dk_42 (dk_at dksX0_lawFor_0 8 rfl rfl)
theorem dX0_lawFor_9 : decode cX0_lawFor 9 = .ok (.getfield 54, 3) := dk_180 0 54 (dk_at dksX0_lawFor_0 9 rfl rfl)
theorem dX0_lawFor_12 : decode cX0_lawFor 12 = .ok (.iconst 0, 1) := dk_3 (dk_at dksX0_lawFor_0 12 rfl rfl)
theorem dX0_lawFor_13 : decode cX0_lawFor 13 = .ok (.aload_n 2, 1) := dk_44 (dk_at dksX0_lawFor_0 13 rfl rfl)
theorem dX0_lawFor_14 : decode cX0_lawFor 14 = .ok (.getfield 254, 3) := dk_180 0 254 (dk_at dksX0_lawFor_0 14 rfl rfl)
theorem dX0_lawFor_17 : decode cX0_lawFor 17 = .ok (.iastore, 1) := dk_79 (dk_at dksX0_lawFor_0 17 rfl rfl)
theorem dX0_lawFor_18 : decode cX0_lawFor 18 = .ok (.aload_n 0, 1) := dk_42 (dk_at dksX0_lawFor_0 18 rfl rfl)
theorem dX0_lawFor_19 : decode cX0_lawFor 19 = .ok (.getfield 54, 3) := dk_180 0 54 (dk_at dksX0_lawFor_0 19 rfl rfl)
theorem dX0_lawFor_22 : decode cX0_lawFor 22 = .ok (.iconst 1, 1) := dk_4 (dk_at dksX0_lawFor_0 22 rfl rfl)
theorem dX0_lawFor_23 : decode cX0_lawFor 23 = .ok (.aload_n 2, 1) := dk_44 (dk_at dksX0_lawFor_0 23 rfl rfl)
theorem dX0_lawFor_24 : decode cX0_lawFor 24 = .ok (.getfield 231, 3) := dk_180 0 231 (dk_at dksX0_lawFor_1 0 rfl rfl)
theorem dX0_lawFor_27 : decode cX0_lawFor 27 = .ok (.invokeinterface 91 1, 5) := by decide +kernel
theorem dX0_lawFor_32 : decode cX0_lawFor 32 = .ok (.iastore, 1) := dk_79 (dk_at dksX0_lawFor_1 8 rfl rfl)
theorem dX0_lawFor_33 : decode cX0_lawFor 33 = .ok (.aload_n 0, 1) := dk_42 (dk_at dksX0_lawFor_1 9 rfl rfl)
theorem dX0_lawFor_34 : decode cX0_lawFor 34 = .ok (.getfield 54, 3) := dk_180 0 54 (dk_at dksX0_lawFor_1 10 rfl rfl)
theorem dX0_lawFor_37 : decode cX0_lawFor 37 = .ok (.iconst 2, 1) := dk_5 (dk_at dksX0_lawFor_1 13 rfl rfl)
theorem dX0_lawFor_38 : decode cX0_lawFor 38 = .ok (.iload 4, 2) := dk_21 4 (dk_at dksX0_lawFor_1 14 rfl rfl)
theorem dX0_lawFor_40 : decode cX0_lawFor 40 = .ok (.iastore, 1) := dk_79 (dk_at dksX0_lawFor_1 16 rfl rfl)
theorem dX0_lawFor_41 : decode cX0_lawFor 41 = .ok (.aload_n 0, 1) := dk_42 (dk_at dksX0_lawFor_1 17 rfl rfl)
theorem dX0_lawFor_42 : decode cX0_lawFor 42 = .ok (.getfield 54, 3) := dk_180 0 54 (dk_at dksX0_lawFor_1 18 rfl rfl)
theorem dX0_lawFor_45 : decode cX0_lawFor 45 = .ok (.iconst 3, 1) := dk_6 (dk_at dksX0_lawFor_1 21 rfl rfl)
theorem dX0_lawFor_46 : decode cX0_lawFor 46 = .ok (.iload 5, 2) := dk_21 5 (dk_at dksX0_lawFor_1 22 rfl rfl)
theorem dX0_lawFor_48 : decode cX0_lawFor 48 = .ok (.iastore, 1) := dk_79 (dk_at dksX0_lawFor_2 0 rfl rfl)
theorem dX0_lawFor_49 : decode cX0_lawFor 49 = .ok (.aload_n 0, 1) := dk_42 (dk_at dksX0_lawFor_2 1 rfl rfl)
theorem dX0_lawFor_50 : decode cX0_lawFor 50 = .ok (.getfield 54, 3) := dk_180 0 54 (dk_at dksX0_lawFor_2 2 rfl rfl)
theorem dX0_lawFor_53 : decode cX0_lawFor 53 = .ok (.iconst 4, 1) := dk_7 (dk_at dksX0_lawFor_2 5 rfl rfl)
theorem dX0_lawFor_54 : decode cX0_lawFor 54 = .ok (.aload_n 3, 1) := dk_45 (dk_at dksX0_lawFor_2 6 rfl rfl)
theorem dX0_lawFor_55 : decode cX0_lawFor 55 = .ok (.invokevirtual 215, 3) := dk_182 0 215 (dk_at dksX0_lawFor_2 7 rfl rfl)
theorem dX0_lawFor_58 : decode cX0_lawFor 58 = .ok (.ifCond .ne 7, 3) := dk_154 0 7 (dk_at dksX0_lawFor_2 10 rfl rfl)
theorem dX0_lawFor_61 : decode cX0_lawFor 61 = .ok (.iconst 0, 1) := dk_3 (dk_at dksX0_lawFor_2 13 rfl rfl)
theorem dX0_lawFor_62 : decode cX0_lawFor 62 = .ok (.goto 10, 3) := dk_167 0 10 (dk_at dksX0_lawFor_2 14 rfl rfl)
theorem dX0_lawFor_65 : decode cX0_lawFor 65 = .ok (.aload_n 3, 1) := dk_45 (dk_at dksX0_lawFor_2 17 rfl rfl)
theorem dX0_lawFor_66 : decode cX0_lawFor 66 = .ok (.invokevirtual 218, 3) := dk_182 0 218 (dk_at dksX0_lawFor_2 18 rfl rfl)
theorem dX0_lawFor_69 : decode cX0_lawFor 69 = .ok (.iload 5, 2) := dk_21 5 (dk_at dksX0_lawFor_2 21 rfl rfl)
theorem dX0_lawFor_71 : decode cX0_lawFor 71 = .ok (.isub, 1) := dk_100 (dk_at dksX0_lawFor_2 23 rfl rfl)
theorem dX0_lawFor_72 : decode cX0_lawFor 72 = .ok (.iastore, 1) := dk_79 (dk_at dksX0_lawFor_3 0 rfl rfl)
theorem dX0_lawFor_73 : decode cX0_lawFor 73 = .ok (.aload_n 0, 1) := dk_42 (dk_at dksX0_lawFor_3 1 rfl rfl)
theorem dX0_lawFor_74 : decode cX0_lawFor 74 = .ok (.getfield 54, 3) := dk_180 0 54 (dk_at dksX0_lawFor_3 2 rfl rfl)
theorem dX0_lawFor_77 : decode cX0_lawFor 77 = .ok (.iconst 5, 1) := dk_8 (dk_at dksX0_lawFor_3 5 rfl rfl)
theorem dX0_lawFor_78 : decode cX0_lawFor 78 = .ok (.aload_n 3, 1) := dk_45 (dk_at dksX0_lawFor_3 6 rfl rfl)
theorem dX0_lawFor_79 : decode cX0_lawFor 79 = .ok (.instanceof 125, 3) := dk_193 0 125 (dk_at dksX0_lawFor_3 7 rfl rfl)
theorem dX0_lawFor_82 : decode cX0_lawFor 82 = .ok (.ifCond .eq 21, 3) := dk_153 0 21 (dk_at dksX0_lawFor_3 10 rfl rfl)
theorem dX0_lawFor_85 : decode cX0_lawFor 85 = .ok (.aload_n 3, 1) := dk_45 (dk_at dksX0_lawFor_3 13 rfl rfl)
theorem dX0_lawFor_86 : decode cX0_lawFor 86 = .ok (.checkcast 125, 3) := dk_192 0 125 (dk_at dksX0_lawFor_3 14 rfl rfl)
theorem dX0_lawFor_89 : decode cX0_lawFor 89 = .ok (.astore 6, 2) := dk_58 6 (dk_at dksX0_lawFor_3 17 rfl rfl)
theorem dX0_lawFor_91 : decode cX0_lawFor 91 = .ok (.aload 6, 2) := dk_25 6 (dk_at dksX0_lawFor_3 19 rfl rfl)
theorem dX0_lawFor_93 : decode cX0_lawFor 93 = .ok (.getfield 175, 3) := dk_180 0 175 (dk_at dksX0_lawFor_3 21 rfl rfl)
theorem dX0_lawFor_96 : decode cX0_lawFor 96 = .ok (.ifCond .eq 7, 3) := dk_153 0 7 (dk_at dksX0_lawFor_4 0 rfl rfl)
theorem dX0_lawFor_99 : decode cX0_lawFor 99 = .ok (.iconst 1, 1) := dk_4 (dk_at dksX0_lawFor_4 3 rfl rfl)
theorem dX0_lawFor_100 : decode cX0_lawFor 100 = .ok (.goto 4, 3) := dk_167 0 4 (dk_at dksX0_lawFor_4 4 rfl rfl)
theorem dX0_lawFor_103 : decode cX0_lawFor 103 = .ok (.iconst 0, 1) := dk_3 (dk_at dksX0_lawFor_4 7 rfl rfl)
theorem dX0_lawFor_104 : decode cX0_lawFor 104 = .ok (.iastore, 1) := dk_79 (dk_at dksX0_lawFor_4 8 rfl rfl)
theorem dX0_lawFor_105 : decode cX0_lawFor 105 = .ok (.iconst 0, 1) := dk_3 (dk_at dksX0_lawFor_4 9 rfl rfl)
theorem dX0_lawFor_106 : decode cX0_lawFor 106 = .ok (.istore 6, 2) := dk_54 6 (dk_at dksX0_lawFor_4 10 rfl rfl)
theorem dX0_lawFor_108 : decode cX0_lawFor 108 = .ok (.iload 6, 2) := dk_21 6 (dk_at dksX0_lawFor_4 12 rfl rfl)
theorem dX0_lawFor_110 : decode cX0_lawFor 110 = .ok (.aload_n 0, 1) := dk_42 (dk_at dksX0_lawFor_4 14 rfl rfl)
theorem dX0_lawFor_111 : decode cX0_lawFor 111 = .ok (.getfield 40, 3) := dk_180 0 40 (dk_at dksX0_lawFor_4 15 rfl rfl)
theorem dX0_lawFor_114 : decode cX0_lawFor 114 = .ok (.invokeinterface 91 1, 5) := by decide +kernel
theorem dX0_lawFor_119 : decode cX0_lawFor 119 = .ok (.if_icmp .ge 78, 3) := dk_162 0 78 (dk_at dksX0_lawFor_5 0 rfl rfl)
theorem dX0_lawFor_122 : decode cX0_lawFor 122 = .ok (.aload_n 0, 1) := dk_42 (dk_at dksX0_lawFor_5 3 rfl rfl)
theorem dX0_lawFor_123 : decode cX0_lawFor 123 = .ok (.getfield 40, 3) := dk_180 0 40 (dk_at dksX0_lawFor_5 4 rfl rfl)
theorem dX0_lawFor_126 : decode cX0_lawFor 126 = .ok (.iload 6, 2) := dk_21 6 (dk_at dksX0_lawFor_5 7 rfl rfl)
theorem dX0_lawFor_128 : decode cX0_lawFor 128 = .ok (.invokeinterface 152 2, 5) := by decide +kernel
theorem dX0_lawFor_133 : decode cX0_lawFor 133 = .ok (.checkcast 382, 3) := dk_192 1 126 (dk_at dksX0_lawFor_5 14 rfl rfl)
theorem dX0_lawFor_136 : decode cX0_lawFor 136 = .ok (.astore 7, 2) := dk_58 7 (dk_at dksX0_lawFor_5 17 rfl rfl)
theorem dX0_lawFor_138 : decode cX0_lawFor 138 = .ok (.aload 7, 2) := dk_25 7 (dk_at dksX0_lawFor_5 19 rfl rfl)
theorem dX0_lawFor_140 : decode cX0_lawFor 140 = .ok (.getfield 385, 3) := dk_180 1 129 (dk_at dksX0_lawFor_5 21 rfl rfl)
theorem dX0_lawFor_143 : decode cX0_lawFor 143 = .ok (.iload_n 1, 1) := dk_27 (dk_at dksX0_lawFor_6 0 rfl rfl)
theorem dX0_lawFor_144 : decode cX0_lawFor 144 = .ok (.if_icmp .ne 47, 3) := dk_160 0 47 (dk_at dksX0_lawFor_6 1 rfl rfl)
theorem dX0_lawFor_147 : decode cX0_lawFor 147 = .ok (.aload 7, 2) := dk_25 7 (dk_at dksX0_lawFor_6 4 rfl rfl)
theorem dX0_lawFor_149 : decode cX0_lawFor 149 = .ok (.iload 4, 2) := dk_21 4 (dk_at dksX0_lawFor_6 6 rfl rfl)
theorem dX0_lawFor_151 : decode cX0_lawFor 151 = .ok (.invokevirtual 415, 3) := dk_182 1 159 (dk_at dksX0_lawFor_6 8 rfl rfl)
theorem dX0_lawFor_154 : decode cX0_lawFor 154 = .ok (.ifCond .eq 37, 3) := dk_153 0 37 (dk_at dksX0_lawFor_6 11 rfl rfl)
theorem dX0_lawFor_157 : decode cX0_lawFor 157 = .ok (.aload 7, 2) := dk_25 7 (dk_at dksX0_lawFor_6 14 rfl rfl)
theorem dX0_lawFor_159 : decode cX0_lawFor 159 = .ok (.getfield 389, 3) := dk_180 1 133 (dk_at dksX0_lawFor_6 16 rfl rfl)
theorem dX0_lawFor_162 : decode cX0_lawFor 162 = .ok (.aload_n 3, 1) := dk_45 (dk_at dksX0_lawFor_6 19 rfl rfl)
theorem dX0_lawFor_163 : decode cX0_lawFor 163 = .ok (.getfield 225, 3) := dk_180 0 225 (dk_at dksX0_lawFor_6 20 rfl rfl)
theorem dX0_lawFor_166 : decode cX0_lawFor 166 = .ok (.ishr, 1) := dk_122 (dk_at dksX0_lawFor_6 23 rfl rfl)
theorem dX0_lawFor_167 : decode cX0_lawFor 167 = .ok (.iconst 1, 1) := dk_4 (dk_at dksX0_lawFor_7 0 rfl rfl)
theorem dX0_lawFor_168 : decode cX0_lawFor 168 = .ok (.iand, 1) := dk_126 (dk_at dksX0_lawFor_7 1 rfl rfl)
theorem dX0_lawFor_169 : decode cX0_lawFor 169 = .ok (.iconst 1, 1) := dk_4 (dk_at dksX0_lawFor_7 2 rfl rfl)
theorem dX0_lawFor_170 : decode cX0_lawFor 170 = .ok (.if_icmp .ne 21, 3) := dk_160 0 21 (dk_at dksX0_lawFor_7 3 rfl rfl)
theorem dX0_lawFor_173 : decode cX0_lawFor 173 = .ok (.aload 7, 2) := dk_25 7 (dk_at dksX0_lawFor_7 6 rfl rfl)
theorem dX0_lawFor_175 : decode cX0_lawFor 175 = .ok (.getfield 392, 3) := dk_180 1 136 (dk_at dksX0_lawFor_7 8 rfl rfl)
theorem dX0_lawFor_178 : decode cX0_lawFor 178 = .ok (.aload_n 0, 1) := dk_42 (dk_at dksX0_lawFor_7 11 rfl rfl)
theorem dX0_lawFor_179 : decode cX0_lawFor 179 = .ok (.getfield 54, 3) := dk_180 0 54 (dk_at dksX0_lawFor_7 12 rfl rfl)
theorem dX0_lawFor_182 : decode cX0_lawFor 182 = .ok (.invokevirtual 418, 3) := dk_182 1 162 (dk_at dksX0_lawFor_7 15 rfl rfl)
theorem dX0_lawFor_185 : decode cX0_lawFor 185 = .ok (.ifCond .eq 6, 3) := dk_153 0 6 (dk_at dksX0_lawFor_7 18 rfl rfl)
theorem dX0_lawFor_188 : decode cX0_lawFor 188 = .ok (.iload 6, 2) := dk_21 6 (dk_at dksX0_lawFor_7 21 rfl rfl)
theorem dX0_lawFor_190 : decode cX0_lawFor 190 = .ok (.ireturn, 1) := dk_172 (dk_at dksX0_lawFor_7 23 rfl rfl)
theorem dX0_lawFor_191 : decode cX0_lawFor 191 = .ok (.iinc 6 1, 3) := dk_132 6 1 (dk_at dksX0_lawFor_8 0 rfl rfl)
theorem dX0_lawFor_194 : decode cX0_lawFor 194 = .ok (.goto (-86), 3) := dk_167 255 170 (dk_at dksX0_lawFor_8 3 rfl rfl)
theorem dX0_lawFor_197 : decode cX0_lawFor 197 = .ok (.bipush (-4), 2) := dk_16 252 (dk_at dksX0_lawFor_8 6 rfl rfl)
theorem dX0_lawFor_199 : decode cX0_lawFor 199 = .ok (.ireturn, 1) := dk_172 (dk_at dksX0_lawFor_8 8 rfl rfl)
abbrev cX0_follow : ByteArray := prog_1_method_48_code
def yX0_follow : MethodName := ⟨RX0, "follow", "(I)I"⟩
def dkwX0_follow_6 : List UInt8 := [16, 252, 172, 44, 45, 180, 1, 23, 181, 1, 41, 44, 180, 1, 41, 180, 0, 105, 172]
abbrev dktX0_follow_6 : List UInt8 := dkwX0_follow_6 ++ []
def dkwX0_follow_5 : List UInt8 := [45, 180, 1, 26, 164, 0, 8, 25, 5, 167, 0, 4, 45, 78, 132, 4, 1, 167, 255, 151, 45, 199, 0, 6]
abbrev dktX0_follow_5 : List UInt8 := dkwX0_follow_5 ++ dktX0_follow_6
def dkwX0_follow_4 : List UInt8 := [160, 0, 7, 4, 167, 0, 4, 3, 54, 6, 21, 6, 153, 0, 24, 45, 198, 0, 15, 25, 5, 180, 1, 26]
abbrev dktX0_follow_4 : List UInt8 := dkwX0_follow_4 ++ dktX0_follow_5
def dkwX0_follow_3 : List UInt8 := [25, 5, 180, 1, 20, 44, 180, 1, 41, 166, 0, 20, 44, 180, 1, 48, 21, 4, 122, 4, 126, 4]
abbrev dktX0_follow_3 : List UInt8 := dkwX0_follow_3 ++ dktX0_follow_4
def dkwX0_follow_2 : List UInt8 := [21, 4, 185, 0, 152, 2, 0, 192, 0, 203, 58, 5, 25, 5, 42, 180, 0, 169, 182, 1, 35, 153, 0, 32]
abbrev dktX0_follow_2 : List UInt8 := dkwX0_follow_2 ++ dktX0_follow_3
def dkwX0_follow_1 : List UInt8 := [1, 78, 3, 54, 4, 21, 4, 42, 180, 0, 28, 185, 0, 91, 1, 0, 162, 0, 97, 42, 180, 0, 28]
abbrev dktX0_follow_1 : List UInt8 := dkwX0_follow_1 ++ dktX0_follow_2
def dkwX0_follow_0 : List UInt8 := [42, 27, 182, 1, 42, 154, 0, 5, 2, 172, 42, 180, 0, 34, 27, 185, 0, 152, 2, 0, 192, 1, 38, 77]
abbrev dktX0_follow_0 : List UInt8 := dkwX0_follow_0 ++ dktX0_follow_1
theorem dksX0_follow_0 : cX0_follow.data.toList.drop 0 = dktX0_follow_0 := by decide +kernel
theorem dksX0_follow_1 : cX0_follow.data.toList.drop 24 = dktX0_follow_1 := dk_seg dksX0_follow_0 24 rfl rfl
theorem dksX0_follow_2 : cX0_follow.data.toList.drop 47 = dktX0_follow_2 := dk_seg dksX0_follow_1 23 rfl rfl
theorem dksX0_follow_3 : cX0_follow.data.toList.drop 71 = dktX0_follow_3 := dk_seg dksX0_follow_2 24 rfl rfl
theorem dksX0_follow_4 : cX0_follow.data.toList.drop 93 = dktX0_follow_4 := dk_seg dksX0_follow_3 22 rfl rfl
theorem dksX0_follow_5 : cX0_follow.data.toList.drop 117 = dktX0_follow_5 := dk_seg dksX0_follow_4 24 rfl rfl
theorem dksX0_follow_6 : cX0_follow.data.toList.drop 141 = dktX0_follow_6 := dk_seg dksX0_follow_5 24 rfl rfl
theorem dX0_follow_0 : decode cX0_follow 0 = .ok (.aload_n 0, 1) := dk_42 (dk_at dksX0_follow_0 0 rfl rfl)
theorem dX0_follow_1 : decode cX0_follow 1 = .ok (.iload_n 1, 1) := dk_27 (dk_at dksX0_follow_0 1 rfl rfl)
theorem dX0_follow_2 : decode cX0_follow 2 = .ok (.invokevirtual 298, 3) := dk_182 1 42 (dk_at dksX0_follow_0 2 rfl rfl)
theorem dX0_follow_5 : decode cX0_follow 5 = .ok (.ifCond .ne 5, 3) := dk_154 0 5 (dk_at dksX0_follow_0 5 rfl rfl)
theorem dX0_follow_8 : decode cX0_follow 8 = .ok (.iconst (-1), 1) := dk_2 (dk_at dksX0_follow_0 8 rfl rfl)
theorem dX0_follow_9 : decode cX0_follow 9 = .ok (.ireturn, 1) := dk_172 (dk_at dksX0_follow_0 9 rfl rfl)
theorem dX0_follow_10 : decode cX0_follow 10 = .ok (.aload_n 0, 1) := dk_42 (dk_at dksX0_follow_0 10 rfl rfl)
theorem dX0_follow_11 : decode cX0_follow 11 = .ok (.getfield 34, 3) := dk_180 0 34 (dk_at dksX0_follow_0 11 rfl rfl)
theorem dX0_follow_14 : decode cX0_follow 14 = .ok (.iload_n 1, 1) := dk_27 (dk_at dksX0_follow_0 14 rfl rfl)
theorem dX0_follow_15 : decode cX0_follow 15 = .ok (.invokeinterface 152 2, 5) := by decide +kernel
theorem dX0_follow_20 : decode cX0_follow 20 = .ok (.checkcast 294, 3) := dk_192 1 38 (dk_at dksX0_follow_0 20 rfl rfl)
theorem dX0_follow_23 : decode cX0_follow 23 = .ok (.astore_n 2, 1) := dk_77 (dk_at dksX0_follow_0 23 rfl rfl)
theorem dX0_follow_24 : decode cX0_follow 24 = .ok (.aconst_null, 1) := dk_1 (dk_at dksX0_follow_1 0 rfl rfl)
theorem dX0_follow_25 : decode cX0_follow 25 = .ok (.astore_n 3, 1) := dk_78 (dk_at dksX0_follow_1 1 rfl rfl)
theorem dX0_follow_26 : decode cX0_follow 26 = .ok (.iconst 0, 1) := dk_3 (dk_at dksX0_follow_1 2 rfl rfl)
theorem dX0_follow_27 : decode cX0_follow 27 = .ok (.istore 4, 2) := dk_54 4 (dk_at dksX0_follow_1 3 rfl rfl)
theorem dX0_follow_29 : decode cX0_follow 29 = .ok (.iload 4, 2) := dk_21 4 (dk_at dksX0_follow_1 5 rfl rfl)
theorem dX0_follow_31 : decode cX0_follow 31 = .ok (.aload_n 0, 1) := dk_42 (dk_at dksX0_follow_1 7 rfl rfl)
theorem dX0_follow_32 : decode cX0_follow 32 = .ok (.getfield 28, 3) := dk_180 0 28 (dk_at dksX0_follow_1 8 rfl rfl)
theorem dX0_follow_35 : decode cX0_follow 35 = .ok (.invokeinterface 91 1, 5) := by decide +kernel
theorem dX0_follow_40 : decode cX0_follow 40 = .ok (.if_icmp .ge 97, 3) := dk_162 0 97 (dk_at dksX0_follow_1 16 rfl rfl)
theorem dX0_follow_43 : decode cX0_follow 43 = .ok (.aload_n 0, 1) := dk_42 (dk_at dksX0_follow_1 19 rfl rfl)
theorem dX0_follow_44 : decode cX0_follow 44 = .ok (.getfield 28, 3) := dk_180 0 28 (dk_at dksX0_follow_1 20 rfl rfl)
theorem dX0_follow_47 : decode cX0_follow 47 = .ok (.iload 4, 2) := dk_21 4 (dk_at dksX0_follow_2 0 rfl rfl)
theorem dX0_follow_49 : decode cX0_follow 49 = .ok (.invokeinterface 152 2, 5) := by decide +kernel
theorem dX0_follow_54 : decode cX0_follow 54 = .ok (.checkcast 203, 3) := dk_192 0 203 (dk_at dksX0_follow_2 7 rfl rfl)
theorem dX0_follow_57 : decode cX0_follow 57 = .ok (.astore 5, 2) := dk_58 5 (dk_at dksX0_follow_2 10 rfl rfl)
theorem dX0_follow_59 : decode cX0_follow 59 = .ok (.aload 5, 2) := dk_25 5 (dk_at dksX0_follow_2 12 rfl rfl)
theorem dX0_follow_61 : decode cX0_follow 61 = .ok (.aload_n 0, 1) := dk_42 (dk_at dksX0_follow_2 14 rfl rfl)
theorem dX0_follow_62 : decode cX0_follow 62 = .ok (.getfield 169, 3) := dk_180 0 169 (dk_at dksX0_follow_2 15 rfl rfl)
theorem dX0_follow_65 : decode cX0_follow 65 = .ok (.invokevirtual 291, 3) := dk_182 1 35 (dk_at dksX0_follow_2 18 rfl rfl)
theorem dX0_follow_68 : decode cX0_follow 68 = .ok (.ifCond .eq 32, 3) := dk_153 0 32 (dk_at dksX0_follow_2 21 rfl rfl)
theorem dX0_follow_71 : decode cX0_follow 71 = .ok (.aload 5, 2) := dk_25 5 (dk_at dksX0_follow_3 0 rfl rfl)
theorem dX0_follow_73 : decode cX0_follow 73 = .ok (.getfield 276, 3) := dk_180 1 20 (dk_at dksX0_follow_3 2 rfl rfl)
theorem dX0_follow_76 : decode cX0_follow 76 = .ok (.aload_n 2, 1) := dk_44 (dk_at dksX0_follow_3 5 rfl rfl)
theorem dX0_follow_77 : decode cX0_follow 77 = .ok (.getfield 297, 3) := dk_180 1 41 (dk_at dksX0_follow_3 6 rfl rfl)
theorem dX0_follow_80 : decode cX0_follow 80 = .ok (.if_acmp .ne 20, 3) := dk_166 0 20 (dk_at dksX0_follow_3 9 rfl rfl)
theorem dX0_follow_83 : decode cX0_follow 83 = .ok (.aload_n 2, 1) := dk_44 (dk_at dksX0_follow_3 12 rfl rfl)
theorem dX0_follow_84 : decode cX0_follow 84 = .ok (.getfield 304, 3) := dk_180 1 48 (dk_at dksX0_follow_3 13 rfl rfl)
theorem dX0_follow_87 : decode cX0_follow 87 = .ok (.iload 4, 2) := dk_21 4 (dk_at dksX0_follow_3 16 rfl rfl)
theorem dX0_follow_89 : decode cX0_follow 89 = .ok (.ishr, 1) := dk_122 (dk_at dksX0_follow_3 18 rfl rfl)
theorem dX0_follow_90 : decode cX0_follow 90 = .ok (.iconst 1, 1) := dk_4 (dk_at dksX0_follow_3 19 rfl rfl)
theorem dX0_follow_91 : decode cX0_follow 91 = .ok (.iand, 1) := dk_126 (dk_at dksX0_follow_3 20 rfl rfl)
theorem dX0_follow_92 : decode cX0_follow 92 = .ok (.iconst 1, 1) := dk_4 (dk_at dksX0_follow_3 21 rfl rfl)
theorem dX0_follow_93 : decode cX0_follow 93 = .ok (.if_icmp .ne 7, 3) := dk_160 0 7 (dk_at dksX0_follow_4 0 rfl rfl)
theorem dX0_follow_96 : decode cX0_follow 96 = .ok (.iconst 1, 1) := dk_4 (dk_at dksX0_follow_4 3 rfl rfl)
theorem dX0_follow_97 : decode cX0_follow 97 = .ok (.goto 4, 3) := dk_167 0 4 (dk_at dksX0_follow_4 4 rfl rfl)
theorem dX0_follow_100 : decode cX0_follow 100 = .ok (.iconst 0, 1) := dk_3 (dk_at dksX0_follow_4 7 rfl rfl)
theorem dX0_follow_101 : decode cX0_follow 101 = .ok (.istore 6, 2) := dk_54 6 (dk_at dksX0_follow_4 8 rfl rfl)
theorem dX0_follow_103 : decode cX0_follow 103 = .ok (.iload 6, 2) := dk_21 6 (dk_at dksX0_follow_4 10 rfl rfl)
theorem dX0_follow_105 : decode cX0_follow 105 = .ok (.ifCond .eq 24, 3) := dk_153 0 24 (dk_at dksX0_follow_4 12 rfl rfl)
theorem dX0_follow_108 : decode cX0_follow 108 = .ok (.aload_n 3, 1) := dk_45 (dk_at dksX0_follow_4 15 rfl rfl)
theorem dX0_follow_109 : decode cX0_follow 109 = .ok (.ifnull 15, 3) := dk_198 0 15 (dk_at dksX0_follow_4 16 rfl rfl)
theorem dX0_follow_112 : decode cX0_follow 112 = .ok (.aload 5, 2) := dk_25 5 (dk_at dksX0_follow_4 19 rfl rfl)
theorem dX0_follow_114 : decode cX0_follow 114 = .ok (.getfield 282, 3) := dk_180 1 26 (dk_at dksX0_follow_4 21 rfl rfl)
theorem dX0_follow_117 : decode cX0_follow 117 = .ok (.aload_n 3, 1) := dk_45 (dk_at dksX0_follow_5 0 rfl rfl)
theorem dX0_follow_118 : decode cX0_follow 118 = .ok (.getfield 282, 3) := dk_180 1 26 (dk_at dksX0_follow_5 1 rfl rfl)
theorem dX0_follow_121 : decode cX0_follow 121 = .ok (.if_icmp .le 8, 3) := dk_164 0 8 (dk_at dksX0_follow_5 4 rfl rfl)
theorem dX0_follow_124 : decode cX0_follow 124 = .ok (.aload 5, 2) := dk_25 5 (dk_at dksX0_follow_5 7 rfl rfl)
theorem dX0_follow_126 : decode cX0_follow 126 = .ok (.goto 4, 3) := dk_167 0 4 (dk_at dksX0_follow_5 9 rfl rfl)
theorem dX0_follow_129 : decode cX0_follow 129 = .ok (.aload_n 3, 1) := dk_45 (dk_at dksX0_follow_5 12 rfl rfl)
theorem dX0_follow_130 : decode cX0_follow 130 = .ok (.astore_n 3, 1) := dk_78 (dk_at dksX0_follow_5 13 rfl rfl)
theorem dX0_follow_131 : decode cX0_follow 131 = .ok (.iinc 4 1, 3) := dk_132 4 1 (dk_at dksX0_follow_5 14 rfl rfl)
theorem dX0_follow_134 : decode cX0_follow 134 = .ok (.goto (-105), 3) := dk_167 255 151 (dk_at dksX0_follow_5 17 rfl rfl)
theorem dX0_follow_137 : decode cX0_follow 137 = .ok (.aload_n 3, 1) := dk_45 (dk_at dksX0_follow_5 20 rfl rfl)
theorem dX0_follow_138 : decode cX0_follow 138 = .ok (.ifnonnull 6, 3) := dk_199 0 6 (dk_at dksX0_follow_5 21 rfl rfl)
theorem dX0_follow_141 : decode cX0_follow 141 = .ok (.bipush (-4), 2) := dk_16 252 (dk_at dksX0_follow_6 0 rfl rfl)
theorem dX0_follow_143 : decode cX0_follow 143 = .ok (.ireturn, 1) := dk_172 (dk_at dksX0_follow_6 2 rfl rfl)
theorem dX0_follow_144 : decode cX0_follow 144 = .ok (.aload_n 2, 1) := dk_44 (dk_at dksX0_follow_6 3 rfl rfl)
theorem dX0_follow_145 : decode cX0_follow 145 = .ok (.aload_n 3, 1) := dk_45 (dk_at dksX0_follow_6 4 rfl rfl)
theorem dX0_follow_146 : decode cX0_follow 146 = .ok (.getfield 279, 3) := dk_180 1 23 (dk_at dksX0_follow_6 5 rfl rfl)
theorem dX0_follow_149 : decode cX0_follow 149 = .ok (.putfield 297, 3) := dk_181 1 41 (dk_at dksX0_follow_6 8 rfl rfl)
theorem dX0_follow_152 : decode cX0_follow 152 = .ok (.aload_n 2, 1) := dk_44 (dk_at dksX0_follow_6 11 rfl rfl)
theorem dX0_follow_153 : decode cX0_follow 153 = .ok (.getfield 297, 3) := dk_180 1 41 (dk_at dksX0_follow_6 12 rfl rfl)
theorem dX0_follow_156 : decode cX0_follow 156 = .ok (.getfield 105, 3) := dk_180 0 105 (dk_at dksX0_follow_6 15 rfl rfl)
theorem dX0_follow_159 : decode cX0_follow 159 = .ok (.ireturn, 1) := dk_172 (dk_at dksX0_follow_6 18 rfl rfl)
abbrev cX0_type : ByteArray := prog_1_method_49_code
def yX0_type : MethodName := ⟨RX0, "type", "(JI)I"⟩
def dkwX0_type_4 : List UInt8 := [84, 42, 89, 180, 1, 72, 4, 96, 181, 1, 72, 132, 4, 255, 167, 255, 220, 42, 180, 1, 72, 172]
abbrev dktX0_type_4 : List UInt8 := dkwX0_type_4 ++ []
def dkwX0_type_3 : List UInt8 := [54, 4, 21, 4, 155, 0, 37, 42, 180, 0, 50, 42, 180, 1, 72, 31, 16, 8, 21, 4, 104, 123, 136, 145]
abbrev dktX0_type_3 : List UInt8 := dkwX0_type_3 ++ dktX0_type_4
def dkwX0_type_2 : List UInt8 := [132, 4, 255, 167, 255, 224, 42, 180, 1, 72, 29, 96, 16, 80, 164, 0, 6, 16, 253, 172, 29, 4, 100]
abbrev dktX0_type_2 : List UInt8 := dkwX0_type_2 ++ dktX0_type_3
def dkwX0_type_1 : List UInt8 := [16, 8, 21, 4, 104, 123, 20, 1, 70, 127, 136, 16, 32, 16, 126, 184, 0, 97, 154, 0, 5, 2, 172]
abbrev dktX0_type_1 : List UInt8 := dkwX0_type_1 ++ dktX0_type_2
def dkwX0_type_0 : List UInt8 := [29, 4, 16, 8, 184, 0, 97, 154, 0, 5, 2, 172, 29, 4, 100, 54, 4, 21, 4, 155, 0, 33, 31]
abbrev dktX0_type_0 : List UInt8 := dkwX0_type_0 ++ dktX0_type_1
theorem dksX0_type_0 : cX0_type.data.toList.drop 0 = dktX0_type_0 := by decide +kernel
theorem dksX0_type_1 : cX0_type.data.toList.drop 23 = dktX0_type_1 := dk_seg dksX0_type_0 23 rfl rfl
theorem dksX0_type_2 : cX0_type.data.toList.drop 46 = dktX0_type_2 := dk_seg dksX0_type_1 23 rfl rfl
theorem dksX0_type_3 : cX0_type.data.toList.drop 69 = dktX0_type_3 := dk_seg dksX0_type_2 23 rfl rfl
theorem dksX0_type_4 : cX0_type.data.toList.drop 93 = dktX0_type_4 := dk_seg dksX0_type_3 24 rfl rfl
theorem dX0_type_0 : decode cX0_type 0 = .ok (.iload_n 3, 1) := dk_29 (dk_at dksX0_type_0 0 rfl rfl)
theorem dX0_type_1 : decode cX0_type 1 = .ok (.iconst 1, 1) := dk_4 (dk_at dksX0_type_0 1 rfl rfl)
theorem dX0_type_2 : decode cX0_type 2 = .ok (.bipush 8, 2) := dk_16 8 (dk_at dksX0_type_0 2 rfl rfl)
theorem dX0_type_4 : decode cX0_type 4 = .ok (.invokestatic 97, 3) := dk_184 0 97 (dk_at dksX0_type_0 4 rfl rfl)
theorem dX0_type_7 : decode cX0_type 7 = .ok (.ifCond .ne 5, 3) := dk_154 0 5 (dk_at dksX0_type_0 7 rfl rfl)
theorem dX0_type_10 : decode cX0_type 10 = .ok (.iconst (-1), 1) := dk_2 (dk_at dksX0_type_0 10 rfl rfl)
theorem dX0_type_11 : decode cX0_type 11 = .ok (.ireturn, 1) := dk_172 (dk_at dksX0_type_0 11 rfl rfl)
theorem dX0_type_12 : decode cX0_type 12 = .ok (.iload_n 3, 1) := dk_29 (dk_at dksX0_type_0 12 rfl rfl)
theorem dX0_type_13 : decode cX0_type 13 = .ok (.iconst 1, 1) := dk_4 (dk_at dksX0_type_0 13 rfl rfl)
theorem dX0_type_14 : decode cX0_type 14 = .ok (.isub, 1) := dk_100 (dk_at dksX0_type_0 14 rfl rfl)
theorem dX0_type_15 : decode cX0_type 15 = .ok (.istore 4, 2) := dk_54 4 (dk_at dksX0_type_0 15 rfl rfl)
theorem dX0_type_17 : decode cX0_type 17 = .ok (.iload 4, 2) := dk_21 4 (dk_at dksX0_type_0 17 rfl rfl)
theorem dX0_type_19 : decode cX0_type 19 = .ok (.ifCond .lt 33, 3) := dk_155 0 33 (dk_at dksX0_type_0 19 rfl rfl)
theorem dX0_type_22 : decode cX0_type 22 = .ok (.lload_n 1, 1) := dk_31 (dk_at dksX0_type_0 22 rfl rfl)
theorem dX0_type_23 : decode cX0_type 23 = .ok (.bipush 8, 2) := dk_16 8 (dk_at dksX0_type_1 0 rfl rfl)
theorem dX0_type_25 : decode cX0_type 25 = .ok (.iload 4, 2) := dk_21 4 (dk_at dksX0_type_1 2 rfl rfl)
theorem dX0_type_27 : decode cX0_type 27 = .ok (.imul, 1) := dk_104 (dk_at dksX0_type_1 4 rfl rfl)
theorem dX0_type_28 : decode cX0_type 28 = .ok (.lshr, 1) := dk_123 (dk_at dksX0_type_1 5 rfl rfl)
theorem dX0_type_29 : decode cX0_type 29 = .ok (.ldc2_w 326, 3) := dk_20 1 70 (dk_at dksX0_type_1 6 rfl rfl)
theorem dX0_type_32 : decode cX0_type 32 = .ok (.land, 1) := dk_127 (dk_at dksX0_type_1 9 rfl rfl)
theorem dX0_type_33 : decode cX0_type 33 = .ok (.l2i, 1) := dk_136 (dk_at dksX0_type_1 10 rfl rfl)
theorem dX0_type_34 : decode cX0_type 34 = .ok (.bipush 32, 2) := dk_16 32 (dk_at dksX0_type_1 11 rfl rfl)
theorem dX0_type_36 : decode cX0_type 36 = .ok (.bipush 126, 2) := dk_16 126 (dk_at dksX0_type_1 13 rfl rfl)
theorem dX0_type_38 : decode cX0_type 38 = .ok (.invokestatic 97, 3) := dk_184 0 97 (dk_at dksX0_type_1 15 rfl rfl)
theorem dX0_type_41 : decode cX0_type 41 = .ok (.ifCond .ne 5, 3) := dk_154 0 5 (dk_at dksX0_type_1 18 rfl rfl)
theorem dX0_type_44 : decode cX0_type 44 = .ok (.iconst (-1), 1) := dk_2 (dk_at dksX0_type_1 21 rfl rfl)
theorem dX0_type_45 : decode cX0_type 45 = .ok (.ireturn, 1) := dk_172 (dk_at dksX0_type_1 22 rfl rfl)
theorem dX0_type_46 : decode cX0_type 46 = .ok (.iinc 4 (-1), 3) := dk_132 4 255 (dk_at dksX0_type_2 0 rfl rfl)
theorem dX0_type_49 : decode cX0_type 49 = .ok (.goto (-32), 3) := dk_167 255 224 (dk_at dksX0_type_2 3 rfl rfl)
theorem dX0_type_52 : decode cX0_type 52 = .ok (.aload_n 0, 1) := dk_42 (dk_at dksX0_type_2 6 rfl rfl)
theorem dX0_type_53 : decode cX0_type 53 = .ok (.getfield 328, 3) := dk_180 1 72 (dk_at dksX0_type_2 7 rfl rfl)
theorem dX0_type_56 : decode cX0_type 56 = .ok (.iload_n 3, 1) := dk_29 (dk_at dksX0_type_2 10 rfl rfl)
theorem dX0_type_57 : decode cX0_type 57 = .ok (.iadd, 1) := dk_96 (dk_at dksX0_type_2 11 rfl rfl)
theorem dX0_type_58 : decode cX0_type 58 = .ok (.bipush 80, 2) := dk_16 80 (dk_at dksX0_type_2 12 rfl rfl)
theorem dX0_type_60 : decode cX0_type 60 = .ok (.if_icmp .le 6, 3) := dk_164 0 6 (dk_at dksX0_type_2 14 rfl rfl)
theorem dX0_type_63 : decode cX0_type 63 = .ok (.bipush (-3), 2) := dk_16 253 (dk_at dksX0_type_2 17 rfl rfl)
theorem dX0_type_65 : decode cX0_type 65 = .ok (.ireturn, 1) := dk_172 (dk_at dksX0_type_2 19 rfl rfl)
theorem dX0_type_66 : decode cX0_type 66 = .ok (.iload_n 3, 1) := dk_29 (dk_at dksX0_type_2 20 rfl rfl)
theorem dX0_type_67 : decode cX0_type 67 = .ok (.iconst 1, 1) := dk_4 (dk_at dksX0_type_2 21 rfl rfl)
theorem dX0_type_68 : decode cX0_type 68 = .ok (.isub, 1) := dk_100 (dk_at dksX0_type_2 22 rfl rfl)
theorem dX0_type_69 : decode cX0_type 69 = .ok (.istore 4, 2) := dk_54 4 (dk_at dksX0_type_3 0 rfl rfl)
theorem dX0_type_71 : decode cX0_type 71 = .ok (.iload 4, 2) := dk_21 4 (dk_at dksX0_type_3 2 rfl rfl)
theorem dX0_type_73 : decode cX0_type 73 = .ok (.ifCond .lt 37, 3) := dk_155 0 37 (dk_at dksX0_type_3 4 rfl rfl)
theorem dX0_type_76 : decode cX0_type 76 = .ok (.aload_n 0, 1) := dk_42 (dk_at dksX0_type_3 7 rfl rfl)
theorem dX0_type_77 : decode cX0_type 77 = .ok (.getfield 50, 3) := dk_180 0 50 (dk_at dksX0_type_3 8 rfl rfl)
theorem dX0_type_80 : decode cX0_type 80 = .ok (.aload_n 0, 1) := dk_42 (dk_at dksX0_type_3 11 rfl rfl)
theorem dX0_type_81 : decode cX0_type 81 = .ok (.getfield 328, 3) := dk_180 1 72 (dk_at dksX0_type_3 12 rfl rfl)
theorem dX0_type_84 : decode cX0_type 84 = .ok (.lload_n 1, 1) := dk_31 (dk_at dksX0_type_3 15 rfl rfl)
theorem dX0_type_85 : decode cX0_type 85 = .ok (.bipush 8, 2) := dk_16 8 (dk_at dksX0_type_3 16 rfl rfl)
theorem dX0_type_87 : decode cX0_type 87 = .ok (.iload 4, 2) := dk_21 4 (dk_at dksX0_type_3 18 rfl rfl)
theorem dX0_type_89 : decode cX0_type 89 = .ok (.imul, 1) := dk_104 (dk_at dksX0_type_3 20 rfl rfl)
theorem dX0_type_90 : decode cX0_type 90 = .ok (.lshr, 1) := dk_123 (dk_at dksX0_type_3 21 rfl rfl)
theorem dX0_type_91 : decode cX0_type 91 = .ok (.l2i, 1) := dk_136 (dk_at dksX0_type_3 22 rfl rfl)
theorem dX0_type_92 : decode cX0_type 92 = .ok (.i2b, 1) := dk_145 (dk_at dksX0_type_3 23 rfl rfl)
theorem dX0_type_93 : decode cX0_type 93 = .ok (.bastore, 1) := dk_84 (dk_at dksX0_type_4 0 rfl rfl)
theorem dX0_type_94 : decode cX0_type 94 = .ok (.aload_n 0, 1) := dk_42 (dk_at dksX0_type_4 1 rfl rfl)
theorem dX0_type_95 : decode cX0_type 95 = .ok (.dup, 1) := dk_89 (dk_at dksX0_type_4 2 rfl rfl)
theorem dX0_type_96 : decode cX0_type 96 = .ok (.getfield 328, 3) := dk_180 1 72 (dk_at dksX0_type_4 3 rfl rfl)
theorem dX0_type_99 : decode cX0_type 99 = .ok (.iconst 1, 1) := dk_4 (dk_at dksX0_type_4 6 rfl rfl)
theorem dX0_type_100 : decode cX0_type 100 = .ok (.iadd, 1) := dk_96 (dk_at dksX0_type_4 7 rfl rfl)
theorem dX0_type_101 : decode cX0_type 101 = .ok (.putfield 328, 3) := dk_181 1 72 (dk_at dksX0_type_4 8 rfl rfl)
theorem dX0_type_104 : decode cX0_type 104 = .ok (.iinc 4 (-1), 3) := dk_132 4 255 (dk_at dksX0_type_4 11 rfl rfl)
theorem dX0_type_107 : decode cX0_type 107 = .ok (.goto (-36), 3) := dk_167 255 220 (dk_at dksX0_type_4 14 rfl rfl)
theorem dX0_type_110 : decode cX0_type 110 = .ok (.aload_n 0, 1) := dk_42 (dk_at dksX0_type_4 17 rfl rfl)
theorem dX0_type_111 : decode cX0_type 111 = .ok (.getfield 328, 3) := dk_180 1 72 (dk_at dksX0_type_4 18 rfl rfl)
theorem dX0_type_114 : decode cX0_type 114 = .ok (.ireturn, 1) := dk_172 (dk_at dksX0_type_4 21 rfl rfl)
abbrev cX0_law : ByteArray := prog_1_method_58_code
def yX0_law : MethodName := ⟨RX0, "law", "()I"⟩
def dkwX0_law_2 : List UInt8 := [43, 185, 0, 101, 2, 0, 87, 42, 180, 0, 40, 185, 0, 91, 1, 0, 4, 100, 172]
abbrev dktX0_law_2 : List UInt8 := dkwX0_law_2 ++ []
def dkwX0_law_1 : List UInt8 := [181, 1, 72, 42, 180, 0, 40, 185, 0, 91, 1, 0, 16, 16, 160, 0, 6, 16, 253, 172, 42, 180, 0, 40]
abbrev dktX0_law_1 : List UInt8 := dkwX0_law_1 ++ dktX0_law_2
def dkwX0_law_0 : List UInt8 := [42, 182, 1, 140, 76, 167, 0, 17, 77, 42, 3, 181, 1, 72, 16, 236, 44, 180, 1, 78, 100, 172, 42, 3]
abbrev dktX0_law_0 : List UInt8 := dkwX0_law_0 ++ dktX0_law_1
theorem dksX0_law_0 : cX0_law.data.toList.drop 0 = dktX0_law_0 := by decide +kernel
theorem dksX0_law_1 : cX0_law.data.toList.drop 24 = dktX0_law_1 := dk_seg dksX0_law_0 24 rfl rfl
theorem dksX0_law_2 : cX0_law.data.toList.drop 48 = dktX0_law_2 := dk_seg dksX0_law_1 24 rfl rfl
theorem dX0_law_0 : decode cX0_law 0 = .ok (.aload_n 0, 1) := dk_42 (dk_at dksX0_law_0 0 rfl rfl)
theorem dX0_law_1 : decode cX0_law 1 = .ok (.invokevirtual 396, 3) := dk_182 1 140 (dk_at dksX0_law_0 1 rfl rfl)
theorem dX0_law_4 : decode cX0_law 4 = .ok (.astore_n 1, 1) := dk_76 (dk_at dksX0_law_0 4 rfl rfl)
theorem dX0_law_5 : decode cX0_law 5 = .ok (.goto 17, 3) := dk_167 0 17 (dk_at dksX0_law_0 5 rfl rfl)
theorem dX0_law_8 : decode cX0_law 8 = .ok (.astore_n 2, 1) := dk_77 (dk_at dksX0_law_0 8 rfl rfl)
theorem dX0_law_9 : decode cX0_law 9 = .ok (.aload_n 0, 1) := dk_42 (dk_at dksX0_law_0 9 rfl rfl)
theorem dX0_law_10 : decode cX0_law 10 = .ok (.iconst 0, 1) := dk_3 (dk_at dksX0_law_0 10 rfl rfl)
theorem dX0_law_11 : decode cX0_law 11 = .ok (.putfield 328, 3) := dk_181 1 72 (dk_at dksX0_law_0 11 rfl rfl)
theorem dX0_law_14 : decode cX0_law 14 = .ok (.bipush (-20), 2) := dk_16 236 (dk_at dksX0_law_0 14 rfl rfl)
theorem dX0_law_16 : decode cX0_law 16 = .ok (.aload_n 2, 1) := dk_44 (dk_at dksX0_law_0 16 rfl rfl)
theorem dX0_law_17 : decode cX0_law 17 = .ok (.getfield 334, 3) := dk_180 1 78 (dk_at dksX0_law_0 17 rfl rfl)
theorem dX0_law_20 : decode cX0_law 20 = .ok (.isub, 1) := dk_100 (dk_at dksX0_law_0 20 rfl rfl)
theorem dX0_law_21 : decode cX0_law 21 = .ok (.ireturn, 1) := dk_172 (dk_at dksX0_law_0 21 rfl rfl)
theorem dX0_law_22 : decode cX0_law 22 = .ok (.aload_n 0, 1) := dk_42 (dk_at dksX0_law_0 22 rfl rfl)
theorem dX0_law_23 : decode cX0_law 23 = .ok (.iconst 0, 1) := dk_3 (dk_at dksX0_law_0 23 rfl rfl)
theorem dX0_law_24 : decode cX0_law 24 = .ok (.putfield 328, 3) := dk_181 1 72 (dk_at dksX0_law_1 0 rfl rfl)
theorem dX0_law_27 : decode cX0_law 27 = .ok (.aload_n 0, 1) := dk_42 (dk_at dksX0_law_1 3 rfl rfl)
theorem dX0_law_28 : decode cX0_law 28 = .ok (.getfield 40, 3) := dk_180 0 40 (dk_at dksX0_law_1 4 rfl rfl)
theorem dX0_law_31 : decode cX0_law 31 = .ok (.invokeinterface 91 1, 5) := by decide +kernel
theorem dX0_law_36 : decode cX0_law 36 = .ok (.bipush 16, 2) := dk_16 16 (dk_at dksX0_law_1 12 rfl rfl)
theorem dX0_law_38 : decode cX0_law 38 = .ok (.if_icmp .ne 6, 3) := dk_160 0 6 (dk_at dksX0_law_1 14 rfl rfl)
theorem dX0_law_41 : decode cX0_law 41 = .ok (.bipush (-3), 2) := dk_16 253 (dk_at dksX0_law_1 17 rfl rfl)
theorem dX0_law_43 : decode cX0_law 43 = .ok (.ireturn, 1) := dk_172 (dk_at dksX0_law_1 19 rfl rfl)
theorem dX0_law_44 : decode cX0_law 44 = .ok (.aload_n 0, 1) := dk_42 (dk_at dksX0_law_1 20 rfl rfl)
theorem dX0_law_45 : decode cX0_law 45 = .ok (.getfield 40, 3) := dk_180 0 40 (dk_at dksX0_law_1 21 rfl rfl)
theorem dX0_law_48 : decode cX0_law 48 = .ok (.aload_n 1, 1) := dk_43 (dk_at dksX0_law_2 0 rfl rfl)
theorem dX0_law_49 : decode cX0_law 49 = .ok (.invokeinterface 101 2, 5) := by decide +kernel
theorem dX0_law_54 : decode cX0_law 54 = .ok (.pop, 1) := dk_87 (dk_at dksX0_law_2 6 rfl rfl)
theorem dX0_law_55 : decode cX0_law 55 = .ok (.aload_n 0, 1) := dk_42 (dk_at dksX0_law_2 7 rfl rfl)
theorem dX0_law_56 : decode cX0_law 56 = .ok (.getfield 40, 3) := dk_180 0 40 (dk_at dksX0_law_2 8 rfl rfl)
theorem dX0_law_59 : decode cX0_law 59 = .ok (.invokeinterface 91 1, 5) := by decide +kernel
theorem dX0_law_64 : decode cX0_law 64 = .ok (.iconst 1, 1) := dk_4 (dk_at dksX0_law_2 16 rfl rfl)
theorem dX0_law_65 : decode cX0_law 65 = .ok (.isub, 1) := dk_100 (dk_at dksX0_law_2 17 rfl rfl)
theorem dX0_law_66 : decode cX0_law 66 = .ok (.ireturn, 1) := dk_172 (dk_at dksX0_law_2 18 rfl rfl)
abbrev cX0_readLaw : ByteArray := prog_1_method_57_code
def yX0_readLaw : MethodName := ⟨RX0, "readLaw", "()LRoadHouses$Law;"⟩
def dkwX0_readLaw_7 : List UInt8 := [42, 182, 1, 80, 155, 0, 12, 42, 42, 180, 1, 75, 182, 1, 83, 191, 43, 176]
abbrev dktX0_readLaw_7 : List UInt8 := dkwX0_readLaw_7 ++ []
def dkwX0_readLaw_6 : List UInt8 := [167, 0, 7, 43, 180, 1, 133, 181, 1, 133, 42, 16, 58, 182, 1, 101, 43, 42, 182, 1, 97, 181, 1, 136]
abbrev dktX0_readLaw_6 : List UInt8 := dkwX0_readLaw_6 ++ dktX0_readLaw_7
def dkwX0_readLaw_5 : List UInt8 := [42, 89, 180, 1, 75, 4, 96, 181, 1, 75, 167, 255, 198, 43, 43, 180, 1, 133, 154, 0, 8, 16, 15]
abbrev dktX0_readLaw_5 : List UInt8 := dkwX0_readLaw_5 ++ dktX0_readLaw_6
def dkwX0_readLaw_4 : List UInt8 := [180, 1, 75, 51, 16, 48, 100, 120, 128, 181, 1, 133, 42, 180, 0, 50, 42, 180, 1, 75, 51, 4, 96, 61]
abbrev dktX0_readLaw_4 : List UInt8 := dkwX0_readLaw_4 ++ dktX0_readLaw_5
def dkwX0_readLaw_3 : List UInt8 := [182, 1, 80, 28, 16, 51, 184, 0, 97, 153, 0, 51, 43, 89, 180, 1, 133, 4, 42, 180, 0, 50, 42]
abbrev dktX0_readLaw_3 : List UInt8 := dkwX0_readLaw_3 ++ dktX0_readLaw_4
def dkwX0_readLaw_2 : List UInt8 := [42, 180, 1, 75, 182, 1, 83, 191, 42, 89, 180, 1, 75, 4, 96, 181, 1, 75, 16, 48, 61, 42]
abbrev dktX0_readLaw_2 : List UInt8 := dkwX0_readLaw_2 ++ dktX0_readLaw_3
def dkwX0_readLaw_1 : List UInt8 := [181, 1, 129, 43, 180, 1, 129, 155, 0, 16, 19, 1, 131, 43, 180, 1, 129, 182, 1, 89, 156, 0, 12, 42]
abbrev dktX0_readLaw_1 : List UInt8 := dkwX0_readLaw_1 ++ dktX0_readLaw_2
def dkwX0_readLaw_0 : List UInt8 := [42, 3, 181, 1, 75, 42, 3, 181, 1, 94, 187, 1, 126, 89, 183, 1, 128, 76, 43, 42, 182, 1, 80]
abbrev dktX0_readLaw_0 : List UInt8 := dkwX0_readLaw_0 ++ dktX0_readLaw_1
theorem dksX0_readLaw_0 : cX0_readLaw.data.toList.drop 0 = dktX0_readLaw_0 := by decide +kernel
theorem dksX0_readLaw_1 : cX0_readLaw.data.toList.drop 23 = dktX0_readLaw_1 := dk_seg dksX0_readLaw_0 23 rfl rfl
theorem dksX0_readLaw_2 : cX0_readLaw.data.toList.drop 47 = dktX0_readLaw_2 := dk_seg dksX0_readLaw_1 24 rfl rfl
theorem dksX0_readLaw_3 : cX0_readLaw.data.toList.drop 69 = dktX0_readLaw_3 := dk_seg dksX0_readLaw_2 22 rfl rfl
theorem dksX0_readLaw_4 : cX0_readLaw.data.toList.drop 92 = dktX0_readLaw_4 := dk_seg dksX0_readLaw_3 23 rfl rfl
theorem dksX0_readLaw_5 : cX0_readLaw.data.toList.drop 116 = dktX0_readLaw_5 := dk_seg dksX0_readLaw_4 24 rfl rfl
theorem dksX0_readLaw_6 : cX0_readLaw.data.toList.drop 139 = dktX0_readLaw_6 := dk_seg dksX0_readLaw_5 23 rfl rfl
theorem dksX0_readLaw_7 : cX0_readLaw.data.toList.drop 163 = dktX0_readLaw_7 := dk_seg dksX0_readLaw_6 24 rfl rfl
theorem dX0_readLaw_0 : decode cX0_readLaw 0 = .ok (.aload_n 0, 1) := dk_42 (dk_at dksX0_readLaw_0 0 rfl rfl)
theorem dX0_readLaw_1 : decode cX0_readLaw 1 = .ok (.iconst 0, 1) := dk_3 (dk_at dksX0_readLaw_0 1 rfl rfl)
theorem dX0_readLaw_2 : decode cX0_readLaw 2 = .ok (.putfield 331, 3) := dk_181 1 75 (dk_at dksX0_readLaw_0 2 rfl rfl)
theorem dX0_readLaw_5 : decode cX0_readLaw 5 = .ok (.aload_n 0, 1) := dk_42 (dk_at dksX0_readLaw_0 5 rfl rfl)
theorem dX0_readLaw_6 : decode cX0_readLaw 6 = .ok (.iconst 0, 1) := dk_3 (dk_at dksX0_readLaw_0 6 rfl rfl)
theorem dX0_readLaw_7 : decode cX0_readLaw 7 = .ok (.putfield 350, 3) := dk_181 1 94 (dk_at dksX0_readLaw_0 7 rfl rfl)
theorem dX0_readLaw_10 : decode cX0_readLaw 10 = .ok (.new 382, 3) := dk_187 1 126 (dk_at dksX0_readLaw_0 10 rfl rfl)
theorem dX0_readLaw_13 : decode cX0_readLaw 13 = .ok (.dup, 1) := dk_89 (dk_at dksX0_readLaw_0 13 rfl rfl)
theorem dX0_readLaw_14 : decode cX0_readLaw 14 = .ok (.invokespecial 384, 3) := dk_183 1 128 (dk_at dksX0_readLaw_0 14 rfl rfl)
theorem dX0_readLaw_17 : decode cX0_readLaw 17 = .ok (.astore_n 1, 1) := dk_76 (dk_at dksX0_readLaw_0 17 rfl rfl)
theorem dX0_readLaw_18 : decode cX0_readLaw 18 = .ok (.aload_n 1, 1) := dk_43 (dk_at dksX0_readLaw_0 18 rfl rfl)
theorem dX0_readLaw_19 : decode cX0_readLaw 19 = .ok (.aload_n 0, 1) := dk_42 (dk_at dksX0_readLaw_0 19 rfl rfl)
theorem dX0_readLaw_20 : decode cX0_readLaw 20 = .ok (.invokevirtual 336, 3) := dk_182 1 80 (dk_at dksX0_readLaw_0 20 rfl rfl)
theorem dX0_readLaw_23 : decode cX0_readLaw 23 = .ok (.putfield 385, 3) := dk_181 1 129 (dk_at dksX0_readLaw_1 0 rfl rfl)
theorem dX0_readLaw_26 : decode cX0_readLaw 26 = .ok (.aload_n 1, 1) := dk_43 (dk_at dksX0_readLaw_1 3 rfl rfl)
theorem dX0_readLaw_27 : decode cX0_readLaw 27 = .ok (.getfield 385, 3) := dk_180 1 129 (dk_at dksX0_readLaw_1 4 rfl rfl)
theorem dX0_readLaw_30 : decode cX0_readLaw 30 = .ok (.ifCond .lt 16, 3) := dk_155 0 16 (dk_at dksX0_readLaw_1 7 rfl rfl)
theorem dX0_readLaw_33 : decode cX0_readLaw 33 = .ok (.ldc_w 387, 3) := dk_19 1 131 (dk_at dksX0_readLaw_1 10 rfl rfl)
theorem dX0_readLaw_36 : decode cX0_readLaw 36 = .ok (.aload_n 1, 1) := dk_43 (dk_at dksX0_readLaw_1 13 rfl rfl)
theorem dX0_readLaw_37 : decode cX0_readLaw 37 = .ok (.getfield 385, 3) := dk_180 1 129 (dk_at dksX0_readLaw_1 14 rfl rfl)
theorem dX0_readLaw_40 : decode cX0_readLaw 40 = .ok (.invokevirtual 345, 3) := dk_182 1 89 (dk_at dksX0_readLaw_1 17 rfl rfl)
theorem dX0_readLaw_43 : decode cX0_readLaw 43 = .ok (.ifCond .ge 12, 3) := dk_156 0 12 (dk_at dksX0_readLaw_1 20 rfl rfl)
theorem dX0_readLaw_46 : decode cX0_readLaw 46 = .ok (.aload_n 0, 1) := dk_42 (dk_at dksX0_readLaw_1 23 rfl rfl)
theorem dX0_readLaw_47 : decode cX0_readLaw 47 = .ok (.aload_n 0, 1) := dk_42 (dk_at dksX0_readLaw_2 0 rfl rfl)
theorem dX0_readLaw_48 : decode cX0_readLaw 48 = .ok (.getfield 331, 3) := dk_180 1 75 (dk_at dksX0_readLaw_2 1 rfl rfl)
theorem dX0_readLaw_51 : decode cX0_readLaw 51 = .ok (.invokevirtual 339, 3) := dk_182 1 83 (dk_at dksX0_readLaw_2 4 rfl rfl)
theorem dX0_readLaw_54 : decode cX0_readLaw 54 = .ok (.athrow, 1) := dk_191 (dk_at dksX0_readLaw_2 7 rfl rfl)
theorem dX0_readLaw_55 : decode cX0_readLaw 55 = .ok (.aload_n 0, 1) := dk_42 (dk_at dksX0_readLaw_2 8 rfl rfl)
theorem dX0_readLaw_56 : decode cX0_readLaw 56 = .ok (.dup, 1) := dk_89 (dk_at dksX0_readLaw_2 9 rfl rfl)
theorem dX0_readLaw_57 : decode cX0_readLaw 57 = .ok (.getfield 331, 3) := dk_180 1 75 (dk_at dksX0_readLaw_2 10 rfl rfl)
theorem dX0_readLaw_60 : decode cX0_readLaw 60 = .ok (.iconst 1, 1) := dk_4 (dk_at dksX0_readLaw_2 13 rfl rfl)
theorem dX0_readLaw_61 : decode cX0_readLaw 61 = .ok (.iadd, 1) := dk_96 (dk_at dksX0_readLaw_2 14 rfl rfl)
theorem dX0_readLaw_62 : decode cX0_readLaw 62 = .ok (.putfield 331, 3) := dk_181 1 75 (dk_at dksX0_readLaw_2 15 rfl rfl)
theorem dX0_readLaw_65 : decode cX0_readLaw 65 = .ok (.bipush 48, 2) := dk_16 48 (dk_at dksX0_readLaw_2 18 rfl rfl)
theorem dX0_readLaw_67 : decode cX0_readLaw 67 = .ok (.istore_n 2, 1) := dk_61 (dk_at dksX0_readLaw_2 20 rfl rfl)
theorem dX0_readLaw_68 : decode cX0_readLaw 68 = .ok (.aload_n 0, 1) := dk_42 (dk_at dksX0_readLaw_2 21 rfl rfl)
theorem dX0_readLaw_69 : decode cX0_readLaw 69 = .ok (.invokevirtual 336, 3) := dk_182 1 80 (dk_at dksX0_readLaw_3 0 rfl rfl)
theorem dX0_readLaw_72 : decode cX0_readLaw 72 = .ok (.iload_n 2, 1) := dk_28 (dk_at dksX0_readLaw_3 3 rfl rfl)
theorem dX0_readLaw_73 : decode cX0_readLaw 73 = .ok (.bipush 51, 2) := dk_16 51 (dk_at dksX0_readLaw_3 4 rfl rfl)
theorem dX0_readLaw_75 : decode cX0_readLaw 75 = .ok (.invokestatic 97, 3) := dk_184 0 97 (dk_at dksX0_readLaw_3 6 rfl rfl)
theorem dX0_readLaw_78 : decode cX0_readLaw 78 = .ok (.ifCond .eq 51, 3) := dk_153 0 51 (dk_at dksX0_readLaw_3 9 rfl rfl)
theorem dX0_readLaw_81 : decode cX0_readLaw 81 = .ok (.aload_n 1, 1) := dk_43 (dk_at dksX0_readLaw_3 12 rfl rfl)
theorem dX0_readLaw_82 : decode cX0_readLaw 82 = .ok (.dup, 1) := dk_89 (dk_at dksX0_readLaw_3 13 rfl rfl)
theorem dX0_readLaw_83 : decode cX0_readLaw 83 = .ok (.getfield 389, 3) := dk_180 1 133 (dk_at dksX0_readLaw_3 14 rfl rfl)
theorem dX0_readLaw_86 : decode cX0_readLaw 86 = .ok (.iconst 1, 1) := dk_4 (dk_at dksX0_readLaw_3 17 rfl rfl)
theorem dX0_readLaw_87 : decode cX0_readLaw 87 = .ok (.aload_n 0, 1) := dk_42 (dk_at dksX0_readLaw_3 18 rfl rfl)
theorem dX0_readLaw_88 : decode cX0_readLaw 88 = .ok (.getfield 50, 3) := dk_180 0 50 (dk_at dksX0_readLaw_3 19 rfl rfl)
theorem dX0_readLaw_91 : decode cX0_readLaw 91 = .ok (.aload_n 0, 1) := dk_42 (dk_at dksX0_readLaw_3 22 rfl rfl)
theorem dX0_readLaw_92 : decode cX0_readLaw 92 = .ok (.getfield 331, 3) := dk_180 1 75 (dk_at dksX0_readLaw_4 0 rfl rfl)
theorem dX0_readLaw_95 : decode cX0_readLaw 95 = .ok (.baload, 1) := dk_51 (dk_at dksX0_readLaw_4 3 rfl rfl)
theorem dX0_readLaw_96 : decode cX0_readLaw 96 = .ok (.bipush 48, 2) := dk_16 48 (dk_at dksX0_readLaw_4 4 rfl rfl)
theorem dX0_readLaw_98 : decode cX0_readLaw 98 = .ok (.isub, 1) := dk_100 (dk_at dksX0_readLaw_4 6 rfl rfl)
theorem dX0_readLaw_99 : decode cX0_readLaw 99 = .ok (.ishl, 1) := dk_120 (dk_at dksX0_readLaw_4 7 rfl rfl)
theorem dX0_readLaw_100 : decode cX0_readLaw 100 = .ok (.ior, 1) := dk_128 (dk_at dksX0_readLaw_4 8 rfl rfl)
theorem dX0_readLaw_101 : decode cX0_readLaw 101 = .ok (.putfield 389, 3) := dk_181 1 133 (dk_at dksX0_readLaw_4 9 rfl rfl)
theorem dX0_readLaw_104 : decode cX0_readLaw 104 = .ok (.aload_n 0, 1) := dk_42 (dk_at dksX0_readLaw_4 12 rfl rfl)
theorem dX0_readLaw_105 : decode cX0_readLaw 105 = .ok (.getfield 50, 3) := dk_180 0 50 (dk_at dksX0_readLaw_4 13 rfl rfl)
theorem dX0_readLaw_108 : decode cX0_readLaw 108 = .ok (.aload_n 0, 1) := dk_42 (dk_at dksX0_readLaw_4 16 rfl rfl)
theorem dX0_readLaw_109 : decode cX0_readLaw 109 = .ok (.getfield 331, 3) := dk_180 1 75 (dk_at dksX0_readLaw_4 17 rfl rfl)
theorem dX0_readLaw_112 : decode cX0_readLaw 112 = .ok (.baload, 1) := dk_51 (dk_at dksX0_readLaw_4 20 rfl rfl)
theorem dX0_readLaw_113 : decode cX0_readLaw 113 = .ok (.iconst 1, 1) := dk_4 (dk_at dksX0_readLaw_4 21 rfl rfl)
theorem dX0_readLaw_114 : decode cX0_readLaw 114 = .ok (.iadd, 1) := dk_96 (dk_at dksX0_readLaw_4 22 rfl rfl)
theorem dX0_readLaw_115 : decode cX0_readLaw 115 = .ok (.istore_n 2, 1) := dk_61 (dk_at dksX0_readLaw_4 23 rfl rfl)
theorem dX0_readLaw_116 : decode cX0_readLaw 116 = .ok (.aload_n 0, 1) := dk_42 (dk_at dksX0_readLaw_5 0 rfl rfl)
theorem dX0_readLaw_117 : decode cX0_readLaw 117 = .ok (.dup, 1) := dk_89 (dk_at dksX0_readLaw_5 1 rfl rfl)
theorem dX0_readLaw_118 : decode cX0_readLaw 118 = .ok (.getfield 331, 3) := dk_180 1 75 (dk_at dksX0_readLaw_5 2 rfl rfl)
theorem dX0_readLaw_121 : decode cX0_readLaw 121 = .ok (.iconst 1, 1) := dk_4 (dk_at dksX0_readLaw_5 5 rfl rfl)
theorem dX0_readLaw_122 : decode cX0_readLaw 122 = .ok (.iadd, 1) := dk_96 (dk_at dksX0_readLaw_5 6 rfl rfl)
theorem dX0_readLaw_123 : decode cX0_readLaw 123 = .ok (.putfield 331, 3) := dk_181 1 75 (dk_at dksX0_readLaw_5 7 rfl rfl)
theorem dX0_readLaw_126 : decode cX0_readLaw 126 = .ok (.goto (-58), 3) := dk_167 255 198 (dk_at dksX0_readLaw_5 10 rfl rfl)
theorem dX0_readLaw_129 : decode cX0_readLaw 129 = .ok (.aload_n 1, 1) := dk_43 (dk_at dksX0_readLaw_5 13 rfl rfl)
theorem dX0_readLaw_130 : decode cX0_readLaw 130 = .ok (.aload_n 1, 1) := dk_43 (dk_at dksX0_readLaw_5 14 rfl rfl)
theorem dX0_readLaw_131 : decode cX0_readLaw 131 = .ok (.getfield 389, 3) := dk_180 1 133 (dk_at dksX0_readLaw_5 15 rfl rfl)
theorem dX0_readLaw_134 : decode cX0_readLaw 134 = .ok (.ifCond .ne 8, 3) := dk_154 0 8 (dk_at dksX0_readLaw_5 18 rfl rfl)
theorem dX0_readLaw_137 : decode cX0_readLaw 137 = .ok (.bipush 15, 2) := dk_16 15 (dk_at dksX0_readLaw_5 21 rfl rfl)
theorem dX0_readLaw_139 : decode cX0_readLaw 139 = .ok (.goto 7, 3) := dk_167 0 7 (dk_at dksX0_readLaw_6 0 rfl rfl)
theorem dX0_readLaw_142 : decode cX0_readLaw 142 = .ok (.aload_n 1, 1) := dk_43 (dk_at dksX0_readLaw_6 3 rfl rfl)
theorem dX0_readLaw_143 : decode cX0_readLaw 143 = .ok (.getfield 389, 3) := dk_180 1 133 (dk_at dksX0_readLaw_6 4 rfl rfl)
theorem dX0_readLaw_146 : decode cX0_readLaw 146 = .ok (.putfield 389, 3) := dk_181 1 133 (dk_at dksX0_readLaw_6 7 rfl rfl)
theorem dX0_readLaw_149 : decode cX0_readLaw 149 = .ok (.aload_n 0, 1) := dk_42 (dk_at dksX0_readLaw_6 10 rfl rfl)
theorem dX0_readLaw_150 : decode cX0_readLaw 150 = .ok (.bipush 58, 2) := dk_16 58 (dk_at dksX0_readLaw_6 11 rfl rfl)
theorem dX0_readLaw_152 : decode cX0_readLaw 152 = .ok (.invokevirtual 357, 3) := dk_182 1 101 (dk_at dksX0_readLaw_6 13 rfl rfl)
theorem dX0_readLaw_155 : decode cX0_readLaw 155 = .ok (.aload_n 1, 1) := dk_43 (dk_at dksX0_readLaw_6 16 rfl rfl)
theorem dX0_readLaw_156 : decode cX0_readLaw 156 = .ok (.aload_n 0, 1) := dk_42 (dk_at dksX0_readLaw_6 17 rfl rfl)
theorem dX0_readLaw_157 : decode cX0_readLaw 157 = .ok (.invokevirtual 353, 3) := dk_182 1 97 (dk_at dksX0_readLaw_6 18 rfl rfl)
theorem dX0_readLaw_160 : decode cX0_readLaw 160 = .ok (.putfield 392, 3) := dk_181 1 136 (dk_at dksX0_readLaw_6 21 rfl rfl)
theorem dX0_readLaw_163 : decode cX0_readLaw 163 = .ok (.aload_n 0, 1) := dk_42 (dk_at dksX0_readLaw_7 0 rfl rfl)
theorem dX0_readLaw_164 : decode cX0_readLaw 164 = .ok (.invokevirtual 336, 3) := dk_182 1 80 (dk_at dksX0_readLaw_7 1 rfl rfl)
theorem dX0_readLaw_167 : decode cX0_readLaw 167 = .ok (.ifCond .lt 12, 3) := dk_155 0 12 (dk_at dksX0_readLaw_7 4 rfl rfl)
theorem dX0_readLaw_170 : decode cX0_readLaw 170 = .ok (.aload_n 0, 1) := dk_42 (dk_at dksX0_readLaw_7 7 rfl rfl)
theorem dX0_readLaw_171 : decode cX0_readLaw 171 = .ok (.aload_n 0, 1) := dk_42 (dk_at dksX0_readLaw_7 8 rfl rfl)
theorem dX0_readLaw_172 : decode cX0_readLaw 172 = .ok (.getfield 331, 3) := dk_180 1 75 (dk_at dksX0_readLaw_7 9 rfl rfl)
theorem dX0_readLaw_175 : decode cX0_readLaw 175 = .ok (.invokevirtual 339, 3) := dk_182 1 83 (dk_at dksX0_readLaw_7 12 rfl rfl)
theorem dX0_readLaw_178 : decode cX0_readLaw 178 = .ok (.athrow, 1) := dk_191 (dk_at dksX0_readLaw_7 15 rfl rfl)
theorem dX0_readLaw_179 : decode cX0_readLaw 179 = .ok (.aload_n 1, 1) := dk_43 (dk_at dksX0_readLaw_7 16 rfl rfl)
theorem dX0_readLaw_180 : decode cX0_readLaw 180 = .ok (.areturn, 1) := dk_176 (dk_at dksX0_readLaw_7 17 rfl rfl)
abbrev cX0_next : ByteArray := prog_1_method_50_code
def yX0_next : MethodName := ⟨RX0, "next", "()I"⟩
def dkwX0_next_2 : List UInt8 := [162, 0, 15, 42, 180, 0, 50, 42, 180, 1, 75, 51, 167, 0, 4, 2, 172]
abbrev dktX0_next_2 : List UInt8 := dkwX0_next_2 ++ []
def dkwX0_next_1 : List UInt8 := [160, 0, 16, 42, 89, 180, 1, 75, 4, 96, 181, 1, 75, 167, 255, 221, 42, 180, 1, 75, 42, 180, 1, 72]
abbrev dktX0_next_1 : List UInt8 := dkwX0_next_1 ++ dktX0_next_2
def dkwX0_next_0 : List UInt8 := [42, 180, 1, 75, 42, 180, 1, 72, 162, 0, 30, 42, 180, 0, 50, 42, 180, 1, 75, 51, 16, 32]
abbrev dktX0_next_0 : List UInt8 := dkwX0_next_0 ++ dktX0_next_1
theorem dksX0_next_0 : cX0_next.data.toList.drop 0 = dktX0_next_0 := by decide +kernel
theorem dksX0_next_1 : cX0_next.data.toList.drop 22 = dktX0_next_1 := dk_seg dksX0_next_0 22 rfl rfl
theorem dksX0_next_2 : cX0_next.data.toList.drop 46 = dktX0_next_2 := dk_seg dksX0_next_1 24 rfl rfl
theorem dX0_next_0 : decode cX0_next 0 = .ok (.aload_n 0, 1) := dk_42 (dk_at dksX0_next_0 0 rfl rfl)
theorem dX0_next_1 : decode cX0_next 1 = .ok (.getfield 331, 3) := dk_180 1 75 (dk_at dksX0_next_0 1 rfl rfl)
theorem dX0_next_4 : decode cX0_next 4 = .ok (.aload_n 0, 1) := dk_42 (dk_at dksX0_next_0 4 rfl rfl)
theorem dX0_next_5 : decode cX0_next 5 = .ok (.getfield 328, 3) := dk_180 1 72 (dk_at dksX0_next_0 5 rfl rfl)
theorem dX0_next_8 : decode cX0_next 8 = .ok (.if_icmp .ge 30, 3) := dk_162 0 30 (dk_at dksX0_next_0 8 rfl rfl)
theorem dX0_next_11 : decode cX0_next 11 = .ok (.aload_n 0, 1) := dk_42 (dk_at dksX0_next_0 11 rfl rfl)
theorem dX0_next_12 : decode cX0_next 12 = .ok (.getfield 50, 3) := dk_180 0 50 (dk_at dksX0_next_0 12 rfl rfl)
theorem dX0_next_15 : decode cX0_next 15 = .ok (.aload_n 0, 1) := dk_42 (dk_at dksX0_next_0 15 rfl rfl)
theorem dX0_next_16 : decode cX0_next 16 = .ok (.getfield 331, 3) := dk_180 1 75 (dk_at dksX0_next_0 16 rfl rfl)
theorem dX0_next_19 : decode cX0_next 19 = .ok (.baload, 1) := dk_51 (dk_at dksX0_next_0 19 rfl rfl)
theorem dX0_next_20 : decode cX0_next 20 = .ok (.bipush 32, 2) := dk_16 32 (dk_at dksX0_next_0 20 rfl rfl)
theorem dX0_next_22 : decode cX0_next 22 = .ok (.if_icmp .ne 16, 3) := dk_160 0 16 (dk_at dksX0_next_1 0 rfl rfl)
theorem dX0_next_25 : decode cX0_next 25 = .ok (.aload_n 0, 1) := dk_42 (dk_at dksX0_next_1 3 rfl rfl)
theorem dX0_next_26 : decode cX0_next 26 = .ok (.dup, 1) := dk_89 (dk_at dksX0_next_1 4 rfl rfl)
theorem dX0_next_27 : decode cX0_next 27 = .ok (.getfield 331, 3) := dk_180 1 75 (dk_at dksX0_next_1 5 rfl rfl)
theorem dX0_next_30 : decode cX0_next 30 = .ok (.iconst 1, 1) := dk_4 (dk_at dksX0_next_1 8 rfl rfl)
theorem dX0_next_31 : decode cX0_next 31 = .ok (.iadd, 1) := dk_96 (dk_at dksX0_next_1 9 rfl rfl)
theorem dX0_next_32 : decode cX0_next 32 = .ok (.putfield 331, 3) := dk_181 1 75 (dk_at dksX0_next_1 10 rfl rfl)
theorem dX0_next_35 : decode cX0_next 35 = .ok (.goto (-35), 3) := dk_167 255 221 (dk_at dksX0_next_1 13 rfl rfl)
theorem dX0_next_38 : decode cX0_next 38 = .ok (.aload_n 0, 1) := dk_42 (dk_at dksX0_next_1 16 rfl rfl)
theorem dX0_next_39 : decode cX0_next 39 = .ok (.getfield 331, 3) := dk_180 1 75 (dk_at dksX0_next_1 17 rfl rfl)
theorem dX0_next_42 : decode cX0_next 42 = .ok (.aload_n 0, 1) := dk_42 (dk_at dksX0_next_1 20 rfl rfl)
theorem dX0_next_43 : decode cX0_next 43 = .ok (.getfield 328, 3) := dk_180 1 72 (dk_at dksX0_next_1 21 rfl rfl)
theorem dX0_next_46 : decode cX0_next 46 = .ok (.if_icmp .ge 15, 3) := dk_162 0 15 (dk_at dksX0_next_2 0 rfl rfl)
theorem dX0_next_49 : decode cX0_next 49 = .ok (.aload_n 0, 1) := dk_42 (dk_at dksX0_next_2 3 rfl rfl)
theorem dX0_next_50 : decode cX0_next 50 = .ok (.getfield 50, 3) := dk_180 0 50 (dk_at dksX0_next_2 4 rfl rfl)
theorem dX0_next_53 : decode cX0_next 53 = .ok (.aload_n 0, 1) := dk_42 (dk_at dksX0_next_2 7 rfl rfl)
theorem dX0_next_54 : decode cX0_next 54 = .ok (.getfield 331, 3) := dk_180 1 75 (dk_at dksX0_next_2 8 rfl rfl)
theorem dX0_next_57 : decode cX0_next 57 = .ok (.baload, 1) := dk_51 (dk_at dksX0_next_2 11 rfl rfl)
theorem dX0_next_58 : decode cX0_next 58 = .ok (.goto 4, 3) := dk_167 0 4 (dk_at dksX0_next_2 12 rfl rfl)
theorem dX0_next_61 : decode cX0_next 61 = .ok (.iconst (-1), 1) := dk_2 (dk_at dksX0_next_2 15 rfl rfl)
theorem dX0_next_62 : decode cX0_next 62 = .ok (.ireturn, 1) := dk_172 (dk_at dksX0_next_2 16 rfl rfl)
abbrev cX0_wrong : ByteArray := prog_1_method_51_code
def yX0_wrong : MethodName := ⟨RX0, "wrong", "(I)LRoadHouses$Fault;"⟩
def dkwX0_wrong_0 : List UInt8 := [42, 180, 0, 46, 27, 181, 1, 78, 42, 180, 0, 46, 176]
abbrev dktX0_wrong_0 : List UInt8 := dkwX0_wrong_0 ++ []
theorem dksX0_wrong_0 : cX0_wrong.data.toList.drop 0 = dktX0_wrong_0 := by decide +kernel
theorem dX0_wrong_0 : decode cX0_wrong 0 = .ok (.aload_n 0, 1) := dk_42 (dk_at dksX0_wrong_0 0 rfl rfl)
theorem dX0_wrong_1 : decode cX0_wrong 1 = .ok (.getfield 46, 3) := dk_180 0 46 (dk_at dksX0_wrong_0 1 rfl rfl)
theorem dX0_wrong_4 : decode cX0_wrong 4 = .ok (.iload_n 1, 1) := dk_27 (dk_at dksX0_wrong_0 4 rfl rfl)
theorem dX0_wrong_5 : decode cX0_wrong 5 = .ok (.putfield 334, 3) := dk_181 1 78 (dk_at dksX0_wrong_0 5 rfl rfl)
theorem dX0_wrong_8 : decode cX0_wrong 8 = .ok (.aload_n 0, 1) := dk_42 (dk_at dksX0_wrong_0 8 rfl rfl)
theorem dX0_wrong_9 : decode cX0_wrong 9 = .ok (.getfield 46, 3) := dk_180 0 46 (dk_at dksX0_wrong_0 9 rfl rfl)
theorem dX0_wrong_12 : decode cX0_wrong 12 = .ok (.areturn, 1) := dk_176 (dk_at dksX0_wrong_0 12 rfl rfl)
abbrev cX0_take : ByteArray := prog_1_method_52_code
def yX0_take : MethodName := ⟨RX0, "take", "(I)V"⟩
def dkwX0_take_1 : List UInt8 := [181, 1, 75, 177]
abbrev dktX0_take_1 : List UInt8 := dkwX0_take_1 ++ []
def dkwX0_take_0 : List UInt8 := [42, 182, 1, 80, 27, 159, 0, 12, 42, 42, 180, 1, 75, 182, 1, 83, 191, 42, 89, 180, 1, 75, 4, 96]
abbrev dktX0_take_0 : List UInt8 := dkwX0_take_0 ++ dktX0_take_1
theorem dksX0_take_0 : cX0_take.data.toList.drop 0 = dktX0_take_0 := by decide +kernel
theorem dksX0_take_1 : cX0_take.data.toList.drop 24 = dktX0_take_1 := dk_seg dksX0_take_0 24 rfl rfl
theorem dX0_take_0 : decode cX0_take 0 = .ok (.aload_n 0, 1) := dk_42 (dk_at dksX0_take_0 0 rfl rfl)
theorem dX0_take_1 : decode cX0_take 1 = .ok (.invokevirtual 336, 3) := dk_182 1 80 (dk_at dksX0_take_0 1 rfl rfl)
theorem dX0_take_4 : decode cX0_take 4 = .ok (.iload_n 1, 1) := dk_27 (dk_at dksX0_take_0 4 rfl rfl)
theorem dX0_take_5 : decode cX0_take 5 = .ok (.if_icmp .eq 12, 3) := dk_159 0 12 (dk_at dksX0_take_0 5 rfl rfl)
theorem dX0_take_8 : decode cX0_take 8 = .ok (.aload_n 0, 1) := dk_42 (dk_at dksX0_take_0 8 rfl rfl)
theorem dX0_take_9 : decode cX0_take 9 = .ok (.aload_n 0, 1) := dk_42 (dk_at dksX0_take_0 9 rfl rfl)
theorem dX0_take_10 : decode cX0_take 10 = .ok (.getfield 331, 3) := dk_180 1 75 (dk_at dksX0_take_0 10 rfl rfl)
theorem dX0_take_13 : decode cX0_take 13 = .ok (.invokevirtual 339, 3) := dk_182 1 83 (dk_at dksX0_take_0 13 rfl rfl)
theorem dX0_take_16 : decode cX0_take 16 = .ok (.athrow, 1) := dk_191 (dk_at dksX0_take_0 16 rfl rfl)
theorem dX0_take_17 : decode cX0_take 17 = .ok (.aload_n 0, 1) := dk_42 (dk_at dksX0_take_0 17 rfl rfl)
theorem dX0_take_18 : decode cX0_take 18 = .ok (.dup, 1) := dk_89 (dk_at dksX0_take_0 18 rfl rfl)
theorem dX0_take_19 : decode cX0_take 19 = .ok (.getfield 331, 3) := dk_180 1 75 (dk_at dksX0_take_0 19 rfl rfl)
theorem dX0_take_22 : decode cX0_take 22 = .ok (.iconst 1, 1) := dk_4 (dk_at dksX0_take_0 22 rfl rfl)
theorem dX0_take_23 : decode cX0_take 23 = .ok (.iadd, 1) := dk_96 (dk_at dksX0_take_0 23 rfl rfl)
theorem dX0_take_24 : decode cX0_take 24 = .ok (.putfield 331, 3) := dk_181 1 75 (dk_at dksX0_take_1 0 rfl rfl)
theorem dX0_take_27 : decode cX0_take 27 = .ok (.return_, 1) := dk_177 (dk_at dksX0_take_1 3 rfl rfl)
abbrev cX0_readTest : ByteArray := prog_1_method_56_code
def yX0_readTest : MethodName := ⟨RX0, "readTest", "()LRoadHouses$Test;"⟩
def dkwX0_readTest_1 : List UInt8 := [187, 1, 118, 89, 43, 3, 42, 182, 1, 123, 183, 1, 120, 76, 167, 255, 223, 43, 176]
abbrev dktX0_readTest_1 : List UInt8 := dkwX0_readTest_1 ++ []
def dkwX0_readTest_0 : List UInt8 := [42, 182, 1, 123, 76, 42, 182, 1, 80, 16, 124, 160, 0, 30, 42, 89, 180, 1, 75, 4, 96, 181, 1, 75]
abbrev dktX0_readTest_0 : List UInt8 := dkwX0_readTest_0 ++ dktX0_readTest_1
theorem dksX0_readTest_0 : cX0_readTest.data.toList.drop 0 = dktX0_readTest_0 := by decide +kernel
theorem dksX0_readTest_1 : cX0_readTest.data.toList.drop 24 = dktX0_readTest_1 := dk_seg dksX0_readTest_0 24 rfl rfl
theorem dX0_readTest_0 : decode cX0_readTest 0 = .ok (.aload_n 0, 1) := dk_42 (dk_at dksX0_readTest_0 0 rfl rfl)
theorem dX0_readTest_1 : decode cX0_readTest 1 = .ok (.invokevirtual 379, 3) := dk_182 1 123 (dk_at dksX0_readTest_0 1 rfl rfl)
theorem dX0_readTest_4 : decode cX0_readTest 4 = .ok (.astore_n 1, 1) := dk_76 (dk_at dksX0_readTest_0 4 rfl rfl)
theorem dX0_readTest_5 : decode cX0_readTest 5 = .ok (.aload_n 0, 1) := dk_42 (dk_at dksX0_readTest_0 5 rfl rfl)
theorem dX0_readTest_6 : decode cX0_readTest 6 = .ok (.invokevirtual 336, 3) := dk_182 1 80 (dk_at dksX0_readTest_0 6 rfl rfl)
theorem dX0_readTest_9 : decode cX0_readTest 9 = .ok (.bipush 124, 2) := dk_16 124 (dk_at dksX0_readTest_0 9 rfl rfl)
theorem dX0_readTest_11 : decode cX0_readTest 11 = .ok (.if_icmp .ne 30, 3) := dk_160 0 30 (dk_at dksX0_readTest_0 11 rfl rfl)
theorem dX0_readTest_14 : decode cX0_readTest 14 = .ok (.aload_n 0, 1) := dk_42 (dk_at dksX0_readTest_0 14 rfl rfl)
theorem dX0_readTest_15 : decode cX0_readTest 15 = .ok (.dup, 1) := dk_89 (dk_at dksX0_readTest_0 15 rfl rfl)
theorem dX0_readTest_16 : decode cX0_readTest 16 = .ok (.getfield 331, 3) := dk_180 1 75 (dk_at dksX0_readTest_0 16 rfl rfl)
theorem dX0_readTest_19 : decode cX0_readTest 19 = .ok (.iconst 1, 1) := dk_4 (dk_at dksX0_readTest_0 19 rfl rfl)
theorem dX0_readTest_20 : decode cX0_readTest 20 = .ok (.iadd, 1) := dk_96 (dk_at dksX0_readTest_0 20 rfl rfl)
theorem dX0_readTest_21 : decode cX0_readTest 21 = .ok (.putfield 331, 3) := dk_181 1 75 (dk_at dksX0_readTest_0 21 rfl rfl)
theorem dX0_readTest_24 : decode cX0_readTest 24 = .ok (.new 374, 3) := dk_187 1 118 (dk_at dksX0_readTest_1 0 rfl rfl)
theorem dX0_readTest_27 : decode cX0_readTest 27 = .ok (.dup, 1) := dk_89 (dk_at dksX0_readTest_1 3 rfl rfl)
theorem dX0_readTest_28 : decode cX0_readTest 28 = .ok (.aload_n 1, 1) := dk_43 (dk_at dksX0_readTest_1 4 rfl rfl)
theorem dX0_readTest_29 : decode cX0_readTest 29 = .ok (.iconst 0, 1) := dk_3 (dk_at dksX0_readTest_1 5 rfl rfl)
theorem dX0_readTest_30 : decode cX0_readTest 30 = .ok (.aload_n 0, 1) := dk_42 (dk_at dksX0_readTest_1 6 rfl rfl)
theorem dX0_readTest_31 : decode cX0_readTest 31 = .ok (.invokevirtual 379, 3) := dk_182 1 123 (dk_at dksX0_readTest_1 7 rfl rfl)
theorem dX0_readTest_34 : decode cX0_readTest 34 = .ok (.invokespecial 376, 3) := dk_183 1 120 (dk_at dksX0_readTest_1 10 rfl rfl)
theorem dX0_readTest_37 : decode cX0_readTest 37 = .ok (.astore_n 1, 1) := dk_76 (dk_at dksX0_readTest_1 13 rfl rfl)
theorem dX0_readTest_38 : decode cX0_readTest 38 = .ok (.goto (-33), 3) := dk_167 255 223 (dk_at dksX0_readTest_1 14 rfl rfl)
theorem dX0_readTest_41 : decode cX0_readTest 41 = .ok (.aload_n 1, 1) := dk_43 (dk_at dksX0_readTest_1 17 rfl rfl)
theorem dX0_readTest_42 : decode cX0_readTest 42 = .ok (.areturn, 1) := dk_176 (dk_at dksX0_readTest_1 18 rfl rfl)
abbrev cX0_readCase : ByteArray := prog_1_method_55_code
def yX0_readCase : MethodName := ⟨RX0, "readCase", "()LRoadHouses$Test;"⟩
def dkwX0_readCase_1 : List UInt8 := [187, 1, 118, 89, 43, 4, 42, 182, 1, 115, 183, 1, 120, 76, 167, 255, 223, 43, 176]
abbrev dktX0_readCase_1 : List UInt8 := dkwX0_readCase_1 ++ []
def dkwX0_readCase_0 : List UInt8 := [42, 182, 1, 115, 76, 42, 182, 1, 80, 16, 38, 160, 0, 30, 42, 89, 180, 1, 75, 4, 96, 181, 1, 75]
abbrev dktX0_readCase_0 : List UInt8 := dkwX0_readCase_0 ++ dktX0_readCase_1
theorem dksX0_readCase_0 : cX0_readCase.data.toList.drop 0 = dktX0_readCase_0 := by decide +kernel
theorem dksX0_readCase_1 : cX0_readCase.data.toList.drop 24 = dktX0_readCase_1 := dk_seg dksX0_readCase_0 24 rfl rfl
theorem dX0_readCase_0 : decode cX0_readCase 0 = .ok (.aload_n 0, 1) := dk_42 (dk_at dksX0_readCase_0 0 rfl rfl)
theorem dX0_readCase_1 : decode cX0_readCase 1 = .ok (.invokevirtual 371, 3) := dk_182 1 115 (dk_at dksX0_readCase_0 1 rfl rfl)
theorem dX0_readCase_4 : decode cX0_readCase 4 = .ok (.astore_n 1, 1) := dk_76 (dk_at dksX0_readCase_0 4 rfl rfl)
theorem dX0_readCase_5 : decode cX0_readCase 5 = .ok (.aload_n 0, 1) := dk_42 (dk_at dksX0_readCase_0 5 rfl rfl)
theorem dX0_readCase_6 : decode cX0_readCase 6 = .ok (.invokevirtual 336, 3) := dk_182 1 80 (dk_at dksX0_readCase_0 6 rfl rfl)
theorem dX0_readCase_9 : decode cX0_readCase 9 = .ok (.bipush 38, 2) := dk_16 38 (dk_at dksX0_readCase_0 9 rfl rfl)
theorem dX0_readCase_11 : decode cX0_readCase 11 = .ok (.if_icmp .ne 30, 3) := dk_160 0 30 (dk_at dksX0_readCase_0 11 rfl rfl)
theorem dX0_readCase_14 : decode cX0_readCase 14 = .ok (.aload_n 0, 1) := dk_42 (dk_at dksX0_readCase_0 14 rfl rfl)
theorem dX0_readCase_15 : decode cX0_readCase 15 = .ok (.dup, 1) := dk_89 (dk_at dksX0_readCase_0 15 rfl rfl)
theorem dX0_readCase_16 : decode cX0_readCase 16 = .ok (.getfield 331, 3) := dk_180 1 75 (dk_at dksX0_readCase_0 16 rfl rfl)
theorem dX0_readCase_19 : decode cX0_readCase 19 = .ok (.iconst 1, 1) := dk_4 (dk_at dksX0_readCase_0 19 rfl rfl)
theorem dX0_readCase_20 : decode cX0_readCase 20 = .ok (.iadd, 1) := dk_96 (dk_at dksX0_readCase_0 20 rfl rfl)
theorem dX0_readCase_21 : decode cX0_readCase 21 = .ok (.putfield 331, 3) := dk_181 1 75 (dk_at dksX0_readCase_0 21 rfl rfl)
theorem dX0_readCase_24 : decode cX0_readCase 24 = .ok (.new 374, 3) := dk_187 1 118 (dk_at dksX0_readCase_1 0 rfl rfl)
theorem dX0_readCase_27 : decode cX0_readCase 27 = .ok (.dup, 1) := dk_89 (dk_at dksX0_readCase_1 3 rfl rfl)
theorem dX0_readCase_28 : decode cX0_readCase 28 = .ok (.aload_n 1, 1) := dk_43 (dk_at dksX0_readCase_1 4 rfl rfl)
theorem dX0_readCase_29 : decode cX0_readCase 29 = .ok (.iconst 1, 1) := dk_4 (dk_at dksX0_readCase_1 5 rfl rfl)
theorem dX0_readCase_30 : decode cX0_readCase 30 = .ok (.aload_n 0, 1) := dk_42 (dk_at dksX0_readCase_1 6 rfl rfl)
theorem dX0_readCase_31 : decode cX0_readCase 31 = .ok (.invokevirtual 371, 3) := dk_182 1 115 (dk_at dksX0_readCase_1 7 rfl rfl)
theorem dX0_readCase_34 : decode cX0_readCase 34 = .ok (.invokespecial 376, 3) := dk_183 1 120 (dk_at dksX0_readCase_1 10 rfl rfl)
theorem dX0_readCase_37 : decode cX0_readCase 37 = .ok (.astore_n 1, 1) := dk_76 (dk_at dksX0_readCase_1 13 rfl rfl)
theorem dX0_readCase_38 : decode cX0_readCase 38 = .ok (.goto (-33), 3) := dk_167 255 223 (dk_at dksX0_readCase_1 14 rfl rfl)
theorem dX0_readCase_41 : decode cX0_readCase 41 = .ok (.aload_n 1, 1) := dk_43 (dk_at dksX0_readCase_1 17 rfl rfl)
theorem dX0_readCase_42 : decode cX0_readCase 42 = .ok (.areturn, 1) := dk_176 (dk_at dksX0_readCase_1 18 rfl rfl)
abbrev cX0_readClaim : ByteArray := prog_1_method_54_code
def yX0_readClaim : MethodName := ⟨RX0, "readClaim", "()LRoadHouses$Test;"⟩
def dkwX0_readClaim_7 : List UInt8 := [182, 1, 104, 183, 1, 109, 77, 27, 153, 0, 14, 187, 1, 110, 89, 44, 183, 1, 112, 167, 0, 4, 44, 176]
abbrev dktX0_readClaim_7 : List UInt8 := dkwX0_readClaim_7 ++ []
def dkwX0_readClaim_6 : List UInt8 := [182, 1, 83, 191, 42, 89, 180, 1, 75, 4, 96, 181, 1, 75, 187, 1, 107, 89, 29, 21, 4, 42]
abbrev dktX0_readClaim_6 : List UInt8 := dkwX0_readClaim_6 ++ dktX0_readClaim_7
def dkwX0_readClaim_5 : List UInt8 := [159, 0, 26, 21, 4, 16, 62, 159, 0, 19, 21, 4, 16, 61, 159, 0, 12, 42, 42, 180, 1, 75]
abbrev dktX0_readClaim_5 : List UInt8 := dkwX0_readClaim_5 ++ dktX0_readClaim_6
def dkwX0_readClaim_4 : List UInt8 := [4, 100, 181, 1, 94, 167, 0, 69, 42, 182, 1, 104, 62, 42, 182, 1, 80, 54, 4, 21, 4, 16, 60]
abbrev dktX0_readClaim_4 : List UInt8 := dkwX0_readClaim_4 ++ dktX0_readClaim_5
def dkwX0_readClaim_3 : List UInt8 := [180, 1, 75, 4, 96, 181, 1, 75, 42, 182, 1, 97, 77, 42, 16, 41, 182, 1, 101, 42, 89, 180, 1, 94]
abbrev dktX0_readClaim_3 : List UInt8 := dkwX0_readClaim_3 ++ dktX0_readClaim_4
def dkwX0_readClaim_2 : List UInt8 := [160, 0, 12, 42, 42, 180, 1, 75, 182, 1, 83, 191, 42, 89, 180, 1, 94, 4, 96, 181, 1, 94, 42, 89]
abbrev dktX0_readClaim_2 : List UInt8 := dkwX0_readClaim_2 ++ dktX0_readClaim_3
def dkwX0_readClaim_1 : List UInt8 := [4, 167, 0, 4, 3, 96, 181, 1, 75, 42, 182, 1, 80, 16, 40, 160, 0, 65, 42, 180, 1, 94, 16, 6]
abbrev dktX0_readClaim_1 : List UInt8 := dkwX0_readClaim_1 ++ dktX0_readClaim_2
def dkwX0_readClaim_0 : List UInt8 := [42, 182, 1, 80, 16, 33, 160, 0, 7, 4, 167, 0, 4, 3, 60, 42, 89, 180, 1, 75, 27, 153, 0, 7]
abbrev dktX0_readClaim_0 : List UInt8 := dkwX0_readClaim_0 ++ dktX0_readClaim_1
theorem dksX0_readClaim_0 : cX0_readClaim.data.toList.drop 0 = dktX0_readClaim_0 := by decide +kernel
theorem dksX0_readClaim_1 : cX0_readClaim.data.toList.drop 24 = dktX0_readClaim_1 := dk_seg dksX0_readClaim_0 24 rfl rfl
theorem dksX0_readClaim_2 : cX0_readClaim.data.toList.drop 48 = dktX0_readClaim_2 := dk_seg dksX0_readClaim_1 24 rfl rfl
theorem dksX0_readClaim_3 : cX0_readClaim.data.toList.drop 72 = dktX0_readClaim_3 := dk_seg dksX0_readClaim_2 24 rfl rfl
theorem dksX0_readClaim_4 : cX0_readClaim.data.toList.drop 96 = dktX0_readClaim_4 := dk_seg dksX0_readClaim_3 24 rfl rfl
theorem dksX0_readClaim_5 : cX0_readClaim.data.toList.drop 119 = dktX0_readClaim_5 := dk_seg dksX0_readClaim_4 23 rfl rfl
theorem dksX0_readClaim_6 : cX0_readClaim.data.toList.drop 141 = dktX0_readClaim_6 := dk_seg dksX0_readClaim_5 22 rfl rfl
theorem dksX0_readClaim_7 : cX0_readClaim.data.toList.drop 163 = dktX0_readClaim_7 := dk_seg dksX0_readClaim_6 22 rfl rfl
theorem dX0_readClaim_0 : decode cX0_readClaim 0 = .ok (.aload_n 0, 1) := dk_42 (dk_at dksX0_readClaim_0 0 rfl rfl)
theorem dX0_readClaim_1 : decode cX0_readClaim 1 = .ok (.invokevirtual 336, 3) := dk_182 1 80 (dk_at dksX0_readClaim_0 1 rfl rfl)
theorem dX0_readClaim_4 : decode cX0_readClaim 4 = .ok (.bipush 33, 2) := dk_16 33 (dk_at dksX0_readClaim_0 4 rfl rfl)
theorem dX0_readClaim_6 : decode cX0_readClaim 6 = .ok (.if_icmp .ne 7, 3) := dk_160 0 7 (dk_at dksX0_readClaim_0 6 rfl rfl)
theorem dX0_readClaim_9 : decode cX0_readClaim 9 = .ok (.iconst 1, 1) := dk_4 (dk_at dksX0_readClaim_0 9 rfl rfl)
theorem dX0_readClaim_10 : decode cX0_readClaim 10 = .ok (.goto 4, 3) := dk_167 0 4 (dk_at dksX0_readClaim_0 10 rfl rfl)
theorem dX0_readClaim_13 : decode cX0_readClaim 13 = .ok (.iconst 0, 1) := dk_3 (dk_at dksX0_readClaim_0 13 rfl rfl)
theorem dX0_readClaim_14 : decode cX0_readClaim 14 = .ok (.istore_n 1, 1) := dk_60 (dk_at dksX0_readClaim_0 14 rfl rfl)
theorem dX0_readClaim_15 : decode cX0_readClaim 15 = .ok (.aload_n 0, 1) := dk_42 (dk_at dksX0_readClaim_0 15 rfl rfl)
theorem dX0_readClaim_16 : decode cX0_readClaim 16 = .ok (.dup, 1) := dk_89 (dk_at dksX0_readClaim_0 16 rfl rfl)
theorem dX0_readClaim_17 : decode cX0_readClaim 17 = .ok (.getfield 331, 3) := dk_180 1 75 (dk_at dksX0_readClaim_0 17 rfl rfl)
theorem dX0_readClaim_20 : decode cX0_readClaim 20 = .ok (.iload_n 1, 1) := dk_27 (dk_at dksX0_readClaim_0 20 rfl rfl)
theorem dX0_readClaim_21 : decode cX0_readClaim 21 = .ok (.ifCond .eq 7, 3) := dk_153 0 7 (dk_at dksX0_readClaim_0 21 rfl rfl)
theorem dX0_readClaim_24 : decode cX0_readClaim 24 = .ok (.iconst 1, 1) := dk_4 (dk_at dksX0_readClaim_1 0 rfl rfl)
theorem dX0_readClaim_25 : decode cX0_readClaim 25 = .ok (.goto 4, 3) := dk_167 0 4 (dk_at dksX0_readClaim_1 1 rfl rfl)
theorem dX0_readClaim_28 : decode cX0_readClaim 28 = .ok (.iconst 0, 1) := dk_3 (dk_at dksX0_readClaim_1 4 rfl rfl)
theorem dX0_readClaim_29 : decode cX0_readClaim 29 = .ok (.iadd, 1) := dk_96 (dk_at dksX0_readClaim_1 5 rfl rfl)
theorem dX0_readClaim_30 : decode cX0_readClaim 30 = .ok (.putfield 331, 3) := dk_181 1 75 (dk_at dksX0_readClaim_1 6 rfl rfl)
theorem dX0_readClaim_33 : decode cX0_readClaim 33 = .ok (.aload_n 0, 1) := dk_42 (dk_at dksX0_readClaim_1 9 rfl rfl)
theorem dX0_readClaim_34 : decode cX0_readClaim 34 = .ok (.invokevirtual 336, 3) := dk_182 1 80 (dk_at dksX0_readClaim_1 10 rfl rfl)
theorem dX0_readClaim_37 : decode cX0_readClaim 37 = .ok (.bipush 40, 2) := dk_16 40 (dk_at dksX0_readClaim_1 13 rfl rfl)
theorem dX0_readClaim_39 : decode cX0_readClaim 39 = .ok (.if_icmp .ne 65, 3) := dk_160 0 65 (dk_at dksX0_readClaim_1 15 rfl rfl)
theorem dX0_readClaim_42 : decode cX0_readClaim 42 = .ok (.aload_n 0, 1) := dk_42 (dk_at dksX0_readClaim_1 18 rfl rfl)
theorem dX0_readClaim_43 : decode cX0_readClaim 43 = .ok (.getfield 350, 3) := dk_180 1 94 (dk_at dksX0_readClaim_1 19 rfl rfl)
theorem dX0_readClaim_46 : decode cX0_readClaim 46 = .ok (.bipush 6, 2) := dk_16 6 (dk_at dksX0_readClaim_1 22 rfl rfl)
theorem dX0_readClaim_48 : decode cX0_readClaim 48 = .ok (.if_icmp .ne 12, 3) := dk_160 0 12 (dk_at dksX0_readClaim_2 0 rfl rfl)
theorem dX0_readClaim_51 : decode cX0_readClaim 51 = .ok (.aload_n 0, 1) := dk_42 (dk_at dksX0_readClaim_2 3 rfl rfl)
theorem dX0_readClaim_52 : decode cX0_readClaim 52 = .ok (.aload_n 0, 1) := dk_42 (dk_at dksX0_readClaim_2 4 rfl rfl)
theorem dX0_readClaim_53 : decode cX0_readClaim 53 = .ok (.getfield 331, 3) := dk_180 1 75 (dk_at dksX0_readClaim_2 5 rfl rfl)
theorem dX0_readClaim_56 : decode cX0_readClaim 56 = .ok (.invokevirtual 339, 3) := dk_182 1 83 (dk_at dksX0_readClaim_2 8 rfl rfl)
theorem dX0_readClaim_59 : decode cX0_readClaim 59 = .ok (.athrow, 1) := dk_191 (dk_at dksX0_readClaim_2 11 rfl rfl)
theorem dX0_readClaim_60 : decode cX0_readClaim 60 = .ok (.aload_n 0, 1) := dk_42 (dk_at dksX0_readClaim_2 12 rfl rfl)
theorem dX0_readClaim_61 : decode cX0_readClaim 61 = .ok (.dup, 1) := dk_89 (dk_at dksX0_readClaim_2 13 rfl rfl)
theorem dX0_readClaim_62 : decode cX0_readClaim 62 = .ok (.getfield 350, 3) := dk_180 1 94 (dk_at dksX0_readClaim_2 14 rfl rfl)
theorem dX0_readClaim_65 : decode cX0_readClaim 65 = .ok (.iconst 1, 1) := dk_4 (dk_at dksX0_readClaim_2 17 rfl rfl)
theorem dX0_readClaim_66 : decode cX0_readClaim 66 = .ok (.iadd, 1) := dk_96 (dk_at dksX0_readClaim_2 18 rfl rfl)
theorem dX0_readClaim_67 : decode cX0_readClaim 67 = .ok (.putfield 350, 3) := dk_181 1 94 (dk_at dksX0_readClaim_2 19 rfl rfl)
theorem dX0_readClaim_70 : decode cX0_readClaim 70 = .ok (.aload_n 0, 1) := dk_42 (dk_at dksX0_readClaim_2 22 rfl rfl)
theorem dX0_readClaim_71 : decode cX0_readClaim 71 = .ok (.dup, 1) := dk_89 (dk_at dksX0_readClaim_2 23 rfl rfl)
theorem dX0_readClaim_72 : decode cX0_readClaim 72 = .ok (.getfield 331, 3) := dk_180 1 75 (dk_at dksX0_readClaim_3 0 rfl rfl)
theorem dX0_readClaim_75 : decode cX0_readClaim 75 = .ok (.iconst 1, 1) := dk_4 (dk_at dksX0_readClaim_3 3 rfl rfl)
theorem dX0_readClaim_76 : decode cX0_readClaim 76 = .ok (.iadd, 1) := dk_96 (dk_at dksX0_readClaim_3 4 rfl rfl)
theorem dX0_readClaim_77 : decode cX0_readClaim 77 = .ok (.putfield 331, 3) := dk_181 1 75 (dk_at dksX0_readClaim_3 5 rfl rfl)
theorem dX0_readClaim_80 : decode cX0_readClaim 80 = .ok (.aload_n 0, 1) := dk_42 (dk_at dksX0_readClaim_3 8 rfl rfl)
theorem dX0_readClaim_81 : decode cX0_readClaim 81 = .ok (.invokevirtual 353, 3) := dk_182 1 97 (dk_at dksX0_readClaim_3 9 rfl rfl)
theorem dX0_readClaim_84 : decode cX0_readClaim 84 = .ok (.astore_n 2, 1) := dk_77 (dk_at dksX0_readClaim_3 12 rfl rfl)
theorem dX0_readClaim_85 : decode cX0_readClaim 85 = .ok (.aload_n 0, 1) := dk_42 (dk_at dksX0_readClaim_3 13 rfl rfl)
theorem dX0_readClaim_86 : decode cX0_readClaim 86 = .ok (.bipush 41, 2) := dk_16 41 (dk_at dksX0_readClaim_3 14 rfl rfl)
theorem dX0_readClaim_88 : decode cX0_readClaim 88 = .ok (.invokevirtual 357, 3) := dk_182 1 101 (dk_at dksX0_readClaim_3 16 rfl rfl)
theorem dX0_readClaim_91 : decode cX0_readClaim 91 = .ok (.aload_n 0, 1) := dk_42 (dk_at dksX0_readClaim_3 19 rfl rfl)
theorem dX0_readClaim_92 : decode cX0_readClaim 92 = .ok (.dup, 1) := dk_89 (dk_at dksX0_readClaim_3 20 rfl rfl)
theorem dX0_readClaim_93 : decode cX0_readClaim 93 = .ok (.getfield 350, 3) := dk_180 1 94 (dk_at dksX0_readClaim_3 21 rfl rfl)
theorem dX0_readClaim_96 : decode cX0_readClaim 96 = .ok (.iconst 1, 1) := dk_4 (dk_at dksX0_readClaim_4 0 rfl rfl)
theorem dX0_readClaim_97 : decode cX0_readClaim 97 = .ok (.isub, 1) := dk_100 (dk_at dksX0_readClaim_4 1 rfl rfl)
theorem dX0_readClaim_98 : decode cX0_readClaim 98 = .ok (.putfield 350, 3) := dk_181 1 94 (dk_at dksX0_readClaim_4 2 rfl rfl)
theorem dX0_readClaim_101 : decode cX0_readClaim 101 = .ok (.goto 69, 3) := dk_167 0 69 (dk_at dksX0_readClaim_4 5 rfl rfl)
theorem dX0_readClaim_104 : decode cX0_readClaim 104 = .ok (.aload_n 0, 1) := dk_42 (dk_at dksX0_readClaim_4 8 rfl rfl)
theorem dX0_readClaim_105 : decode cX0_readClaim 105 = .ok (.invokevirtual 360, 3) := dk_182 1 104 (dk_at dksX0_readClaim_4 9 rfl rfl)
theorem dX0_readClaim_108 : decode cX0_readClaim 108 = .ok (.istore_n 3, 1) := dk_62 (dk_at dksX0_readClaim_4 12 rfl rfl)
theorem dX0_readClaim_109 : decode cX0_readClaim 109 = .ok (.aload_n 0, 1) := dk_42 (dk_at dksX0_readClaim_4 13 rfl rfl)
theorem dX0_readClaim_110 : decode cX0_readClaim 110 = .ok (.invokevirtual 336, 3) := dk_182 1 80 (dk_at dksX0_readClaim_4 14 rfl rfl)
theorem dX0_readClaim_113 : decode cX0_readClaim 113 = .ok (.istore 4, 2) := dk_54 4 (dk_at dksX0_readClaim_4 17 rfl rfl)
theorem dX0_readClaim_115 : decode cX0_readClaim 115 = .ok (.iload 4, 2) := dk_21 4 (dk_at dksX0_readClaim_4 19 rfl rfl)
theorem dX0_readClaim_117 : decode cX0_readClaim 117 = .ok (.bipush 60, 2) := dk_16 60 (dk_at dksX0_readClaim_4 21 rfl rfl)
theorem dX0_readClaim_119 : decode cX0_readClaim 119 = .ok (.if_icmp .eq 26, 3) := dk_159 0 26 (dk_at dksX0_readClaim_5 0 rfl rfl)
theorem dX0_readClaim_122 : decode cX0_readClaim 122 = .ok (.iload 4, 2) := dk_21 4 (dk_at dksX0_readClaim_5 3 rfl rfl)
theorem dX0_readClaim_124 : decode cX0_readClaim 124 = .ok (.bipush 62, 2) := dk_16 62 (dk_at dksX0_readClaim_5 5 rfl rfl)
theorem dX0_readClaim_126 : decode cX0_readClaim 126 = .ok (.if_icmp .eq 19, 3) := dk_159 0 19 (dk_at dksX0_readClaim_5 7 rfl rfl)
theorem dX0_readClaim_129 : decode cX0_readClaim 129 = .ok (.iload 4, 2) := dk_21 4 (dk_at dksX0_readClaim_5 10 rfl rfl)
theorem dX0_readClaim_131 : decode cX0_readClaim 131 = .ok (.bipush 61, 2) := dk_16 61 (dk_at dksX0_readClaim_5 12 rfl rfl)
theorem dX0_readClaim_133 : decode cX0_readClaim 133 = .ok (.if_icmp .eq 12, 3) := dk_159 0 12 (dk_at dksX0_readClaim_5 14 rfl rfl)
theorem dX0_readClaim_136 : decode cX0_readClaim 136 = .ok (.aload_n 0, 1) := dk_42 (dk_at dksX0_readClaim_5 17 rfl rfl)
theorem dX0_readClaim_137 : decode cX0_readClaim 137 = .ok (.aload_n 0, 1) := dk_42 (dk_at dksX0_readClaim_5 18 rfl rfl)
theorem dX0_readClaim_138 : decode cX0_readClaim 138 = .ok (.getfield 331, 3) := dk_180 1 75 (dk_at dksX0_readClaim_5 19 rfl rfl)
theorem dX0_readClaim_141 : decode cX0_readClaim 141 = .ok (.invokevirtual 339, 3) := dk_182 1 83 (dk_at dksX0_readClaim_6 0 rfl rfl)
theorem dX0_readClaim_144 : decode cX0_readClaim 144 = .ok (.athrow, 1) := dk_191 (dk_at dksX0_readClaim_6 3 rfl rfl)
theorem dX0_readClaim_145 : decode cX0_readClaim 145 = .ok (.aload_n 0, 1) := dk_42 (dk_at dksX0_readClaim_6 4 rfl rfl)
theorem dX0_readClaim_146 : decode cX0_readClaim 146 = .ok (.dup, 1) := dk_89 (dk_at dksX0_readClaim_6 5 rfl rfl)
theorem dX0_readClaim_147 : decode cX0_readClaim 147 = .ok (.getfield 331, 3) := dk_180 1 75 (dk_at dksX0_readClaim_6 6 rfl rfl)
theorem dX0_readClaim_150 : decode cX0_readClaim 150 = .ok (.iconst 1, 1) := dk_4 (dk_at dksX0_readClaim_6 9 rfl rfl)
theorem dX0_readClaim_151 : decode cX0_readClaim 151 = .ok (.iadd, 1) := dk_96 (dk_at dksX0_readClaim_6 10 rfl rfl)
theorem dX0_readClaim_152 : decode cX0_readClaim 152 = .ok (.putfield 331, 3) := dk_181 1 75 (dk_at dksX0_readClaim_6 11 rfl rfl)
theorem dX0_readClaim_155 : decode cX0_readClaim 155 = .ok (.new 363, 3) := dk_187 1 107 (dk_at dksX0_readClaim_6 14 rfl rfl)
theorem dX0_readClaim_158 : decode cX0_readClaim 158 = .ok (.dup, 1) := dk_89 (dk_at dksX0_readClaim_6 17 rfl rfl)
theorem dX0_readClaim_159 : decode cX0_readClaim 159 = .ok (.iload_n 3, 1) := dk_29 (dk_at dksX0_readClaim_6 18 rfl rfl)
theorem dX0_readClaim_160 : decode cX0_readClaim 160 = .ok (.iload 4, 2) := dk_21 4 (dk_at dksX0_readClaim_6 19 rfl rfl)
theorem dX0_readClaim_162 : decode cX0_readClaim 162 = .ok (.aload_n 0, 1) := dk_42 (dk_at dksX0_readClaim_6 21 rfl rfl)
theorem dX0_readClaim_163 : decode cX0_readClaim 163 = .ok (.invokevirtual 360, 3) := dk_182 1 104 (dk_at dksX0_readClaim_7 0 rfl rfl)
theorem dX0_readClaim_166 : decode cX0_readClaim 166 = .ok (.invokespecial 365, 3) := dk_183 1 109 (dk_at dksX0_readClaim_7 3 rfl rfl)
theorem dX0_readClaim_169 : decode cX0_readClaim 169 = .ok (.astore_n 2, 1) := dk_77 (dk_at dksX0_readClaim_7 6 rfl rfl)
theorem dX0_readClaim_170 : decode cX0_readClaim 170 = .ok (.iload_n 1, 1) := dk_27 (dk_at dksX0_readClaim_7 7 rfl rfl)
theorem dX0_readClaim_171 : decode cX0_readClaim 171 = .ok (.ifCond .eq 14, 3) := dk_153 0 14 (dk_at dksX0_readClaim_7 8 rfl rfl)
theorem dX0_readClaim_174 : decode cX0_readClaim 174 = .ok (.new 366, 3) := dk_187 1 110 (dk_at dksX0_readClaim_7 11 rfl rfl)
theorem dX0_readClaim_177 : decode cX0_readClaim 177 = .ok (.dup, 1) := dk_89 (dk_at dksX0_readClaim_7 14 rfl rfl)
theorem dX0_readClaim_178 : decode cX0_readClaim 178 = .ok (.aload_n 2, 1) := dk_44 (dk_at dksX0_readClaim_7 15 rfl rfl)
theorem dX0_readClaim_179 : decode cX0_readClaim 179 = .ok (.invokespecial 368, 3) := dk_183 1 112 (dk_at dksX0_readClaim_7 16 rfl rfl)
theorem dX0_readClaim_182 : decode cX0_readClaim 182 = .ok (.goto 4, 3) := dk_167 0 4 (dk_at dksX0_readClaim_7 19 rfl rfl)
theorem dX0_readClaim_185 : decode cX0_readClaim 185 = .ok (.aload_n 2, 1) := dk_44 (dk_at dksX0_readClaim_7 22 rfl rfl)
theorem dX0_readClaim_186 : decode cX0_readClaim 186 = .ok (.areturn, 1) := dk_176 (dk_at dksX0_readClaim_7 23 rfl rfl)
abbrev cX0_readWord : ByteArray := prog_1_method_53_code
def yX0_readWord : MethodName := ⟨RX0, "readWord", "()I"⟩
def dkwX0_readWord_5 : List UInt8 := [180, 1, 75, 28, 159, 0, 11, 21, 4, 17, 3, 231, 164, 0, 9, 42, 28, 182, 1, 83, 191, 21, 4, 172]
abbrev dktX0_readWord_5 : List UInt8 := dkwX0_readWord_5 ++ []
def dkwX0_readWord_4 : List UInt8 := [51, 96, 16, 48, 100, 184, 0, 185, 54, 4, 42, 89, 180, 1, 75, 4, 96, 181, 1, 75, 167, 255, 190, 42]
abbrev dktX0_readWord_4 : List UInt8 := dkwX0_readWord_4 ++ dktX0_readWord_5
def dkwX0_readWord_3 : List UInt8 := [16, 57, 184, 0, 97, 153, 0, 42, 17, 39, 15, 16, 10, 21, 4, 104, 42, 180, 0, 50, 42, 180, 1, 75]
abbrev dktX0_readWord_3 : List UInt8 := dkwX0_readWord_3 ++ dktX0_readWord_4
def dkwX0_readWord_2 : List UInt8 := [54, 4, 42, 180, 1, 75, 42, 180, 1, 72, 162, 0, 61, 42, 180, 0, 50, 42, 180, 1, 75, 51, 16, 48]
abbrev dktX0_readWord_2 : List UInt8 := dkwX0_readWord_2 ++ dktX0_readWord_3
def dkwX0_readWord_1 : List UInt8 := [182, 1, 89, 62, 29, 155, 0, 17, 42, 89, 180, 1, 75, 4, 96, 181, 1, 75, 2, 29, 100, 172, 3]
abbrev dktX0_readWord_1 : List UInt8 := dkwX0_readWord_1 ++ dktX0_readWord_2
def dkwX0_readWord_0 : List UInt8 := [42, 182, 1, 80, 60, 42, 180, 1, 75, 61, 27, 156, 0, 7, 2, 167, 0, 10, 19, 1, 87, 27]
abbrev dktX0_readWord_0 : List UInt8 := dkwX0_readWord_0 ++ dktX0_readWord_1
theorem dksX0_readWord_0 : cX0_readWord.data.toList.drop 0 = dktX0_readWord_0 := by decide +kernel
theorem dksX0_readWord_1 : cX0_readWord.data.toList.drop 22 = dktX0_readWord_1 := dk_seg dksX0_readWord_0 22 rfl rfl
theorem dksX0_readWord_2 : cX0_readWord.data.toList.drop 45 = dktX0_readWord_2 := dk_seg dksX0_readWord_1 23 rfl rfl
theorem dksX0_readWord_3 : cX0_readWord.data.toList.drop 69 = dktX0_readWord_3 := dk_seg dksX0_readWord_2 24 rfl rfl
theorem dksX0_readWord_4 : cX0_readWord.data.toList.drop 93 = dktX0_readWord_4 := dk_seg dksX0_readWord_3 24 rfl rfl
theorem dksX0_readWord_5 : cX0_readWord.data.toList.drop 117 = dktX0_readWord_5 := dk_seg dksX0_readWord_4 24 rfl rfl
theorem dX0_readWord_0 : decode cX0_readWord 0 = .ok (.aload_n 0, 1) := dk_42 (dk_at dksX0_readWord_0 0 rfl rfl)
theorem dX0_readWord_1 : decode cX0_readWord 1 = .ok (.invokevirtual 336, 3) := dk_182 1 80 (dk_at dksX0_readWord_0 1 rfl rfl)
theorem dX0_readWord_4 : decode cX0_readWord 4 = .ok (.istore_n 1, 1) := dk_60 (dk_at dksX0_readWord_0 4 rfl rfl)
theorem dX0_readWord_5 : decode cX0_readWord 5 = .ok (.aload_n 0, 1) := dk_42 (dk_at dksX0_readWord_0 5 rfl rfl)
theorem dX0_readWord_6 : decode cX0_readWord 6 = .ok (.getfield 331, 3) := dk_180 1 75 (dk_at dksX0_readWord_0 6 rfl rfl)
theorem dX0_readWord_9 : decode cX0_readWord 9 = .ok (.istore_n 2, 1) := dk_61 (dk_at dksX0_readWord_0 9 rfl rfl)
theorem dX0_readWord_10 : decode cX0_readWord 10 = .ok (.iload_n 1, 1) := dk_27 (dk_at dksX0_readWord_0 10 rfl rfl)
theorem dX0_readWord_11 : decode cX0_readWord 11 = .ok (.ifCond .ge 7, 3) := dk_156 0 7 (dk_at dksX0_readWord_0 11 rfl rfl)
theorem dX0_readWord_14 : decode cX0_readWord 14 = .ok (.iconst (-1), 1) := dk_2 (dk_at dksX0_readWord_0 14 rfl rfl)
theorem dX0_readWord_15 : decode cX0_readWord 15 = .ok (.goto 10, 3) := dk_167 0 10 (dk_at dksX0_readWord_0 15 rfl rfl)
theorem dX0_readWord_18 : decode cX0_readWord 18 = .ok (.ldc_w 343, 3) := dk_19 1 87 (dk_at dksX0_readWord_0 18 rfl rfl)
theorem dX0_readWord_21 : decode cX0_readWord 21 = .ok (.iload_n 1, 1) := dk_27 (dk_at dksX0_readWord_0 21 rfl rfl)
theorem dX0_readWord_22 : decode cX0_readWord 22 = .ok (.invokevirtual 345, 3) := dk_182 1 89 (dk_at dksX0_readWord_1 0 rfl rfl)
theorem dX0_readWord_25 : decode cX0_readWord 25 = .ok (.istore_n 3, 1) := dk_62 (dk_at dksX0_readWord_1 3 rfl rfl)
theorem dX0_readWord_26 : decode cX0_readWord 26 = .ok (.iload_n 3, 1) := dk_29 (dk_at dksX0_readWord_1 4 rfl rfl)
theorem dX0_readWord_27 : decode cX0_readWord 27 = .ok (.ifCond .lt 17, 3) := dk_155 0 17 (dk_at dksX0_readWord_1 5 rfl rfl)
theorem dX0_readWord_30 : decode cX0_readWord 30 = .ok (.aload_n 0, 1) := dk_42 (dk_at dksX0_readWord_1 8 rfl rfl)
theorem dX0_readWord_31 : decode cX0_readWord 31 = .ok (.dup, 1) := dk_89 (dk_at dksX0_readWord_1 9 rfl rfl)
theorem dX0_readWord_32 : decode cX0_readWord 32 = .ok (.getfield 331, 3) := dk_180 1 75 (dk_at dksX0_readWord_1 10 rfl rfl)
theorem dX0_readWord_35 : decode cX0_readWord 35 = .ok (.iconst 1, 1) := dk_4 (dk_at dksX0_readWord_1 13 rfl rfl)
theorem dX0_readWord_36 : decode cX0_readWord 36 = .ok (.iadd, 1) := dk_96 (dk_at dksX0_readWord_1 14 rfl rfl)
theorem dX0_readWord_37 : decode cX0_readWord 37 = .ok (.putfield 331, 3) := dk_181 1 75 (dk_at dksX0_readWord_1 15 rfl rfl)
theorem dX0_readWord_40 : decode cX0_readWord 40 = .ok (.iconst (-1), 1) := dk_2 (dk_at dksX0_readWord_1 18 rfl rfl)
theorem dX0_readWord_41 : decode cX0_readWord 41 = .ok (.iload_n 3, 1) := dk_29 (dk_at dksX0_readWord_1 19 rfl rfl)
theorem dX0_readWord_42 : decode cX0_readWord 42 = .ok (.isub, 1) := dk_100 (dk_at dksX0_readWord_1 20 rfl rfl)
theorem dX0_readWord_43 : decode cX0_readWord 43 = .ok (.ireturn, 1) := dk_172 (dk_at dksX0_readWord_1 21 rfl rfl)
theorem dX0_readWord_44 : decode cX0_readWord 44 = .ok (.iconst 0, 1) := dk_3 (dk_at dksX0_readWord_1 22 rfl rfl)
theorem dX0_readWord_45 : decode cX0_readWord 45 = .ok (.istore 4, 2) := dk_54 4 (dk_at dksX0_readWord_2 0 rfl rfl)
theorem dX0_readWord_47 : decode cX0_readWord 47 = .ok (.aload_n 0, 1) := dk_42 (dk_at dksX0_readWord_2 2 rfl rfl)
theorem dX0_readWord_48 : decode cX0_readWord 48 = .ok (.getfield 331, 3) := dk_180 1 75 (dk_at dksX0_readWord_2 3 rfl rfl)
theorem dX0_readWord_51 : decode cX0_readWord 51 = .ok (.aload_n 0, 1) := dk_42 (dk_at dksX0_readWord_2 6 rfl rfl)
theorem dX0_readWord_52 : decode cX0_readWord 52 = .ok (.getfield 328, 3) := dk_180 1 72 (dk_at dksX0_readWord_2 7 rfl rfl)
theorem dX0_readWord_55 : decode cX0_readWord 55 = .ok (.if_icmp .ge 61, 3) := dk_162 0 61 (dk_at dksX0_readWord_2 10 rfl rfl)
theorem dX0_readWord_58 : decode cX0_readWord 58 = .ok (.aload_n 0, 1) := dk_42 (dk_at dksX0_readWord_2 13 rfl rfl)
theorem dX0_readWord_59 : decode cX0_readWord 59 = .ok (.getfield 50, 3) := dk_180 0 50 (dk_at dksX0_readWord_2 14 rfl rfl)
theorem dX0_readWord_62 : decode cX0_readWord 62 = .ok (.aload_n 0, 1) := dk_42 (dk_at dksX0_readWord_2 17 rfl rfl)
theorem dX0_readWord_63 : decode cX0_readWord 63 = .ok (.getfield 331, 3) := dk_180 1 75 (dk_at dksX0_readWord_2 18 rfl rfl)
theorem dX0_readWord_66 : decode cX0_readWord 66 = .ok (.baload, 1) := dk_51 (dk_at dksX0_readWord_2 21 rfl rfl)
theorem dX0_readWord_67 : decode cX0_readWord 67 = .ok (.bipush 48, 2) := dk_16 48 (dk_at dksX0_readWord_2 22 rfl rfl)
theorem dX0_readWord_69 : decode cX0_readWord 69 = .ok (.bipush 57, 2) := dk_16 57 (dk_at dksX0_readWord_3 0 rfl rfl)
theorem dX0_readWord_71 : decode cX0_readWord 71 = .ok (.invokestatic 97, 3) := dk_184 0 97 (dk_at dksX0_readWord_3 2 rfl rfl)
theorem dX0_readWord_74 : decode cX0_readWord 74 = .ok (.ifCond .eq 42, 3) := dk_153 0 42 (dk_at dksX0_readWord_3 5 rfl rfl)
theorem dX0_readWord_77 : decode cX0_readWord 77 = .ok (.sipush 9999, 3) := dk_17 39 15 (dk_at dksX0_readWord_3 8 rfl rfl)
theorem dX0_readWord_80 : decode cX0_readWord 80 = .ok (.bipush 10, 2) := dk_16 10 (dk_at dksX0_readWord_3 11 rfl rfl)
theorem dX0_readWord_82 : decode cX0_readWord 82 = .ok (.iload 4, 2) := dk_21 4 (dk_at dksX0_readWord_3 13 rfl rfl)
theorem dX0_readWord_84 : decode cX0_readWord 84 = .ok (.imul, 1) := dk_104 (dk_at dksX0_readWord_3 15 rfl rfl)
theorem dX0_readWord_85 : decode cX0_readWord 85 = .ok (.aload_n 0, 1) := dk_42 (dk_at dksX0_readWord_3 16 rfl rfl)
theorem dX0_readWord_86 : decode cX0_readWord 86 = .ok (.getfield 50, 3) := dk_180 0 50 (dk_at dksX0_readWord_3 17 rfl rfl)
theorem dX0_readWord_89 : decode cX0_readWord 89 = .ok (.aload_n 0, 1) := dk_42 (dk_at dksX0_readWord_3 20 rfl rfl)
theorem dX0_readWord_90 : decode cX0_readWord 90 = .ok (.getfield 331, 3) := dk_180 1 75 (dk_at dksX0_readWord_3 21 rfl rfl)
theorem dX0_readWord_93 : decode cX0_readWord 93 = .ok (.baload, 1) := dk_51 (dk_at dksX0_readWord_4 0 rfl rfl)
theorem dX0_readWord_94 : decode cX0_readWord 94 = .ok (.iadd, 1) := dk_96 (dk_at dksX0_readWord_4 1 rfl rfl)
theorem dX0_readWord_95 : decode cX0_readWord 95 = .ok (.bipush 48, 2) := dk_16 48 (dk_at dksX0_readWord_4 2 rfl rfl)
theorem dX0_readWord_97 : decode cX0_readWord 97 = .ok (.isub, 1) := dk_100 (dk_at dksX0_readWord_4 4 rfl rfl)
theorem dX0_readWord_98 : decode cX0_readWord 98 = .ok (.invokestatic 185, 3) := dk_184 0 185 (dk_at dksX0_readWord_4 5 rfl rfl)
theorem dX0_readWord_101 : decode cX0_readWord 101 = .ok (.istore 4, 2) := dk_54 4 (dk_at dksX0_readWord_4 8 rfl rfl)
theorem dX0_readWord_103 : decode cX0_readWord 103 = .ok (.aload_n 0, 1) := dk_42 (dk_at dksX0_readWord_4 10 rfl rfl)
theorem dX0_readWord_104 : decode cX0_readWord 104 = .ok (.dup, 1) := dk_89 (dk_at dksX0_readWord_4 11 rfl rfl)
theorem dX0_readWord_105 : decode cX0_readWord 105 = .ok (.getfield 331, 3) := dk_180 1 75 (dk_at dksX0_readWord_4 12 rfl rfl)
theorem dX0_readWord_108 : decode cX0_readWord 108 = .ok (.iconst 1, 1) := dk_4 (dk_at dksX0_readWord_4 15 rfl rfl)
theorem dX0_readWord_109 : decode cX0_readWord 109 = .ok (.iadd, 1) := dk_96 (dk_at dksX0_readWord_4 16 rfl rfl)
theorem dX0_readWord_110 : decode cX0_readWord 110 = .ok (.putfield 331, 3) := dk_181 1 75 (dk_at dksX0_readWord_4 17 rfl rfl)
theorem dX0_readWord_113 : decode cX0_readWord 113 = .ok (.goto (-66), 3) := dk_167 255 190 (dk_at dksX0_readWord_4 20 rfl rfl)
theorem dX0_readWord_116 : decode cX0_readWord 116 = .ok (.aload_n 0, 1) := dk_42 (dk_at dksX0_readWord_4 23 rfl rfl)
theorem dX0_readWord_117 : decode cX0_readWord 117 = .ok (.getfield 331, 3) := dk_180 1 75 (dk_at dksX0_readWord_5 0 rfl rfl)
theorem dX0_readWord_120 : decode cX0_readWord 120 = .ok (.iload_n 2, 1) := dk_28 (dk_at dksX0_readWord_5 3 rfl rfl)
theorem dX0_readWord_121 : decode cX0_readWord 121 = .ok (.if_icmp .eq 11, 3) := dk_159 0 11 (dk_at dksX0_readWord_5 4 rfl rfl)
theorem dX0_readWord_124 : decode cX0_readWord 124 = .ok (.iload 4, 2) := dk_21 4 (dk_at dksX0_readWord_5 7 rfl rfl)
theorem dX0_readWord_126 : decode cX0_readWord 126 = .ok (.sipush 999, 3) := dk_17 3 231 (dk_at dksX0_readWord_5 9 rfl rfl)
theorem dX0_readWord_129 : decode cX0_readWord 129 = .ok (.if_icmp .le 9, 3) := dk_164 0 9 (dk_at dksX0_readWord_5 12 rfl rfl)
theorem dX0_readWord_132 : decode cX0_readWord 132 = .ok (.aload_n 0, 1) := dk_42 (dk_at dksX0_readWord_5 15 rfl rfl)
theorem dX0_readWord_133 : decode cX0_readWord 133 = .ok (.iload_n 2, 1) := dk_28 (dk_at dksX0_readWord_5 16 rfl rfl)
theorem dX0_readWord_134 : decode cX0_readWord 134 = .ok (.invokevirtual 339, 3) := dk_182 1 83 (dk_at dksX0_readWord_5 17 rfl rfl)
theorem dX0_readWord_137 : decode cX0_readWord 137 = .ok (.athrow, 1) := dk_191 (dk_at dksX0_readWord_5 20 rfl rfl)
theorem dX0_readWord_138 : decode cX0_readWord 138 = .ok (.iload 4, 2) := dk_21 4 (dk_at dksX0_readWord_5 21 rfl rfl)
theorem dX0_readWord_140 : decode cX0_readWord 140 = .ok (.ireturn, 1) := dk_172 (dk_at dksX0_readWord_5 23 rfl rfl)
abbrev cX0_force : ByteArray := prog_1_method_61_code
def yX0_force : MethodName := ⟨RX0, "force", "(III)I"⟩
def dkwX0_force_2 : List UInt8 := [180, 0, 40, 27, 185, 0, 152, 2, 0, 192, 1, 126, 29, 181, 1, 153, 4, 172]
abbrev dktX0_force_2 : List UInt8 := dkwX0_force_2 ++ []
def dkwX0_force_1 : List UInt8 := [162, 0, 5, 2, 172, 42, 180, 0, 40, 27, 185, 0, 152, 2, 0, 192, 1, 126, 28, 181, 1, 150, 42]
abbrev dktX0_force_1 : List UInt8 := dkwX0_force_1 ++ dktX0_force_2
def dkwX0_force_0 : List UInt8 := [42, 27, 182, 1, 144, 153, 0, 22, 28, 184, 1, 147, 153, 0, 15, 29, 184, 1, 147, 153, 0, 8, 29, 28]
abbrev dktX0_force_0 : List UInt8 := dkwX0_force_0 ++ dktX0_force_1
theorem dksX0_force_0 : cX0_force.data.toList.drop 0 = dktX0_force_0 := by decide +kernel
theorem dksX0_force_1 : cX0_force.data.toList.drop 24 = dktX0_force_1 := dk_seg dksX0_force_0 24 rfl rfl
theorem dksX0_force_2 : cX0_force.data.toList.drop 47 = dktX0_force_2 := dk_seg dksX0_force_1 23 rfl rfl
theorem dX0_force_0 : decode cX0_force 0 = .ok (.aload_n 0, 1) := dk_42 (dk_at dksX0_force_0 0 rfl rfl)
theorem dX0_force_1 : decode cX0_force 1 = .ok (.iload_n 1, 1) := dk_27 (dk_at dksX0_force_0 1 rfl rfl)
theorem dX0_force_2 : decode cX0_force 2 = .ok (.invokevirtual 400, 3) := dk_182 1 144 (dk_at dksX0_force_0 2 rfl rfl)
theorem dX0_force_5 : decode cX0_force 5 = .ok (.ifCond .eq 22, 3) := dk_153 0 22 (dk_at dksX0_force_0 5 rfl rfl)
theorem dX0_force_8 : decode cX0_force 8 = .ok (.iload_n 2, 1) := dk_28 (dk_at dksX0_force_0 8 rfl rfl)
theorem dX0_force_9 : decode cX0_force 9 = .ok (.invokestatic 403, 3) := dk_184 1 147 (dk_at dksX0_force_0 9 rfl rfl)
theorem dX0_force_12 : decode cX0_force 12 = .ok (.ifCond .eq 15, 3) := dk_153 0 15 (dk_at dksX0_force_0 12 rfl rfl)
theorem dX0_force_15 : decode cX0_force 15 = .ok (.iload_n 3, 1) := dk_29 (dk_at dksX0_force_0 15 rfl rfl)
theorem dX0_force_16 : decode cX0_force 16 = .ok (.invokestatic 403, 3) := dk_184 1 147 (dk_at dksX0_force_0 16 rfl rfl)
theorem dX0_force_19 : decode cX0_force 19 = .ok (.ifCond .eq 8, 3) := dk_153 0 8 (dk_at dksX0_force_0 19 rfl rfl)
theorem dX0_force_22 : decode cX0_force 22 = .ok (.iload_n 3, 1) := dk_29 (dk_at dksX0_force_0 22 rfl rfl)
theorem dX0_force_23 : decode cX0_force 23 = .ok (.iload_n 2, 1) := dk_28 (dk_at dksX0_force_0 23 rfl rfl)
theorem dX0_force_24 : decode cX0_force 24 = .ok (.if_icmp .ge 5, 3) := dk_162 0 5 (dk_at dksX0_force_1 0 rfl rfl)
theorem dX0_force_27 : decode cX0_force 27 = .ok (.iconst (-1), 1) := dk_2 (dk_at dksX0_force_1 3 rfl rfl)
theorem dX0_force_28 : decode cX0_force 28 = .ok (.ireturn, 1) := dk_172 (dk_at dksX0_force_1 4 rfl rfl)
theorem dX0_force_29 : decode cX0_force 29 = .ok (.aload_n 0, 1) := dk_42 (dk_at dksX0_force_1 5 rfl rfl)
theorem dX0_force_30 : decode cX0_force 30 = .ok (.getfield 40, 3) := dk_180 0 40 (dk_at dksX0_force_1 6 rfl rfl)
theorem dX0_force_33 : decode cX0_force 33 = .ok (.iload_n 1, 1) := dk_27 (dk_at dksX0_force_1 9 rfl rfl)
theorem dX0_force_34 : decode cX0_force 34 = .ok (.invokeinterface 152 2, 5) := by decide +kernel
theorem dX0_force_39 : decode cX0_force 39 = .ok (.checkcast 382, 3) := dk_192 1 126 (dk_at dksX0_force_1 15 rfl rfl)
theorem dX0_force_42 : decode cX0_force 42 = .ok (.iload_n 2, 1) := dk_28 (dk_at dksX0_force_1 18 rfl rfl)
theorem dX0_force_43 : decode cX0_force 43 = .ok (.putfield 406, 3) := dk_181 1 150 (dk_at dksX0_force_1 19 rfl rfl)
theorem dX0_force_46 : decode cX0_force 46 = .ok (.aload_n 0, 1) := dk_42 (dk_at dksX0_force_1 22 rfl rfl)
theorem dX0_force_47 : decode cX0_force 47 = .ok (.getfield 40, 3) := dk_180 0 40 (dk_at dksX0_force_2 0 rfl rfl)
theorem dX0_force_50 : decode cX0_force 50 = .ok (.iload_n 1, 1) := dk_27 (dk_at dksX0_force_2 3 rfl rfl)
theorem dX0_force_51 : decode cX0_force 51 = .ok (.invokeinterface 152 2, 5) := by decide +kernel
theorem dX0_force_56 : decode cX0_force 56 = .ok (.checkcast 382, 3) := dk_192 1 126 (dk_at dksX0_force_2 9 rfl rfl)
theorem dX0_force_59 : decode cX0_force 59 = .ok (.iload_n 3, 1) := dk_29 (dk_at dksX0_force_2 12 rfl rfl)
theorem dX0_force_60 : decode cX0_force 60 = .ok (.putfield 409, 3) := dk_181 1 153 (dk_at dksX0_force_2 13 rfl rfl)
theorem dX0_force_63 : decode cX0_force 63 = .ok (.iconst 1, 1) := dk_4 (dk_at dksX0_force_2 16 rfl rfl)
theorem dX0_force_64 : decode cX0_force 64 = .ok (.ireturn, 1) := dk_172 (dk_at dksX0_force_2 17 rfl rfl)
abbrev cX0_isLaw : ByteArray := prog_1_method_59_code
def yX0_isLaw : MethodName := ⟨RX0, "isLaw", "(I)Z"⟩
def dkwX0_isLaw_0 : List UInt8 := [27, 3, 42, 180, 0, 40, 185, 0, 91, 1, 0, 4, 100, 184, 0, 97, 172]
abbrev dktX0_isLaw_0 : List UInt8 := dkwX0_isLaw_0 ++ []
theorem dksX0_isLaw_0 : cX0_isLaw.data.toList.drop 0 = dktX0_isLaw_0 := by decide +kernel
theorem dX0_isLaw_0 : decode cX0_isLaw 0 = .ok (.iload_n 1, 1) := dk_27 (dk_at dksX0_isLaw_0 0 rfl rfl)
theorem dX0_isLaw_1 : decode cX0_isLaw 1 = .ok (.iconst 0, 1) := dk_3 (dk_at dksX0_isLaw_0 1 rfl rfl)
theorem dX0_isLaw_2 : decode cX0_isLaw 2 = .ok (.aload_n 0, 1) := dk_42 (dk_at dksX0_isLaw_0 2 rfl rfl)
theorem dX0_isLaw_3 : decode cX0_isLaw 3 = .ok (.getfield 40, 3) := dk_180 0 40 (dk_at dksX0_isLaw_0 3 rfl rfl)
theorem dX0_isLaw_6 : decode cX0_isLaw 6 = .ok (.invokeinterface 91 1, 5) := by decide +kernel
theorem dX0_isLaw_11 : decode cX0_isLaw 11 = .ok (.iconst 1, 1) := dk_4 (dk_at dksX0_isLaw_0 11 rfl rfl)
theorem dX0_isLaw_12 : decode cX0_isLaw 12 = .ok (.isub, 1) := dk_100 (dk_at dksX0_isLaw_0 12 rfl rfl)
theorem dX0_isLaw_13 : decode cX0_isLaw 13 = .ok (.invokestatic 97, 3) := dk_184 0 97 (dk_at dksX0_isLaw_0 13 rfl rfl)
theorem dX0_isLaw_16 : decode cX0_isLaw 16 = .ok (.ireturn, 1) := dk_172 (dk_at dksX0_isLaw_0 16 rfl rfl)
abbrev cX0_isDay : ByteArray := prog_1_method_60_code
def yX0_isDay : MethodName := ⟨RX0, "isDay", "(I)Z"⟩
def dkwX0_isDay_0 : List UInt8 := [26, 3, 17, 1, 160, 184, 0, 97, 172]
abbrev dktX0_isDay_0 : List UInt8 := dkwX0_isDay_0 ++ []
theorem dksX0_isDay_0 : cX0_isDay.data.toList.drop 0 = dktX0_isDay_0 := by decide +kernel
theorem dX0_isDay_0 : decode cX0_isDay 0 = .ok (.iload_n 0, 1) := dk_26 (dk_at dksX0_isDay_0 0 rfl rfl)
theorem dX0_isDay_1 : decode cX0_isDay 1 = .ok (.iconst 0, 1) := dk_3 (dk_at dksX0_isDay_0 1 rfl rfl)
theorem dX0_isDay_2 : decode cX0_isDay 2 = .ok (.sipush 416, 3) := dk_17 1 160 (dk_at dksX0_isDay_0 2 rfl rfl)
theorem dX0_isDay_5 : decode cX0_isDay 5 = .ok (.invokestatic 97, 3) := dk_184 0 97 (dk_at dksX0_isDay_0 5 rfl rfl)
theorem dX0_isDay_8 : decode cX0_isDay 8 = .ok (.ireturn, 1) := dk_172 (dk_at dksX0_isDay_0 8 rfl rfl)
abbrev cX0_strike : ByteArray := prog_1_method_62_code
def yX0_strike : MethodName := ⟨RX0, "strike", "(II)I"⟩
def dkwX0_strike_2 : List UInt8 := [185, 0, 152, 2, 0, 192, 1, 126, 28, 181, 1, 156, 4, 172]
abbrev dktX0_strike_2 : List UInt8 := dkwX0_strike_2 ++ []
def dkwX0_strike_1 : List UInt8 := [185, 0, 152, 2, 0, 192, 1, 126, 180, 1, 156, 16, 252, 159, 0, 6, 16, 254, 172, 42, 180, 0, 40, 27]
abbrev dktX0_strike_1 : List UInt8 := dkwX0_strike_1 ++ dktX0_strike_2
def dkwX0_strike_0 : List UInt8 := [42, 27, 182, 1, 144, 153, 0, 10, 28, 184, 1, 147, 154, 0, 5, 2, 172, 42, 180, 0, 40, 27]
abbrev dktX0_strike_0 : List UInt8 := dkwX0_strike_0 ++ dktX0_strike_1
theorem dksX0_strike_0 : cX0_strike.data.toList.drop 0 = dktX0_strike_0 := by decide +kernel
theorem dksX0_strike_1 : cX0_strike.data.toList.drop 22 = dktX0_strike_1 := dk_seg dksX0_strike_0 22 rfl rfl
theorem dksX0_strike_2 : cX0_strike.data.toList.drop 46 = dktX0_strike_2 := dk_seg dksX0_strike_1 24 rfl rfl
theorem dX0_strike_0 : decode cX0_strike 0 = .ok (.aload_n 0, 1) := dk_42 (dk_at dksX0_strike_0 0 rfl rfl)
theorem dX0_strike_1 : decode cX0_strike 1 = .ok (.iload_n 1, 1) := dk_27 (dk_at dksX0_strike_0 1 rfl rfl)
theorem dX0_strike_2 : decode cX0_strike 2 = .ok (.invokevirtual 400, 3) := dk_182 1 144 (dk_at dksX0_strike_0 2 rfl rfl)
theorem dX0_strike_5 : decode cX0_strike 5 = .ok (.ifCond .eq 10, 3) := dk_153 0 10 (dk_at dksX0_strike_0 5 rfl rfl)
theorem dX0_strike_8 : decode cX0_strike 8 = .ok (.iload_n 2, 1) := dk_28 (dk_at dksX0_strike_0 8 rfl rfl)
theorem dX0_strike_9 : decode cX0_strike 9 = .ok (.invokestatic 403, 3) := dk_184 1 147 (dk_at dksX0_strike_0 9 rfl rfl)
theorem dX0_strike_12 : decode cX0_strike 12 = .ok (.ifCond .ne 5, 3) := dk_154 0 5 (dk_at dksX0_strike_0 12 rfl rfl)
theorem dX0_strike_15 : decode cX0_strike 15 = .ok (.iconst (-1), 1) := dk_2 (dk_at dksX0_strike_0 15 rfl rfl)
theorem dX0_strike_16 : decode cX0_strike 16 = .ok (.ireturn, 1) := dk_172 (dk_at dksX0_strike_0 16 rfl rfl)
theorem dX0_strike_17 : decode cX0_strike 17 = .ok (.aload_n 0, 1) := dk_42 (dk_at dksX0_strike_0 17 rfl rfl)
theorem dX0_strike_18 : decode cX0_strike 18 = .ok (.getfield 40, 3) := dk_180 0 40 (dk_at dksX0_strike_0 18 rfl rfl)
theorem dX0_strike_21 : decode cX0_strike 21 = .ok (.iload_n 1, 1) := dk_27 (dk_at dksX0_strike_0 21 rfl rfl)
theorem dX0_strike_22 : decode cX0_strike 22 = .ok (.invokeinterface 152 2, 5) := by decide +kernel
theorem dX0_strike_27 : decode cX0_strike 27 = .ok (.checkcast 382, 3) := dk_192 1 126 (dk_at dksX0_strike_1 5 rfl rfl)
theorem dX0_strike_30 : decode cX0_strike 30 = .ok (.getfield 412, 3) := dk_180 1 156 (dk_at dksX0_strike_1 8 rfl rfl)
theorem dX0_strike_33 : decode cX0_strike 33 = .ok (.bipush (-4), 2) := dk_16 252 (dk_at dksX0_strike_1 11 rfl rfl)
theorem dX0_strike_35 : decode cX0_strike 35 = .ok (.if_icmp .eq 6, 3) := dk_159 0 6 (dk_at dksX0_strike_1 13 rfl rfl)
theorem dX0_strike_38 : decode cX0_strike 38 = .ok (.bipush (-2), 2) := dk_16 254 (dk_at dksX0_strike_1 16 rfl rfl)
theorem dX0_strike_40 : decode cX0_strike 40 = .ok (.ireturn, 1) := dk_172 (dk_at dksX0_strike_1 18 rfl rfl)
theorem dX0_strike_41 : decode cX0_strike 41 = .ok (.aload_n 0, 1) := dk_42 (dk_at dksX0_strike_1 19 rfl rfl)
theorem dX0_strike_42 : decode cX0_strike 42 = .ok (.getfield 40, 3) := dk_180 0 40 (dk_at dksX0_strike_1 20 rfl rfl)
theorem dX0_strike_45 : decode cX0_strike 45 = .ok (.iload_n 1, 1) := dk_27 (dk_at dksX0_strike_1 23 rfl rfl)
theorem dX0_strike_46 : decode cX0_strike 46 = .ok (.invokeinterface 152 2, 5) := by decide +kernel
theorem dX0_strike_51 : decode cX0_strike 51 = .ok (.checkcast 382, 3) := dk_192 1 126 (dk_at dksX0_strike_2 5 rfl rfl)
theorem dX0_strike_54 : decode cX0_strike 54 = .ok (.iload_n 2, 1) := dk_28 (dk_at dksX0_strike_2 8 rfl rfl)
theorem dX0_strike_55 : decode cX0_strike 55 = .ok (.putfield 412, 3) := dk_181 1 156 (dk_at dksX0_strike_2 9 rfl rfl)
theorem dX0_strike_58 : decode cX0_strike 58 = .ok (.iconst 1, 1) := dk_4 (dk_at dksX0_strike_2 12 rfl rfl)
theorem dX0_strike_59 : decode cX0_strike 59 = .ok (.ireturn, 1) := dk_172 (dk_at dksX0_strike_2 13 rfl rfl)
abbrev cX0_why : ByteArray := prog_1_method_64_code
def yX0_why : MethodName := ⟨RX0, "why", "(IIII)I"⟩
def dkwX0_why_3 : List UInt8 := [192, 0, 106, 21, 4, 182, 1, 51, 172]
abbrev dktX0_why_3 : List UInt8 := dkwX0_why_3 ++ []
def dkwX0_why_2 : List UInt8 := [180, 0, 28, 28, 185, 0, 152, 2, 0, 192, 0, 203, 42, 180, 0, 12, 29, 185, 0, 152, 2, 0]
abbrev dktX0_why_2 : List UInt8 := dkwX0_why_2 ++ dktX0_why_3
def dkwX0_why_1 : List UInt8 := [153, 0, 11, 21, 4, 184, 1, 147, 154, 0, 5, 2, 172, 42, 19, 1, 131, 27, 182, 1, 168, 42]
abbrev dktX0_why_1 : List UInt8 := dkwX0_why_1 ++ dktX0_why_2
def dkwX0_why_0 : List UInt8 := [27, 3, 5, 184, 0, 97, 153, 0, 27, 42, 28, 182, 0, 245, 153, 0, 19, 42, 29, 182, 0, 143]
abbrev dktX0_why_0 : List UInt8 := dkwX0_why_0 ++ dktX0_why_1
theorem dksX0_why_0 : cX0_why.data.toList.drop 0 = dktX0_why_0 := by decide +kernel
theorem dksX0_why_1 : cX0_why.data.toList.drop 22 = dktX0_why_1 := dk_seg dksX0_why_0 22 rfl rfl
theorem dksX0_why_2 : cX0_why.data.toList.drop 44 = dktX0_why_2 := dk_seg dksX0_why_1 22 rfl rfl
theorem dksX0_why_3 : cX0_why.data.toList.drop 66 = dktX0_why_3 := dk_seg dksX0_why_2 22 rfl rfl
theorem dX0_why_0 : decode cX0_why 0 = .ok (.iload_n 1, 1) := dk_27 (dk_at dksX0_why_0 0 rfl rfl)
theorem dX0_why_1 : decode cX0_why 1 = .ok (.iconst 0, 1) := dk_3 (dk_at dksX0_why_0 1 rfl rfl)
theorem dX0_why_2 : decode cX0_why 2 = .ok (.iconst 2, 1) := dk_5 (dk_at dksX0_why_0 2 rfl rfl)
theorem dX0_why_3 : decode cX0_why 3 = .ok (.invokestatic 97, 3) := dk_184 0 97 (dk_at dksX0_why_0 3 rfl rfl)
theorem dX0_why_6 : decode cX0_why 6 = .ok (.ifCond .eq 27, 3) := dk_153 0 27 (dk_at dksX0_why_0 6 rfl rfl)
theorem dX0_why_9 : decode cX0_why 9 = .ok (.aload_n 0, 1) := dk_42 (dk_at dksX0_why_0 9 rfl rfl)
theorem dX0_why_10 : decode cX0_why 10 = .ok (.iload_n 2, 1) := dk_28 (dk_at dksX0_why_0 10 rfl rfl)
theorem dX0_why_11 : decode cX0_why 11 = .ok (.invokevirtual 245, 3) := dk_182 0 245 (dk_at dksX0_why_0 11 rfl rfl)
theorem dX0_why_14 : decode cX0_why 14 = .ok (.ifCond .eq 19, 3) := dk_153 0 19 (dk_at dksX0_why_0 14 rfl rfl)
theorem dX0_why_17 : decode cX0_why 17 = .ok (.aload_n 0, 1) := dk_42 (dk_at dksX0_why_0 17 rfl rfl)
theorem dX0_why_18 : decode cX0_why 18 = .ok (.iload_n 3, 1) := dk_29 (dk_at dksX0_why_0 18 rfl rfl)
theorem dX0_why_19 : decode cX0_why 19 = .ok (.invokevirtual 143, 3) := dk_182 0 143 (dk_at dksX0_why_0 19 rfl rfl)
theorem dX0_why_22 : decode cX0_why 22 = .ok (.ifCond .eq 11, 3) := dk_153 0 11 (dk_at dksX0_why_1 0 rfl rfl)
theorem dX0_why_25 : decode cX0_why 25 = .ok (.iload 4, 2) := dk_21 4 (dk_at dksX0_why_1 3 rfl rfl)
theorem dX0_why_27 : decode cX0_why 27 = .ok (.invokestatic 403, 3) := dk_184 1 147 (dk_at dksX0_why_1 5 rfl rfl)
theorem dX0_why_30 : decode cX0_why 30 = .ok (.ifCond .ne 5, 3) := dk_154 0 5 (dk_at dksX0_why_1 8 rfl rfl)
theorem dX0_why_33 : decode cX0_why 33 = .ok (.iconst (-1), 1) := dk_2 (dk_at dksX0_why_1 11 rfl rfl)
theorem dX0_why_34 : decode cX0_why 34 = .ok (.ireturn, 1) := dk_172 (dk_at dksX0_why_1 12 rfl rfl)
theorem dX0_why_35 : decode cX0_why 35 = .ok (.aload_n 0, 1) := dk_42 (dk_at dksX0_why_1 13 rfl rfl)
theorem dX0_why_36 : decode cX0_why 36 = .ok (.ldc_w 387, 3) := dk_19 1 131 (dk_at dksX0_why_1 14 rfl rfl)
theorem dX0_why_39 : decode cX0_why 39 = .ok (.iload_n 1, 1) := dk_27 (dk_at dksX0_why_1 17 rfl rfl)
theorem dX0_why_40 : decode cX0_why 40 = .ok (.invokevirtual 424, 3) := dk_182 1 168 (dk_at dksX0_why_1 18 rfl rfl)
theorem dX0_why_43 : decode cX0_why 43 = .ok (.aload_n 0, 1) := dk_42 (dk_at dksX0_why_1 21 rfl rfl)
theorem dX0_why_44 : decode cX0_why 44 = .ok (.getfield 28, 3) := dk_180 0 28 (dk_at dksX0_why_2 0 rfl rfl)
theorem dX0_why_47 : decode cX0_why 47 = .ok (.iload_n 2, 1) := dk_28 (dk_at dksX0_why_2 3 rfl rfl)
theorem dX0_why_48 : decode cX0_why 48 = .ok (.invokeinterface 152 2, 5) := by decide +kernel
theorem dX0_why_53 : decode cX0_why 53 = .ok (.checkcast 203, 3) := dk_192 0 203 (dk_at dksX0_why_2 9 rfl rfl)
theorem dX0_why_56 : decode cX0_why 56 = .ok (.aload_n 0, 1) := dk_42 (dk_at dksX0_why_2 12 rfl rfl)
theorem dX0_why_57 : decode cX0_why 57 = .ok (.getfield 12, 3) := dk_180 0 12 (dk_at dksX0_why_2 13 rfl rfl)
theorem dX0_why_60 : decode cX0_why 60 = .ok (.iload_n 3, 1) := dk_29 (dk_at dksX0_why_2 16 rfl rfl)
theorem dX0_why_61 : decode cX0_why 61 = .ok (.invokeinterface 152 2, 5) := by decide +kernel
theorem dX0_why_66 : decode cX0_why 66 = .ok (.checkcast 106, 3) := dk_192 0 106 (dk_at dksX0_why_3 0 rfl rfl)
theorem dX0_why_69 : decode cX0_why 69 = .ok (.iload 4, 2) := dk_21 4 (dk_at dksX0_why_3 3 rfl rfl)
theorem dX0_why_71 : decode cX0_why 71 = .ok (.invokevirtual 307, 3) := dk_182 1 51 (dk_at dksX0_why_3 5 rfl rfl)
theorem dX0_why_74 : decode cX0_why 74 = .ok (.ireturn, 1) := dk_172 (dk_at dksX0_why_3 8 rfl rfl)
abbrev cX0_tonight : ByteArray := prog_1_method_68_code
def yX0_tonight : MethodName := ⟨RX0, "tonight", "(I)I"⟩
def dkwX0_tonight_4 : List UInt8 := [21, 4, 120, 167, 0, 4, 3, 128, 62, 132, 4, 1, 167, 255, 190, 29, 172]
abbrev dktX0_tonight_4 : List UInt8 := dkwX0_tonight_4 ++ []
def dkwX0_tonight_3 : List UInt8 := [193, 0, 125, 153, 0, 27, 25, 6, 192, 0, 125, 58, 5, 42, 44, 25, 5, 182, 1, 187, 153, 0, 10, 4]
abbrev dktX0_tonight_3 : List UInt8 := dkwX0_tonight_3 ++ dktX0_tonight_4
def dkwX0_tonight_2 : List UInt8 := [185, 0, 91, 1, 0, 162, 0, 58, 29, 42, 180, 0, 12, 21, 4, 185, 0, 152, 2, 0, 58, 6, 25, 6]
abbrev dktX0_tonight_2 : List UInt8 := dkwX0_tonight_2 ++ dktX0_tonight_3
def dkwX0_tonight_1 : List UInt8 := [42, 180, 0, 169, 184, 1, 176, 154, 0, 6, 16, 254, 172, 3, 62, 3, 54, 4, 21, 4, 42, 180, 0, 12]
abbrev dktX0_tonight_1 : List UInt8 := dkwX0_tonight_1 ++ dktX0_tonight_2
def dkwX0_tonight_0 : List UInt8 := [27, 153, 0, 11, 42, 27, 182, 1, 45, 154, 0, 5, 2, 172, 42, 27, 182, 1, 183, 77, 44, 198, 0, 13]
abbrev dktX0_tonight_0 : List UInt8 := dkwX0_tonight_0 ++ dktX0_tonight_1
theorem dksX0_tonight_0 : cX0_tonight.data.toList.drop 0 = dktX0_tonight_0 := by decide +kernel
theorem dksX0_tonight_1 : cX0_tonight.data.toList.drop 24 = dktX0_tonight_1 := dk_seg dksX0_tonight_0 24 rfl rfl
theorem dksX0_tonight_2 : cX0_tonight.data.toList.drop 48 = dktX0_tonight_2 := dk_seg dksX0_tonight_1 24 rfl rfl
theorem dksX0_tonight_3 : cX0_tonight.data.toList.drop 72 = dktX0_tonight_3 := dk_seg dksX0_tonight_2 24 rfl rfl
theorem dksX0_tonight_4 : cX0_tonight.data.toList.drop 96 = dktX0_tonight_4 := dk_seg dksX0_tonight_3 24 rfl rfl
theorem dX0_tonight_0 : decode cX0_tonight 0 = .ok (.iload_n 1, 1) := dk_27 (dk_at dksX0_tonight_0 0 rfl rfl)
theorem dX0_tonight_1 : decode cX0_tonight 1 = .ok (.ifCond .eq 11, 3) := dk_153 0 11 (dk_at dksX0_tonight_0 1 rfl rfl)
theorem dX0_tonight_4 : decode cX0_tonight 4 = .ok (.aload_n 0, 1) := dk_42 (dk_at dksX0_tonight_0 4 rfl rfl)
theorem dX0_tonight_5 : decode cX0_tonight 5 = .ok (.iload_n 1, 1) := dk_27 (dk_at dksX0_tonight_0 5 rfl rfl)
theorem dX0_tonight_6 : decode cX0_tonight 6 = .ok (.invokevirtual 301, 3) := dk_182 1 45 (dk_at dksX0_tonight_0 6 rfl rfl)
theorem dX0_tonight_9 : decode cX0_tonight 9 = .ok (.ifCond .ne 5, 3) := dk_154 0 5 (dk_at dksX0_tonight_0 9 rfl rfl)
theorem dX0_tonight_12 : decode cX0_tonight 12 = .ok (.iconst (-1), 1) := dk_2 (dk_at dksX0_tonight_0 12 rfl rfl)
theorem dX0_tonight_13 : decode cX0_tonight 13 = .ok (.ireturn, 1) := dk_172 (dk_at dksX0_tonight_0 13 rfl rfl)
theorem dX0_tonight_14 : decode cX0_tonight 14 = .ok (.aload_n 0, 1) := dk_42 (dk_at dksX0_tonight_0 14 rfl rfl)
theorem dX0_tonight_15 : decode cX0_tonight 15 = .ok (.iload_n 1, 1) := dk_27 (dk_at dksX0_tonight_0 15 rfl rfl)
theorem dX0_tonight_16 : decode cX0_tonight 16 = .ok (.invokevirtual 439, 3) := dk_182 1 183 (dk_at dksX0_tonight_0 16 rfl rfl)
theorem dX0_tonight_19 : decode cX0_tonight 19 = .ok (.astore_n 2, 1) := dk_77 (dk_at dksX0_tonight_0 19 rfl rfl)
theorem dX0_tonight_20 : decode cX0_tonight 20 = .ok (.aload_n 2, 1) := dk_44 (dk_at dksX0_tonight_0 20 rfl rfl)
theorem dX0_tonight_21 : decode cX0_tonight 21 = .ok (.ifnull 13, 3) := dk_198 0 13 (dk_at dksX0_tonight_0 21 rfl rfl)
theorem dX0_tonight_24 : decode cX0_tonight 24 = .ok (.aload_n 0, 1) := dk_42 (dk_at dksX0_tonight_1 0 rfl rfl)
theorem dX0_tonight_25 : decode cX0_tonight 25 = .ok (.getfield 169, 3) := dk_180 0 169 (dk_at dksX0_tonight_1 1 rfl rfl)
theorem dX0_tonight_28 : decode cX0_tonight 28 = .ok (.invokestatic 432, 3) := dk_184 1 176 (dk_at dksX0_tonight_1 4 rfl rfl)
theorem dX0_tonight_31 : decode cX0_tonight 31 = .ok (.ifCond .ne 6, 3) := dk_154 0 6 (dk_at dksX0_tonight_1 7 rfl rfl)
theorem dX0_tonight_34 : decode cX0_tonight 34 = .ok (.bipush (-2), 2) := dk_16 254 (dk_at dksX0_tonight_1 10 rfl rfl)
theorem dX0_tonight_36 : decode cX0_tonight 36 = .ok (.ireturn, 1) := dk_172 (dk_at dksX0_tonight_1 12 rfl rfl)
theorem dX0_tonight_37 : decode cX0_tonight 37 = .ok (.iconst 0, 1) := dk_3 (dk_at dksX0_tonight_1 13 rfl rfl)
theorem dX0_tonight_38 : decode cX0_tonight 38 = .ok (.istore_n 3, 1) := dk_62 (dk_at dksX0_tonight_1 14 rfl rfl)
theorem dX0_tonight_39 : decode cX0_tonight 39 = .ok (.iconst 0, 1) := dk_3 (dk_at dksX0_tonight_1 15 rfl rfl)
theorem dX0_tonight_40 : decode cX0_tonight 40 = .ok (.istore 4, 2) := dk_54 4 (dk_at dksX0_tonight_1 16 rfl rfl)
theorem dX0_tonight_42 : decode cX0_tonight 42 = .ok (.iload 4, 2) := dk_21 4 (dk_at dksX0_tonight_1 18 rfl rfl)
theorem dX0_tonight_44 : decode cX0_tonight 44 = .ok (.aload_n 0, 1) := dk_42 (dk_at dksX0_tonight_1 20 rfl rfl)
theorem dX0_tonight_45 : decode cX0_tonight 45 = .ok (.getfield 12, 3) := dk_180 0 12 (dk_at dksX0_tonight_1 21 rfl rfl)
theorem dX0_tonight_48 : decode cX0_tonight 48 = .ok (.invokeinterface 91 1, 5) := by decide +kernel
theorem dX0_tonight_53 : decode cX0_tonight 53 = .ok (.if_icmp .ge 58, 3) := dk_162 0 58 (dk_at dksX0_tonight_2 5 rfl rfl)
theorem dX0_tonight_56 : decode cX0_tonight 56 = .ok (.iload_n 3, 1) := dk_29 (dk_at dksX0_tonight_2 8 rfl rfl)
theorem dX0_tonight_57 : decode cX0_tonight 57 = .ok (.aload_n 0, 1) := dk_42 (dk_at dksX0_tonight_2 9 rfl rfl)
theorem dX0_tonight_58 : decode cX0_tonight 58 = .ok (.getfield 12, 3) := dk_180 0 12 (dk_at dksX0_tonight_2 10 rfl rfl)
theorem dX0_tonight_61 : decode cX0_tonight 61 = .ok (.iload 4, 2) := dk_21 4 (dk_at dksX0_tonight_2 13 rfl rfl)
theorem dX0_tonight_63 : decode cX0_tonight 63 = .ok (.invokeinterface 152 2, 5) := by decide +kernel
theorem dX0_tonight_68 : decode cX0_tonight 68 = .ok (.astore 6, 2) := dk_58 6 (dk_at dksX0_tonight_2 20 rfl rfl)
theorem dX0_tonight_70 : decode cX0_tonight 70 = .ok (.aload 6, 2) := dk_25 6 (dk_at dksX0_tonight_2 22 rfl rfl)
theorem dX0_tonight_72 : decode cX0_tonight 72 = .ok (.instanceof 125, 3) := dk_193 0 125 (dk_at dksX0_tonight_3 0 rfl rfl)
theorem dX0_tonight_75 : decode cX0_tonight 75 = .ok (.ifCond .eq 27, 3) := dk_153 0 27 (dk_at dksX0_tonight_3 3 rfl rfl)
theorem dX0_tonight_78 : decode cX0_tonight 78 = .ok (.aload 6, 2) := dk_25 6 (dk_at dksX0_tonight_3 6 rfl rfl)
theorem dX0_tonight_80 : decode cX0_tonight 80 = .ok (.checkcast 125, 3) := dk_192 0 125 (dk_at dksX0_tonight_3 8 rfl rfl)
theorem dX0_tonight_83 : decode cX0_tonight 83 = .ok (.astore 5, 2) := dk_58 5 (dk_at dksX0_tonight_3 11 rfl rfl)
theorem dX0_tonight_85 : decode cX0_tonight 85 = .ok (.aload_n 0, 1) := dk_42 (dk_at dksX0_tonight_3 13 rfl rfl)
theorem dX0_tonight_86 : decode cX0_tonight 86 = .ok (.aload_n 2, 1) := dk_44 (dk_at dksX0_tonight_3 14 rfl rfl)
theorem dX0_tonight_87 : decode cX0_tonight 87 = .ok (.aload 5, 2) := dk_25 5 (dk_at dksX0_tonight_3 15 rfl rfl)
theorem dX0_tonight_89 : decode cX0_tonight 89 = .ok (.invokevirtual 443, 3) := dk_182 1 187 (dk_at dksX0_tonight_3 17 rfl rfl)
theorem dX0_tonight_92 : decode cX0_tonight 92 = .ok (.ifCond .eq 10, 3) := dk_153 0 10 (dk_at dksX0_tonight_3 20 rfl rfl)
theorem dX0_tonight_95 : decode cX0_tonight 95 = .ok (.iconst 1, 1) := dk_4 (dk_at dksX0_tonight_3 23 rfl rfl)
theorem dX0_tonight_96 : decode cX0_tonight 96 = .ok (.iload 4, 2) := dk_21 4 (dk_at dksX0_tonight_4 0 rfl rfl)
theorem dX0_tonight_98 : decode cX0_tonight 98 = .ok (.ishl, 1) := dk_120 (dk_at dksX0_tonight_4 2 rfl rfl)
theorem dX0_tonight_99 : decode cX0_tonight 99 = .ok (.goto 4, 3) := dk_167 0 4 (dk_at dksX0_tonight_4 3 rfl rfl)
theorem dX0_tonight_102 : decode cX0_tonight 102 = .ok (.iconst 0, 1) := dk_3 (dk_at dksX0_tonight_4 6 rfl rfl)
theorem dX0_tonight_103 : decode cX0_tonight 103 = .ok (.ior, 1) := dk_128 (dk_at dksX0_tonight_4 7 rfl rfl)
theorem dX0_tonight_104 : decode cX0_tonight 104 = .ok (.istore_n 3, 1) := dk_62 (dk_at dksX0_tonight_4 8 rfl rfl)
theorem dX0_tonight_105 : decode cX0_tonight 105 = .ok (.iinc 4 1, 3) := dk_132 4 1 (dk_at dksX0_tonight_4 9 rfl rfl)
theorem dX0_tonight_108 : decode cX0_tonight 108 = .ok (.goto (-66), 3) := dk_167 255 190 (dk_at dksX0_tonight_4 12 rfl rfl)
theorem dX0_tonight_111 : decode cX0_tonight 111 = .ok (.iload_n 3, 1) := dk_29 (dk_at dksX0_tonight_4 15 rfl rfl)
theorem dX0_tonight_112 : decode cX0_tonight 112 = .ok (.ireturn, 1) := dk_172 (dk_at dksX0_tonight_4 16 rfl rfl)
abbrev cX0_findBand : ByteArray := prog_1_method_65_code
def yX0_findBand : MethodName := ⟨RX0, "findBand", "(I)LRoadHouses$Place;"⟩
def dkwX0_findBand_6 : List UInt8 := [185, 1, 172, 2, 0, 87, 132, 3, 1, 167, 255, 121, 44, 176]
abbrev dktX0_findBand_6 : List UInt8 := dkwX0_findBand_6 ++ []
def dkwX0_findBand_5 : List UInt8 := [25, 4, 182, 0, 248, 154, 0, 24, 42, 25, 4, 182, 1, 16, 87, 42, 180, 0, 57, 42, 180, 0, 31]
abbrev dktX0_findBand_5 : List UInt8 := dkwX0_findBand_5 ++ dktX0_findBand_6
def dkwX0_findBand_4 : List UInt8 := [154, 0, 16, 44, 198, 0, 14, 44, 25, 4, 180, 0, 209, 165, 0, 5, 1, 176, 25, 4, 180, 0, 209, 77]
abbrev dktX0_findBand_4 : List UInt8 := dkwX0_findBand_4 ++ dktX0_findBand_5
def dkwX0_findBand_3 : List UInt8 := [4, 126, 154, 0, 7, 4, 167, 0, 4, 3, 54, 5, 25, 4, 180, 0, 209, 198, 0, 21, 21, 5]
abbrev dktX0_findBand_3 : List UInt8 := dkwX0_findBand_3 ++ dktX0_findBand_4
def dkwX0_findBand_2 : List UInt8 := [154, 0, 6, 167, 0, 96, 25, 4, 182, 0, 248, 153, 0, 22, 27, 25, 4, 180, 1, 1, 180, 0, 234, 122]
abbrev dktX0_findBand_2 : List UInt8 := dkwX0_findBand_2 ++ dktX0_findBand_3
def dkwX0_findBand_1 : List UInt8 := [162, 0, 128, 42, 180, 0, 28, 29, 185, 0, 152, 2, 0, 192, 0, 203, 58, 4, 27, 29, 122, 4, 126]
abbrev dktX0_findBand_1 : List UInt8 := dkwX0_findBand_1 ++ dktX0_findBand_2
def dkwX0_findBand_0 : List UInt8 := [42, 180, 0, 57, 185, 1, 8, 1, 0, 1, 77, 3, 62, 29, 42, 180, 0, 28, 185, 0, 91, 1, 0]
abbrev dktX0_findBand_0 : List UInt8 := dkwX0_findBand_0 ++ dktX0_findBand_1
theorem dksX0_findBand_0 : cX0_findBand.data.toList.drop 0 = dktX0_findBand_0 := by decide +kernel
theorem dksX0_findBand_1 : cX0_findBand.data.toList.drop 23 = dktX0_findBand_1 := dk_seg dksX0_findBand_0 23 rfl rfl
theorem dksX0_findBand_2 : cX0_findBand.data.toList.drop 46 = dktX0_findBand_2 := dk_seg dksX0_findBand_1 23 rfl rfl
theorem dksX0_findBand_3 : cX0_findBand.data.toList.drop 70 = dktX0_findBand_3 := dk_seg dksX0_findBand_2 24 rfl rfl
theorem dksX0_findBand_4 : cX0_findBand.data.toList.drop 92 = dktX0_findBand_4 := dk_seg dksX0_findBand_3 22 rfl rfl
theorem dksX0_findBand_5 : cX0_findBand.data.toList.drop 116 = dktX0_findBand_5 := dk_seg dksX0_findBand_4 24 rfl rfl
theorem dksX0_findBand_6 : cX0_findBand.data.toList.drop 139 = dktX0_findBand_6 := dk_seg dksX0_findBand_5 23 rfl rfl
theorem dX0_findBand_0 : decode cX0_findBand 0 = .ok (.aload_n 0, 1) := dk_42 (dk_at dksX0_findBand_0 0 rfl rfl)
theorem dX0_findBand_1 : decode cX0_findBand 1 = .ok (.getfield 57, 3) := dk_180 0 57 (dk_at dksX0_findBand_0 1 rfl rfl)
theorem dX0_findBand_4 : decode cX0_findBand 4 = .ok (.invokeinterface 264 1, 5) := by decide +kernel
theorem dX0_findBand_9 : decode cX0_findBand 9 = .ok (.aconst_null, 1) := dk_1 (dk_at dksX0_findBand_0 9 rfl rfl)
theorem dX0_findBand_10 : decode cX0_findBand 10 = .ok (.astore_n 2, 1) := dk_77 (dk_at dksX0_findBand_0 10 rfl rfl)
theorem dX0_findBand_11 : decode cX0_findBand 11 = .ok (.iconst 0, 1) := dk_3 (dk_at dksX0_findBand_0 11 rfl rfl)
theorem dX0_findBand_12 : decode cX0_findBand 12 = .ok (.istore_n 3, 1) := dk_62 (dk_at dksX0_findBand_0 12 rfl rfl)
theorem dX0_findBand_13 : decode cX0_findBand 13 = .ok (.iload_n 3, 1) := dk_29 (dk_at dksX0_findBand_0 13 rfl rfl)
theorem dX0_findBand_14 : decode cX0_findBand 14 = .ok (.aload_n 0, 1) := dk_42 (dk_at dksX0_findBand_0 14 rfl rfl)
theorem dX0_findBand_15 : decode cX0_findBand 15 = .ok (.getfield 28, 3) := dk_180 0 28 (dk_at dksX0_findBand_0 15 rfl rfl)
theorem dX0_findBand_18 : decode cX0_findBand 18 = .ok (.invokeinterface 91 1, 5) := by decide +kernel
theorem dX0_findBand_23 : decode cX0_findBand 23 = .ok (.if_icmp .ge 128, 3) := dk_162 0 128 (dk_at dksX0_findBand_1 0 rfl rfl)
theorem dX0_findBand_26 : decode cX0_findBand 26 = .ok (.aload_n 0, 1) := dk_42 (dk_at dksX0_findBand_1 3 rfl rfl)
theorem dX0_findBand_27 : decode cX0_findBand 27 = .ok (.getfield 28, 3) := dk_180 0 28 (dk_at dksX0_findBand_1 4 rfl rfl)
theorem dX0_findBand_30 : decode cX0_findBand 30 = .ok (.iload_n 3, 1) := dk_29 (dk_at dksX0_findBand_1 7 rfl rfl)
theorem dX0_findBand_31 : decode cX0_findBand 31 = .ok (.invokeinterface 152 2, 5) := by decide +kernel
theorem dX0_findBand_36 : decode cX0_findBand 36 = .ok (.checkcast 203, 3) := dk_192 0 203 (dk_at dksX0_findBand_1 13 rfl rfl)
theorem dX0_findBand_39 : decode cX0_findBand 39 = .ok (.astore 4, 2) := dk_58 4 (dk_at dksX0_findBand_1 16 rfl rfl)
theorem dX0_findBand_41 : decode cX0_findBand 41 = .ok (.iload_n 1, 1) := dk_27 (dk_at dksX0_findBand_1 18 rfl rfl)
theorem dX0_findBand_42 : decode cX0_findBand 42 = .ok (.iload_n 3, 1) := dk_29 (dk_at dksX0_findBand_1 19 rfl rfl)
theorem dX0_findBand_43 : decode cX0_findBand 43 = .ok (.ishr, 1) := dk_122 (dk_at dksX0_findBand_1 20 rfl rfl)
theorem dX0_findBand_44 : decode cX0_findBand 44 = .ok (.iconst 1, 1) := dk_4 (dk_at dksX0_findBand_1 21 rfl rfl)
theorem dX0_findBand_45 : decode cX0_findBand 45 = .ok (.iand, 1) := dk_126 (dk_at dksX0_findBand_1 22 rfl rfl)
theorem dX0_findBand_46 : decode cX0_findBand 46 = .ok (.ifCond .ne 6, 3) := dk_154 0 6 (dk_at dksX0_findBand_2 0 rfl rfl)
theorem dX0_findBand_49 : decode cX0_findBand 49 = .ok (.goto 96, 3) := dk_167 0 96 (dk_at dksX0_findBand_2 3 rfl rfl)
theorem dX0_findBand_52 : decode cX0_findBand 52 = .ok (.aload 4, 2) := dk_25 4 (dk_at dksX0_findBand_2 6 rfl rfl)
theorem dX0_findBand_54 : decode cX0_findBand 54 = .ok (.invokevirtual 248, 3) := dk_182 0 248 (dk_at dksX0_findBand_2 8 rfl rfl)
theorem dX0_findBand_57 : decode cX0_findBand 57 = .ok (.ifCond .eq 22, 3) := dk_153 0 22 (dk_at dksX0_findBand_2 11 rfl rfl)
theorem dX0_findBand_60 : decode cX0_findBand 60 = .ok (.iload_n 1, 1) := dk_27 (dk_at dksX0_findBand_2 14 rfl rfl)
theorem dX0_findBand_61 : decode cX0_findBand 61 = .ok (.aload 4, 2) := dk_25 4 (dk_at dksX0_findBand_2 15 rfl rfl)
theorem dX0_findBand_63 : decode cX0_findBand 63 = .ok (.getfield 257, 3) := dk_180 1 1 (dk_at dksX0_findBand_2 17 rfl rfl)
theorem dX0_findBand_66 : decode cX0_findBand 66 = .ok (.getfield 234, 3) := dk_180 0 234 (dk_at dksX0_findBand_2 20 rfl rfl)
theorem dX0_findBand_69 : decode cX0_findBand 69 = .ok (.ishr, 1) := dk_122 (dk_at dksX0_findBand_2 23 rfl rfl)
theorem dX0_findBand_70 : decode cX0_findBand 70 = .ok (.iconst 1, 1) := dk_4 (dk_at dksX0_findBand_3 0 rfl rfl)
theorem dX0_findBand_71 : decode cX0_findBand 71 = .ok (.iand, 1) := dk_126 (dk_at dksX0_findBand_3 1 rfl rfl)
theorem dX0_findBand_72 : decode cX0_findBand 72 = .ok (.ifCond .ne 7, 3) := dk_154 0 7 (dk_at dksX0_findBand_3 2 rfl rfl)
theorem dX0_findBand_75 : decode cX0_findBand 75 = .ok (.iconst 1, 1) := dk_4 (dk_at dksX0_findBand_3 5 rfl rfl)
theorem dX0_findBand_76 : decode cX0_findBand 76 = .ok (.goto 4, 3) := dk_167 0 4 (dk_at dksX0_findBand_3 6 rfl rfl)
theorem dX0_findBand_79 : decode cX0_findBand 79 = .ok (.iconst 0, 1) := dk_3 (dk_at dksX0_findBand_3 9 rfl rfl)
theorem dX0_findBand_80 : decode cX0_findBand 80 = .ok (.istore 5, 2) := dk_54 5 (dk_at dksX0_findBand_3 10 rfl rfl)
theorem dX0_findBand_82 : decode cX0_findBand 82 = .ok (.aload 4, 2) := dk_25 4 (dk_at dksX0_findBand_3 12 rfl rfl)
theorem dX0_findBand_84 : decode cX0_findBand 84 = .ok (.getfield 209, 3) := dk_180 0 209 (dk_at dksX0_findBand_3 14 rfl rfl)
theorem dX0_findBand_87 : decode cX0_findBand 87 = .ok (.ifnull 21, 3) := dk_198 0 21 (dk_at dksX0_findBand_3 17 rfl rfl)
theorem dX0_findBand_90 : decode cX0_findBand 90 = .ok (.iload 5, 2) := dk_21 5 (dk_at dksX0_findBand_3 20 rfl rfl)
theorem dX0_findBand_92 : decode cX0_findBand 92 = .ok (.ifCond .ne 16, 3) := dk_154 0 16 (dk_at dksX0_findBand_4 0 rfl rfl)
theorem dX0_findBand_95 : decode cX0_findBand 95 = .ok (.aload_n 2, 1) := dk_44 (dk_at dksX0_findBand_4 3 rfl rfl)
theorem dX0_findBand_96 : decode cX0_findBand 96 = .ok (.ifnull 14, 3) := dk_198 0 14 (dk_at dksX0_findBand_4 4 rfl rfl)
theorem dX0_findBand_99 : decode cX0_findBand 99 = .ok (.aload_n 2, 1) := dk_44 (dk_at dksX0_findBand_4 7 rfl rfl)
theorem dX0_findBand_100 : decode cX0_findBand 100 = .ok (.aload 4, 2) := dk_25 4 (dk_at dksX0_findBand_4 8 rfl rfl)
theorem dX0_findBand_102 : decode cX0_findBand 102 = .ok (.getfield 209, 3) := dk_180 0 209 (dk_at dksX0_findBand_4 10 rfl rfl)
theorem dX0_findBand_105 : decode cX0_findBand 105 = .ok (.if_acmp .eq 5, 3) := dk_165 0 5 (dk_at dksX0_findBand_4 13 rfl rfl)
theorem dX0_findBand_108 : decode cX0_findBand 108 = .ok (.aconst_null, 1) := dk_1 (dk_at dksX0_findBand_4 16 rfl rfl)
theorem dX0_findBand_109 : decode cX0_findBand 109 = .ok (.areturn, 1) := dk_176 (dk_at dksX0_findBand_4 17 rfl rfl)
theorem dX0_findBand_110 : decode cX0_findBand 110 = .ok (.aload 4, 2) := dk_25 4 (dk_at dksX0_findBand_4 18 rfl rfl)
theorem dX0_findBand_112 : decode cX0_findBand 112 = .ok (.getfield 209, 3) := dk_180 0 209 (dk_at dksX0_findBand_4 20 rfl rfl)
theorem dX0_findBand_115 : decode cX0_findBand 115 = .ok (.astore_n 2, 1) := dk_77 (dk_at dksX0_findBand_4 23 rfl rfl)
theorem dX0_findBand_116 : decode cX0_findBand 116 = .ok (.aload 4, 2) := dk_25 4 (dk_at dksX0_findBand_5 0 rfl rfl)
theorem dX0_findBand_118 : decode cX0_findBand 118 = .ok (.invokevirtual 248, 3) := dk_182 0 248 (dk_at dksX0_findBand_5 2 rfl rfl)
theorem dX0_findBand_121 : decode cX0_findBand 121 = .ok (.ifCond .ne 24, 3) := dk_154 0 24 (dk_at dksX0_findBand_5 5 rfl rfl)
theorem dX0_findBand_124 : decode cX0_findBand 124 = .ok (.aload_n 0, 1) := dk_42 (dk_at dksX0_findBand_5 8 rfl rfl)
theorem dX0_findBand_125 : decode cX0_findBand 125 = .ok (.aload 4, 2) := dk_25 4 (dk_at dksX0_findBand_5 9 rfl rfl)
theorem dX0_findBand_127 : decode cX0_findBand 127 = .ok (.invokevirtual 272, 3) := dk_182 1 16 (dk_at dksX0_findBand_5 11 rfl rfl)
theorem dX0_findBand_130 : decode cX0_findBand 130 = .ok (.pop, 1) := dk_87 (dk_at dksX0_findBand_5 14 rfl rfl)
theorem dX0_findBand_131 : decode cX0_findBand 131 = .ok (.aload_n 0, 1) := dk_42 (dk_at dksX0_findBand_5 15 rfl rfl)
theorem dX0_findBand_132 : decode cX0_findBand 132 = .ok (.getfield 57, 3) := dk_180 0 57 (dk_at dksX0_findBand_5 16 rfl rfl)
theorem dX0_findBand_135 : decode cX0_findBand 135 = .ok (.aload_n 0, 1) := dk_42 (dk_at dksX0_findBand_5 19 rfl rfl)
theorem dX0_findBand_136 : decode cX0_findBand 136 = .ok (.getfield 31, 3) := dk_180 0 31 (dk_at dksX0_findBand_5 20 rfl rfl)
theorem dX0_findBand_139 : decode cX0_findBand 139 = .ok (.invokeinterface 428 2, 5) := by decide +kernel
theorem dX0_findBand_144 : decode cX0_findBand 144 = .ok (.pop, 1) := dk_87 (dk_at dksX0_findBand_6 5 rfl rfl)
theorem dX0_findBand_145 : decode cX0_findBand 145 = .ok (.iinc 3 1, 3) := dk_132 3 1 (dk_at dksX0_findBand_6 6 rfl rfl)
theorem dX0_findBand_148 : decode cX0_findBand 148 = .ok (.goto (-135), 3) := dk_167 255 121 (dk_at dksX0_findBand_6 9 rfl rfl)
theorem dX0_findBand_151 : decode cX0_findBand 151 = .ok (.aload_n 2, 1) := dk_44 (dk_at dksX0_findBand_6 12 rfl rfl)
theorem dX0_findBand_152 : decode cX0_findBand 152 = .ok (.areturn, 1) := dk_176 (dk_at dksX0_findBand_6 13 rfl rfl)
abbrev cX0_isDark : ByteArray := prog_1_method_3_code
def yX0_isDark : MethodName := ⟨RX0, "isDark", "(I)Z"⟩
def dkwX0_isDark_0 : List UInt8 := [26, 16, 24, 112, 60, 27, 16, 20, 162, 0, 9, 27, 16, 6, 162, 0, 7, 4, 167, 0, 4, 3, 172]
abbrev dktX0_isDark_0 : List UInt8 := dkwX0_isDark_0 ++ []
theorem dksX0_isDark_0 : cX0_isDark.data.toList.drop 0 = dktX0_isDark_0 := by decide +kernel
theorem dX0_isDark_0 : decode cX0_isDark 0 = .ok (.iload_n 0, 1) := dk_26 (dk_at dksX0_isDark_0 0 rfl rfl)
theorem dX0_isDark_1 : decode cX0_isDark 1 = .ok (.bipush 24, 2) := dk_16 24 (dk_at dksX0_isDark_0 1 rfl rfl)
theorem dX0_isDark_3 : decode cX0_isDark 3 = .ok (.irem, 1) := dk_112 (dk_at dksX0_isDark_0 3 rfl rfl)
theorem dX0_isDark_4 : decode cX0_isDark 4 = .ok (.istore_n 1, 1) := dk_60 (dk_at dksX0_isDark_0 4 rfl rfl)
theorem dX0_isDark_5 : decode cX0_isDark 5 = .ok (.iload_n 1, 1) := dk_27 (dk_at dksX0_isDark_0 5 rfl rfl)
theorem dX0_isDark_6 : decode cX0_isDark 6 = .ok (.bipush 20, 2) := dk_16 20 (dk_at dksX0_isDark_0 6 rfl rfl)
theorem dX0_isDark_8 : decode cX0_isDark 8 = .ok (.if_icmp .ge 9, 3) := dk_162 0 9 (dk_at dksX0_isDark_0 8 rfl rfl)
theorem dX0_isDark_11 : decode cX0_isDark 11 = .ok (.iload_n 1, 1) := dk_27 (dk_at dksX0_isDark_0 11 rfl rfl)
theorem dX0_isDark_12 : decode cX0_isDark 12 = .ok (.bipush 6, 2) := dk_16 6 (dk_at dksX0_isDark_0 12 rfl rfl)
theorem dX0_isDark_14 : decode cX0_isDark 14 = .ok (.if_icmp .ge 7, 3) := dk_162 0 7 (dk_at dksX0_isDark_0 14 rfl rfl)
theorem dX0_isDark_17 : decode cX0_isDark 17 = .ok (.iconst 1, 1) := dk_4 (dk_at dksX0_isDark_0 17 rfl rfl)
theorem dX0_isDark_18 : decode cX0_isDark 18 = .ok (.goto 4, 3) := dk_167 0 4 (dk_at dksX0_isDark_0 18 rfl rfl)
theorem dX0_isDark_21 : decode cX0_isDark 21 = .ok (.iconst 0, 1) := dk_3 (dk_at dksX0_isDark_0 21 rfl rfl)
theorem dX0_isDark_22 : decode cX0_isDark 22 = .ok (.ireturn, 1) := dk_172 (dk_at dksX0_isDark_0 22 rfl rfl)
abbrev cX0_takesBand : ByteArray := prog_1_method_67_code
def yX0_takesBand : MethodName := ⟨RX0, "takesBand", "(LRoadHouses$Place;LRoadHouses$House;)Z"⟩
def dkwX0_takesBand_7 : List UInt8 := [44, 42, 180, 0, 169, 16, 24, 108, 182, 1, 51, 156, 0, 5, 3, 172, 132, 4, 1, 167, 255, 149, 4, 172]
abbrev dktX0_takesBand_7 : List UInt8 := dkwX0_takesBand_7 ++ []
def dkwX0_takesBand_6 : List UInt8 := [96, 182, 1, 180, 154, 0, 7, 4, 167, 0, 4, 3, 54, 6, 21, 6, 154, 0, 22, 42, 16, 114, 25, 5]
abbrev dktX0_takesBand_6 : List UInt8 := dkwX0_takesBand_6 ++ dktX0_takesBand_7
def dkwX0_takesBand_5 : List UInt8 := [180, 0, 169, 42, 180, 0, 18, 43, 180, 0, 105, 50, 44, 180, 1, 179, 46, 96, 42, 25, 5, 182, 1, 16]
abbrev dktX0_takesBand_5 : List UInt8 := dkwX0_takesBand_5 ++ dktX0_takesBand_6
def dkwX0_takesBand_4 : List UInt8 := [21, 4, 185, 0, 152, 2, 0, 192, 0, 203, 58, 5, 25, 5, 182, 0, 248, 154, 0, 40, 42, 42]
abbrev dktX0_takesBand_4 : List UInt8 := dkwX0_takesBand_4 ++ dktX0_takesBand_5
def dkwX0_takesBand_3 : List UInt8 := [3, 172, 3, 54, 4, 21, 4, 42, 180, 0, 57, 185, 0, 91, 1, 0, 162, 0, 99, 42, 180, 0, 57]
abbrev dktX0_takesBand_3 : List UInt8 := dkwX0_takesBand_3 ++ dktX0_takesBand_4
def dkwX0_takesBand_2 : List UInt8 := [44, 182, 1, 12, 153, 0, 20, 42, 44, 182, 0, 235, 42, 180, 0, 57, 185, 0, 91, 1, 0, 162, 0, 5]
abbrev dktX0_takesBand_2 : List UInt8 := dkwX0_takesBand_2 ++ dktX0_takesBand_3
def dkwX0_takesBand_1 : List UInt8 := [126, 4, 160, 0, 7, 4, 167, 0, 4, 3, 62, 44, 180, 0, 163, 154, 0, 33, 29, 153, 0, 29, 42, 43]
abbrev dktX0_takesBand_1 : List UInt8 := dkwX0_takesBand_1 ++ dktX0_takesBand_2
def dkwX0_takesBand_0 : List UInt8 := [43, 193, 0, 125, 153, 0, 25, 43, 192, 0, 125, 58, 4, 25, 4, 180, 0, 160, 44, 180, 1, 179, 122, 4]
abbrev dktX0_takesBand_0 : List UInt8 := dkwX0_takesBand_0 ++ dktX0_takesBand_1
theorem dksX0_takesBand_0 : cX0_takesBand.data.toList.drop 0 = dktX0_takesBand_0 := by decide +kernel
theorem dksX0_takesBand_1 : cX0_takesBand.data.toList.drop 24 = dktX0_takesBand_1 := dk_seg dksX0_takesBand_0 24 rfl rfl
theorem dksX0_takesBand_2 : cX0_takesBand.data.toList.drop 48 = dktX0_takesBand_2 := dk_seg dksX0_takesBand_1 24 rfl rfl
theorem dksX0_takesBand_3 : cX0_takesBand.data.toList.drop 72 = dktX0_takesBand_3 := dk_seg dksX0_takesBand_2 24 rfl rfl
theorem dksX0_takesBand_4 : cX0_takesBand.data.toList.drop 95 = dktX0_takesBand_4 := dk_seg dksX0_takesBand_3 23 rfl rfl
theorem dksX0_takesBand_5 : cX0_takesBand.data.toList.drop 117 = dktX0_takesBand_5 := dk_seg dksX0_takesBand_4 22 rfl rfl
theorem dksX0_takesBand_6 : cX0_takesBand.data.toList.drop 141 = dktX0_takesBand_6 := dk_seg dksX0_takesBand_5 24 rfl rfl
theorem dksX0_takesBand_7 : cX0_takesBand.data.toList.drop 165 = dktX0_takesBand_7 := dk_seg dksX0_takesBand_6 24 rfl rfl
theorem dX0_takesBand_0 : decode cX0_takesBand 0 = .ok (.aload_n 1, 1) := dk_43 (dk_at dksX0_takesBand_0 0 rfl rfl)
theorem dX0_takesBand_1 : decode cX0_takesBand 1 = .ok (.instanceof 125, 3) := dk_193 0 125 (dk_at dksX0_takesBand_0 1 rfl rfl)
theorem dX0_takesBand_4 : decode cX0_takesBand 4 = .ok (.ifCond .eq 25, 3) := dk_153 0 25 (dk_at dksX0_takesBand_0 4 rfl rfl)
theorem dX0_takesBand_7 : decode cX0_takesBand 7 = .ok (.aload_n 1, 1) := dk_43 (dk_at dksX0_takesBand_0 7 rfl rfl)
theorem dX0_takesBand_8 : decode cX0_takesBand 8 = .ok (.checkcast 125, 3) := dk_192 0 125 (dk_at dksX0_takesBand_0 8 rfl rfl)
theorem dX0_takesBand_11 : decode cX0_takesBand 11 = .ok (.astore 4, 2) := dk_58 4 (dk_at dksX0_takesBand_0 11 rfl rfl)
theorem dX0_takesBand_13 : decode cX0_takesBand 13 = .ok (.aload 4, 2) := dk_25 4 (dk_at dksX0_takesBand_0 13 rfl rfl)
theorem dX0_takesBand_15 : decode cX0_takesBand 15 = .ok (.getfield 160, 3) := dk_180 0 160 (dk_at dksX0_takesBand_0 15 rfl rfl)
theorem dX0_takesBand_18 : decode cX0_takesBand 18 = .ok (.aload_n 2, 1) := dk_44 (dk_at dksX0_takesBand_0 18 rfl rfl)
theorem dX0_takesBand_19 : decode cX0_takesBand 19 = .ok (.getfield 435, 3) := dk_180 1 179 (dk_at dksX0_takesBand_0 19 rfl rfl)
theorem dX0_takesBand_22 : decode cX0_takesBand 22 = .ok (.ishr, 1) := dk_122 (dk_at dksX0_takesBand_0 22 rfl rfl)
theorem dX0_takesBand_23 : decode cX0_takesBand 23 = .ok (.iconst 1, 1) := dk_4 (dk_at dksX0_takesBand_0 23 rfl rfl)
theorem dX0_takesBand_24 : decode cX0_takesBand 24 = .ok (.iand, 1) := dk_126 (dk_at dksX0_takesBand_1 0 rfl rfl)
theorem dX0_takesBand_25 : decode cX0_takesBand 25 = .ok (.iconst 1, 1) := dk_4 (dk_at dksX0_takesBand_1 1 rfl rfl)
theorem dX0_takesBand_26 : decode cX0_takesBand 26 = .ok (.if_icmp .ne 7, 3) := dk_160 0 7 (dk_at dksX0_takesBand_1 2 rfl rfl)
theorem dX0_takesBand_29 : decode cX0_takesBand 29 = .ok (.iconst 1, 1) := dk_4 (dk_at dksX0_takesBand_1 5 rfl rfl)
theorem dX0_takesBand_30 : decode cX0_takesBand 30 = .ok (.goto 4, 3) := dk_167 0 4 (dk_at dksX0_takesBand_1 6 rfl rfl)
theorem dX0_takesBand_33 : decode cX0_takesBand 33 = .ok (.iconst 0, 1) := dk_3 (dk_at dksX0_takesBand_1 9 rfl rfl)
theorem dX0_takesBand_34 : decode cX0_takesBand 34 = .ok (.istore_n 3, 1) := dk_62 (dk_at dksX0_takesBand_1 10 rfl rfl)
theorem dX0_takesBand_35 : decode cX0_takesBand 35 = .ok (.aload_n 2, 1) := dk_44 (dk_at dksX0_takesBand_1 11 rfl rfl)
theorem dX0_takesBand_36 : decode cX0_takesBand 36 = .ok (.getfield 163, 3) := dk_180 0 163 (dk_at dksX0_takesBand_1 12 rfl rfl)
theorem dX0_takesBand_39 : decode cX0_takesBand 39 = .ok (.ifCond .ne 33, 3) := dk_154 0 33 (dk_at dksX0_takesBand_1 15 rfl rfl)
theorem dX0_takesBand_42 : decode cX0_takesBand 42 = .ok (.iload_n 3, 1) := dk_29 (dk_at dksX0_takesBand_1 18 rfl rfl)
theorem dX0_takesBand_43 : decode cX0_takesBand 43 = .ok (.ifCond .eq 29, 3) := dk_153 0 29 (dk_at dksX0_takesBand_1 19 rfl rfl)
theorem dX0_takesBand_46 : decode cX0_takesBand 46 = .ok (.aload_n 0, 1) := dk_42 (dk_at dksX0_takesBand_1 22 rfl rfl)
theorem dX0_takesBand_47 : decode cX0_takesBand 47 = .ok (.aload_n 1, 1) := dk_43 (dk_at dksX0_takesBand_1 23 rfl rfl)
theorem dX0_takesBand_48 : decode cX0_takesBand 48 = .ok (.aload_n 2, 1) := dk_44 (dk_at dksX0_takesBand_2 0 rfl rfl)
theorem dX0_takesBand_49 : decode cX0_takesBand 49 = .ok (.invokevirtual 268, 3) := dk_182 1 12 (dk_at dksX0_takesBand_2 1 rfl rfl)
theorem dX0_takesBand_52 : decode cX0_takesBand 52 = .ok (.ifCond .eq 20, 3) := dk_153 0 20 (dk_at dksX0_takesBand_2 4 rfl rfl)
theorem dX0_takesBand_55 : decode cX0_takesBand 55 = .ok (.aload_n 0, 1) := dk_42 (dk_at dksX0_takesBand_2 7 rfl rfl)
theorem dX0_takesBand_56 : decode cX0_takesBand 56 = .ok (.aload_n 2, 1) := dk_44 (dk_at dksX0_takesBand_2 8 rfl rfl)
theorem dX0_takesBand_57 : decode cX0_takesBand 57 = .ok (.invokevirtual 235, 3) := dk_182 0 235 (dk_at dksX0_takesBand_2 9 rfl rfl)
theorem dX0_takesBand_60 : decode cX0_takesBand 60 = .ok (.aload_n 0, 1) := dk_42 (dk_at dksX0_takesBand_2 12 rfl rfl)
theorem dX0_takesBand_61 : decode cX0_takesBand 61 = .ok (.getfield 57, 3) := dk_180 0 57 (dk_at dksX0_takesBand_2 13 rfl rfl)
theorem dX0_takesBand_64 : decode cX0_takesBand 64 = .ok (.invokeinterface 91 1, 5) := by decide +kernel
theorem dX0_takesBand_69 : decode cX0_takesBand 69 = .ok (.if_icmp .ge 5, 3) := dk_162 0 5 (dk_at dksX0_takesBand_2 21 rfl rfl)
theorem dX0_takesBand_72 : decode cX0_takesBand 72 = .ok (.iconst 0, 1) := dk_3 (dk_at dksX0_takesBand_3 0 rfl rfl)
theorem dX0_takesBand_73 : decode cX0_takesBand 73 = .ok (.ireturn, 1) := dk_172 (dk_at dksX0_takesBand_3 1 rfl rfl)
theorem dX0_takesBand_74 : decode cX0_takesBand 74 = .ok (.iconst 0, 1) := dk_3 (dk_at dksX0_takesBand_3 2 rfl rfl)
theorem dX0_takesBand_75 : decode cX0_takesBand 75 = .ok (.istore 4, 2) := dk_54 4 (dk_at dksX0_takesBand_3 3 rfl rfl)
theorem dX0_takesBand_77 : decode cX0_takesBand 77 = .ok (.iload 4, 2) := dk_21 4 (dk_at dksX0_takesBand_3 5 rfl rfl)
theorem dX0_takesBand_79 : decode cX0_takesBand 79 = .ok (.aload_n 0, 1) := dk_42 (dk_at dksX0_takesBand_3 7 rfl rfl)
theorem dX0_takesBand_80 : decode cX0_takesBand 80 = .ok (.getfield 57, 3) := dk_180 0 57 (dk_at dksX0_takesBand_3 8 rfl rfl)
theorem dX0_takesBand_83 : decode cX0_takesBand 83 = .ok (.invokeinterface 91 1, 5) := by decide +kernel
theorem dX0_takesBand_88 : decode cX0_takesBand 88 = .ok (.if_icmp .ge 99, 3) := dk_162 0 99 (dk_at dksX0_takesBand_3 16 rfl rfl)
theorem dX0_takesBand_91 : decode cX0_takesBand 91 = .ok (.aload_n 0, 1) := dk_42 (dk_at dksX0_takesBand_3 19 rfl rfl)
theorem dX0_takesBand_92 : decode cX0_takesBand 92 = .ok (.getfield 57, 3) := dk_180 0 57 (dk_at dksX0_takesBand_3 20 rfl rfl)
theorem dX0_takesBand_95 : decode cX0_takesBand 95 = .ok (.iload 4, 2) := dk_21 4 (dk_at dksX0_takesBand_4 0 rfl rfl)
theorem dX0_takesBand_97 : decode cX0_takesBand 97 = .ok (.invokeinterface 152 2, 5) := by decide +kernel
theorem dX0_takesBand_102 : decode cX0_takesBand 102 = .ok (.checkcast 203, 3) := dk_192 0 203 (dk_at dksX0_takesBand_4 7 rfl rfl)
theorem dX0_takesBand_105 : decode cX0_takesBand 105 = .ok (.astore 5, 2) := dk_58 5 (dk_at dksX0_takesBand_4 10 rfl rfl)
theorem dX0_takesBand_107 : decode cX0_takesBand 107 = .ok (.aload 5, 2) := dk_25 5 (dk_at dksX0_takesBand_4 12 rfl rfl)
theorem dX0_takesBand_109 : decode cX0_takesBand 109 = .ok (.invokevirtual 248, 3) := dk_182 0 248 (dk_at dksX0_takesBand_4 14 rfl rfl)
theorem dX0_takesBand_112 : decode cX0_takesBand 112 = .ok (.ifCond .ne 40, 3) := dk_154 0 40 (dk_at dksX0_takesBand_4 17 rfl rfl)
theorem dX0_takesBand_115 : decode cX0_takesBand 115 = .ok (.aload_n 0, 1) := dk_42 (dk_at dksX0_takesBand_4 20 rfl rfl)
theorem dX0_takesBand_116 : decode cX0_takesBand 116 = .ok (.aload_n 0, 1) := dk_42 (dk_at dksX0_takesBand_4 21 rfl rfl)
theorem dX0_takesBand_117 : decode cX0_takesBand 117 = .ok (.getfield 169, 3) := dk_180 0 169 (dk_at dksX0_takesBand_5 0 rfl rfl)
theorem dX0_takesBand_120 : decode cX0_takesBand 120 = .ok (.aload_n 0, 1) := dk_42 (dk_at dksX0_takesBand_5 3 rfl rfl)
theorem dX0_takesBand_121 : decode cX0_takesBand 121 = .ok (.getfield 18, 3) := dk_180 0 18 (dk_at dksX0_takesBand_5 4 rfl rfl)
theorem dX0_takesBand_124 : decode cX0_takesBand 124 = .ok (.aload_n 1, 1) := dk_43 (dk_at dksX0_takesBand_5 7 rfl rfl)
theorem dX0_takesBand_125 : decode cX0_takesBand 125 = .ok (.getfield 105, 3) := dk_180 0 105 (dk_at dksX0_takesBand_5 8 rfl rfl)
theorem dX0_takesBand_128 : decode cX0_takesBand 128 = .ok (.aaload, 1) := dk_50 (dk_at dksX0_takesBand_5 11 rfl rfl)
theorem dX0_takesBand_129 : decode cX0_takesBand 129 = .ok (.aload_n 2, 1) := dk_44 (dk_at dksX0_takesBand_5 12 rfl rfl)
theorem dX0_takesBand_130 : decode cX0_takesBand 130 = .ok (.getfield 435, 3) := dk_180 1 179 (dk_at dksX0_takesBand_5 13 rfl rfl)
theorem dX0_takesBand_133 : decode cX0_takesBand 133 = .ok (.iaload, 1) := dk_46 (dk_at dksX0_takesBand_5 16 rfl rfl)
theorem dX0_takesBand_134 : decode cX0_takesBand 134 = .ok (.iadd, 1) := dk_96 (dk_at dksX0_takesBand_5 17 rfl rfl)
theorem dX0_takesBand_135 : decode cX0_takesBand 135 = .ok (.aload_n 0, 1) := dk_42 (dk_at dksX0_takesBand_5 18 rfl rfl)
theorem dX0_takesBand_136 : decode cX0_takesBand 136 = .ok (.aload 5, 2) := dk_25 5 (dk_at dksX0_takesBand_5 19 rfl rfl)
theorem dX0_takesBand_138 : decode cX0_takesBand 138 = .ok (.invokevirtual 272, 3) := dk_182 1 16 (dk_at dksX0_takesBand_5 21 rfl rfl)
theorem dX0_takesBand_141 : decode cX0_takesBand 141 = .ok (.iadd, 1) := dk_96 (dk_at dksX0_takesBand_6 0 rfl rfl)
theorem dX0_takesBand_142 : decode cX0_takesBand 142 = .ok (.invokevirtual 436, 3) := dk_182 1 180 (dk_at dksX0_takesBand_6 1 rfl rfl)
theorem dX0_takesBand_145 : decode cX0_takesBand 145 = .ok (.ifCond .ne 7, 3) := dk_154 0 7 (dk_at dksX0_takesBand_6 4 rfl rfl)
theorem dX0_takesBand_148 : decode cX0_takesBand 148 = .ok (.iconst 1, 1) := dk_4 (dk_at dksX0_takesBand_6 7 rfl rfl)
theorem dX0_takesBand_149 : decode cX0_takesBand 149 = .ok (.goto 4, 3) := dk_167 0 4 (dk_at dksX0_takesBand_6 8 rfl rfl)
theorem dX0_takesBand_152 : decode cX0_takesBand 152 = .ok (.iconst 0, 1) := dk_3 (dk_at dksX0_takesBand_6 11 rfl rfl)
theorem dX0_takesBand_153 : decode cX0_takesBand 153 = .ok (.istore 6, 2) := dk_54 6 (dk_at dksX0_takesBand_6 12 rfl rfl)
theorem dX0_takesBand_155 : decode cX0_takesBand 155 = .ok (.iload 6, 2) := dk_21 6 (dk_at dksX0_takesBand_6 14 rfl rfl)
theorem dX0_takesBand_157 : decode cX0_takesBand 157 = .ok (.ifCond .ne 22, 3) := dk_154 0 22 (dk_at dksX0_takesBand_6 16 rfl rfl)
theorem dX0_takesBand_160 : decode cX0_takesBand 160 = .ok (.aload_n 0, 1) := dk_42 (dk_at dksX0_takesBand_6 19 rfl rfl)
theorem dX0_takesBand_161 : decode cX0_takesBand 161 = .ok (.bipush 114, 2) := dk_16 114 (dk_at dksX0_takesBand_6 20 rfl rfl)
theorem dX0_takesBand_163 : decode cX0_takesBand 163 = .ok (.aload 5, 2) := dk_25 5 (dk_at dksX0_takesBand_6 22 rfl rfl)
theorem dX0_takesBand_165 : decode cX0_takesBand 165 = .ok (.aload_n 2, 1) := dk_44 (dk_at dksX0_takesBand_7 0 rfl rfl)
theorem dX0_takesBand_166 : decode cX0_takesBand 166 = .ok (.aload_n 0, 1) := dk_42 (dk_at dksX0_takesBand_7 1 rfl rfl)
theorem dX0_takesBand_167 : decode cX0_takesBand 167 = .ok (.getfield 169, 3) := dk_180 0 169 (dk_at dksX0_takesBand_7 2 rfl rfl)
theorem dX0_takesBand_170 : decode cX0_takesBand 170 = .ok (.bipush 24, 2) := dk_16 24 (dk_at dksX0_takesBand_7 5 rfl rfl)
theorem dX0_takesBand_172 : decode cX0_takesBand 172 = .ok (.idiv, 1) := dk_108 (dk_at dksX0_takesBand_7 7 rfl rfl)
theorem dX0_takesBand_173 : decode cX0_takesBand 173 = .ok (.invokevirtual 307, 3) := dk_182 1 51 (dk_at dksX0_takesBand_7 8 rfl rfl)
theorem dX0_takesBand_176 : decode cX0_takesBand 176 = .ok (.ifCond .ge 5, 3) := dk_156 0 5 (dk_at dksX0_takesBand_7 11 rfl rfl)
theorem dX0_takesBand_179 : decode cX0_takesBand 179 = .ok (.iconst 0, 1) := dk_3 (dk_at dksX0_takesBand_7 14 rfl rfl)
theorem dX0_takesBand_180 : decode cX0_takesBand 180 = .ok (.ireturn, 1) := dk_172 (dk_at dksX0_takesBand_7 15 rfl rfl)
theorem dX0_takesBand_181 : decode cX0_takesBand 181 = .ok (.iinc 4 1, 3) := dk_132 4 1 (dk_at dksX0_takesBand_7 16 rfl rfl)
theorem dX0_takesBand_184 : decode cX0_takesBand 184 = .ok (.goto (-107), 3) := dk_167 255 149 (dk_at dksX0_takesBand_7 19 rfl rfl)
theorem dX0_takesBand_187 : decode cX0_takesBand 187 = .ok (.iconst 1, 1) := dk_4 (dk_at dksX0_takesBand_7 22 rfl rfl)
theorem dX0_takesBand_188 : decode cX0_takesBand 188 = .ok (.ireturn, 1) := dk_172 (dk_at dksX0_takesBand_7 23 rfl rfl)
abbrev cX0_isDarkTill : ByteArray := prog_1_method_66_code
def yX0_isDarkTill : MethodName := ⟨RX0, "isDarkTill", "(I)Z"⟩
def dkwX0_isDarkTill_1 : List UInt8 := [167, 255, 241, 28, 172]
abbrev dktX0_isDarkTill_1 : List UInt8 := dkwX0_isDarkTill_1 ++ []
def dkwX0_isDarkTill_0 : List UInt8 := [4, 61, 42, 180, 0, 169, 62, 29, 27, 163, 0, 16, 28, 29, 184, 1, 176, 126, 61, 132, 3, 1]
abbrev dktX0_isDarkTill_0 : List UInt8 := dkwX0_isDarkTill_0 ++ dktX0_isDarkTill_1
theorem dksX0_isDarkTill_0 : cX0_isDarkTill.data.toList.drop 0 = dktX0_isDarkTill_0 := by decide +kernel
theorem dksX0_isDarkTill_1 : cX0_isDarkTill.data.toList.drop 22 = dktX0_isDarkTill_1 := dk_seg dksX0_isDarkTill_0 22 rfl rfl
theorem dX0_isDarkTill_0 : decode cX0_isDarkTill 0 = .ok (.iconst 1, 1) := dk_4 (dk_at dksX0_isDarkTill_0 0 rfl rfl)
theorem dX0_isDarkTill_1 : decode cX0_isDarkTill 1 = .ok (.istore_n 2, 1) := dk_61 (dk_at dksX0_isDarkTill_0 1 rfl rfl)
theorem dX0_isDarkTill_2 : decode cX0_isDarkTill 2 = .ok (.aload_n 0, 1) := dk_42 (dk_at dksX0_isDarkTill_0 2 rfl rfl)
theorem dX0_isDarkTill_3 : decode cX0_isDarkTill 3 = .ok (.getfield 169, 3) := dk_180 0 169 (dk_at dksX0_isDarkTill_0 3 rfl rfl)
theorem dX0_isDarkTill_6 : decode cX0_isDarkTill 6 = .ok (.istore_n 3, 1) := dk_62 (dk_at dksX0_isDarkTill_0 6 rfl rfl)
theorem dX0_isDarkTill_7 : decode cX0_isDarkTill 7 = .ok (.iload_n 3, 1) := dk_29 (dk_at dksX0_isDarkTill_0 7 rfl rfl)
theorem dX0_isDarkTill_8 : decode cX0_isDarkTill 8 = .ok (.iload_n 1, 1) := dk_27 (dk_at dksX0_isDarkTill_0 8 rfl rfl)
theorem dX0_isDarkTill_9 : decode cX0_isDarkTill 9 = .ok (.if_icmp .gt 16, 3) := dk_163 0 16 (dk_at dksX0_isDarkTill_0 9 rfl rfl)
theorem dX0_isDarkTill_12 : decode cX0_isDarkTill 12 = .ok (.iload_n 2, 1) := dk_28 (dk_at dksX0_isDarkTill_0 12 rfl rfl)
theorem dX0_isDarkTill_13 : decode cX0_isDarkTill 13 = .ok (.iload_n 3, 1) := dk_29 (dk_at dksX0_isDarkTill_0 13 rfl rfl)
theorem dX0_isDarkTill_14 : decode cX0_isDarkTill 14 = .ok (.invokestatic 432, 3) := dk_184 1 176 (dk_at dksX0_isDarkTill_0 14 rfl rfl)
theorem dX0_isDarkTill_17 : decode cX0_isDarkTill 17 = .ok (.iand, 1) := dk_126 (dk_at dksX0_isDarkTill_0 17 rfl rfl)
theorem dX0_isDarkTill_18 : decode cX0_isDarkTill 18 = .ok (.istore_n 2, 1) := dk_61 (dk_at dksX0_isDarkTill_0 18 rfl rfl)
theorem dX0_isDarkTill_19 : decode cX0_isDarkTill 19 = .ok (.iinc 3 1, 3) := dk_132 3 1 (dk_at dksX0_isDarkTill_0 19 rfl rfl)
theorem dX0_isDarkTill_22 : decode cX0_isDarkTill 22 = .ok (.goto (-15), 3) := dk_167 255 241 (dk_at dksX0_isDarkTill_1 0 rfl rfl)
theorem dX0_isDarkTill_25 : decode cX0_isDarkTill 25 = .ok (.iload_n 2, 1) := dk_28 (dk_at dksX0_isDarkTill_1 3 rfl rfl)
theorem dX0_isDarkTill_26 : decode cX0_isDarkTill 26 = .ok (.ireturn, 1) := dk_172 (dk_at dksX0_isDarkTill_1 4 rfl rfl)
abbrev cX0_split : ByteArray := prog_1_method_69_code
def yX0_split : MethodName := ⟨RX0, "split", "(II)I"⟩
def dkwX0_split_11 : List UInt8 := [167, 0, 9, 42, 29, 28, 182, 1, 191, 172]
abbrev dktX0_split_11 : List UInt8 := dkwX0_split_11 ++ []
def dkwX0_split_10 : List UInt8 := [96, 79, 132, 7, 1, 167, 255, 182, 132, 3, 1, 132, 5, 1, 167, 255, 38, 21, 4, 153, 0, 8, 16, 254]
abbrev dktX0_split_10 : List UInt8 := dkwX0_split_10 ++ dktX0_split_11
def dkwX0_split_9 : List UInt8 := [180, 0, 66, 29, 92, 46, 25, 6, 180, 0, 231, 21, 7, 185, 0, 152, 2, 0, 192, 0, 203, 180, 0, 254]
abbrev dktX0_split_9 : List UInt8 := dkwX0_split_9 ++ dktX0_split_10
def dkwX0_split_8 : List UInt8 := [25, 6, 180, 0, 231, 21, 7, 185, 0, 152, 2, 0, 192, 0, 203, 180, 0, 234, 120, 128, 79, 42]
abbrev dktX0_split_8 : List UInt8 := dkwX0_split_8 ++ dktX0_split_9
def dkwX0_split_7 : List UInt8 := [21, 7, 25, 6, 180, 0, 231, 185, 0, 91, 1, 0, 162, 0, 65, 42, 180, 0, 60, 29, 92, 46, 4]
abbrev dktX0_split_7 : List UInt8 := dkwX0_split_7 ++ dktX0_split_8
def dkwX0_split_6 : List UInt8 := [180, 0, 231, 185, 0, 91, 1, 0, 96, 79, 42, 180, 0, 66, 29, 25, 6, 180, 0, 254, 79, 3, 54, 7]
abbrev dktX0_split_6 : List UInt8 := dkwX0_split_6 ++ dktX0_split_7
def dkwX0_split_5 : List UInt8 := [160, 0, 5, 2, 172, 42, 180, 0, 60, 29, 4, 21, 5, 120, 79, 42, 180, 0, 63, 29, 4, 25, 6]
abbrev dktX0_split_5 : List UInt8 := dkwX0_split_5 ++ dktX0_split_6
def dkwX0_split_4 : List UInt8 := [180, 0, 234, 122, 4, 126, 154, 0, 7, 4, 167, 0, 4, 3, 128, 54, 4, 167, 0, 133, 29, 16, 9]
abbrev dktX0_split_4 : List UInt8 := dkwX0_split_4 ++ dktX0_split_5
def dkwX0_split_3 : List UInt8 := [182, 0, 248, 153, 0, 41, 21, 4, 27, 21, 5, 122, 4, 126, 4, 160, 0, 22, 27, 25, 6, 180, 1, 1]
abbrev dktX0_split_3 : List UInt8 := dkwX0_split_3 ++ dktX0_split_4
def dkwX0_split_2 : List UInt8 := [21, 5, 185, 0, 152, 2, 0, 192, 0, 203, 58, 6, 27, 21, 5, 122, 4, 126, 153, 0, 11, 25, 6]
abbrev dktX0_split_2 : List UInt8 := dkwX0_split_2 ++ dktX0_split_3
def dkwX0_split_1 : List UInt8 := [54, 4, 3, 54, 5, 21, 5, 42, 180, 0, 28, 185, 0, 91, 1, 0, 162, 0, 210, 42, 180, 0, 28]
abbrev dktX0_split_1 : List UInt8 := dkwX0_split_1 ++ dktX0_split_2
def dkwX0_split_0 : List UInt8 := [42, 27, 182, 1, 45, 153, 0, 13, 28, 3, 16, 16, 184, 0, 97, 154, 0, 5, 2, 172, 3, 62, 3]
abbrev dktX0_split_0 : List UInt8 := dkwX0_split_0 ++ dktX0_split_1
theorem dksX0_split_0 : cX0_split.data.toList.drop 0 = dktX0_split_0 := by decide +kernel
theorem dksX0_split_1 : cX0_split.data.toList.drop 23 = dktX0_split_1 := dk_seg dksX0_split_0 23 rfl rfl
theorem dksX0_split_2 : cX0_split.data.toList.drop 46 = dktX0_split_2 := dk_seg dksX0_split_1 23 rfl rfl
theorem dksX0_split_3 : cX0_split.data.toList.drop 69 = dktX0_split_3 := dk_seg dksX0_split_2 23 rfl rfl
theorem dksX0_split_4 : cX0_split.data.toList.drop 93 = dktX0_split_4 := dk_seg dksX0_split_3 24 rfl rfl
theorem dksX0_split_5 : cX0_split.data.toList.drop 116 = dktX0_split_5 := dk_seg dksX0_split_4 23 rfl rfl
theorem dksX0_split_6 : cX0_split.data.toList.drop 139 = dktX0_split_6 := dk_seg dksX0_split_5 23 rfl rfl
theorem dksX0_split_7 : cX0_split.data.toList.drop 163 = dktX0_split_7 := dk_seg dksX0_split_6 24 rfl rfl
theorem dksX0_split_8 : cX0_split.data.toList.drop 186 = dktX0_split_8 := dk_seg dksX0_split_7 23 rfl rfl
theorem dksX0_split_9 : cX0_split.data.toList.drop 208 = dktX0_split_9 := dk_seg dksX0_split_8 22 rfl rfl
theorem dksX0_split_10 : cX0_split.data.toList.drop 232 = dktX0_split_10 := dk_seg dksX0_split_9 24 rfl rfl
theorem dksX0_split_11 : cX0_split.data.toList.drop 256 = dktX0_split_11 := dk_seg dksX0_split_10 24 rfl rfl
theorem dX0_split_0 : decode cX0_split 0 = .ok (.aload_n 0, 1) := dk_42 (dk_at dksX0_split_0 0 rfl rfl)
theorem dX0_split_1 : decode cX0_split 1 = .ok (.iload_n 1, 1) := dk_27 (dk_at dksX0_split_0 1 rfl rfl)
theorem dX0_split_2 : decode cX0_split 2 = .ok (.invokevirtual 301, 3) := dk_182 1 45 (dk_at dksX0_split_0 2 rfl rfl)
theorem dX0_split_5 : decode cX0_split 5 = .ok (.ifCond .eq 13, 3) := dk_153 0 13 (dk_at dksX0_split_0 5 rfl rfl)
theorem dX0_split_8 : decode cX0_split 8 = .ok (.iload_n 2, 1) := dk_28 (dk_at dksX0_split_0 8 rfl rfl)
theorem dX0_split_9 : decode cX0_split 9 = .ok (.iconst 0, 1) := dk_3 (dk_at dksX0_split_0 9 rfl rfl)
theorem dX0_split_10 : decode cX0_split 10 = .ok (.bipush 16, 2) := dk_16 16 (dk_at dksX0_split_0 10 rfl rfl)
theorem dX0_split_12 : decode cX0_split 12 = .ok (.invokestatic 97, 3) := dk_184 0 97 (dk_at dksX0_split_0 12 rfl rfl)
theorem dX0_split_15 : decode cX0_split 15 = .ok (.ifCond .ne 5, 3) := dk_154 0 5 (dk_at dksX0_split_0 15 rfl rfl)
theorem dX0_split_18 : decode cX0_split 18 = .ok (.iconst (-1), 1) := dk_2 (dk_at dksX0_split_0 18 rfl rfl)
theorem dX0_split_19 : decode cX0_split 19 = .ok (.ireturn, 1) := dk_172 (dk_at dksX0_split_0 19 rfl rfl)
theorem dX0_split_20 : decode cX0_split 20 = .ok (.iconst 0, 1) := dk_3 (dk_at dksX0_split_0 20 rfl rfl)
theorem dX0_split_21 : decode cX0_split 21 = .ok (.istore_n 3, 1) := dk_62 (dk_at dksX0_split_0 21 rfl rfl)
theorem dX0_split_22 : decode cX0_split 22 = .ok (.iconst 0, 1) := dk_3 (dk_at dksX0_split_0 22 rfl rfl)
theorem dX0_split_23 : decode cX0_split 23 = .ok (.istore 4, 2) := dk_54 4 (dk_at dksX0_split_1 0 rfl rfl)
theorem dX0_split_25 : decode cX0_split 25 = .ok (.iconst 0, 1) := dk_3 (dk_at dksX0_split_1 2 rfl rfl)
theorem dX0_split_26 : decode cX0_split 26 = .ok (.istore 5, 2) := dk_54 5 (dk_at dksX0_split_1 3 rfl rfl)
theorem dX0_split_28 : decode cX0_split 28 = .ok (.iload 5, 2) := dk_21 5 (dk_at dksX0_split_1 5 rfl rfl)
theorem dX0_split_30 : decode cX0_split 30 = .ok (.aload_n 0, 1) := dk_42 (dk_at dksX0_split_1 7 rfl rfl)
theorem dX0_split_31 : decode cX0_split 31 = .ok (.getfield 28, 3) := dk_180 0 28 (dk_at dksX0_split_1 8 rfl rfl)
theorem dX0_split_34 : decode cX0_split 34 = .ok (.invokeinterface 91 1, 5) := by decide +kernel
theorem dX0_split_39 : decode cX0_split 39 = .ok (.if_icmp .ge 210, 3) := dk_162 0 210 (dk_at dksX0_split_1 16 rfl rfl)
theorem dX0_split_42 : decode cX0_split 42 = .ok (.aload_n 0, 1) := dk_42 (dk_at dksX0_split_1 19 rfl rfl)
theorem dX0_split_43 : decode cX0_split 43 = .ok (.getfield 28, 3) := dk_180 0 28 (dk_at dksX0_split_1 20 rfl rfl)
theorem dX0_split_46 : decode cX0_split 46 = .ok (.iload 5, 2) := dk_21 5 (dk_at dksX0_split_2 0 rfl rfl)
theorem dX0_split_48 : decode cX0_split 48 = .ok (.invokeinterface 152 2, 5) := by decide +kernel
theorem dX0_split_53 : decode cX0_split 53 = .ok (.checkcast 203, 3) := dk_192 0 203 (dk_at dksX0_split_2 7 rfl rfl)
theorem dX0_split_56 : decode cX0_split 56 = .ok (.astore 6, 2) := dk_58 6 (dk_at dksX0_split_2 10 rfl rfl)
theorem dX0_split_58 : decode cX0_split 58 = .ok (.iload_n 1, 1) := dk_27 (dk_at dksX0_split_2 12 rfl rfl)
theorem dX0_split_59 : decode cX0_split 59 = .ok (.iload 5, 2) := dk_21 5 (dk_at dksX0_split_2 13 rfl rfl)
theorem dX0_split_61 : decode cX0_split 61 = .ok (.ishr, 1) := dk_122 (dk_at dksX0_split_2 15 rfl rfl)
theorem dX0_split_62 : decode cX0_split 62 = .ok (.iconst 1, 1) := dk_4 (dk_at dksX0_split_2 16 rfl rfl)
theorem dX0_split_63 : decode cX0_split 63 = .ok (.iand, 1) := dk_126 (dk_at dksX0_split_2 17 rfl rfl)
theorem dX0_split_64 : decode cX0_split 64 = .ok (.ifCond .eq 11, 3) := dk_153 0 11 (dk_at dksX0_split_2 18 rfl rfl)
theorem dX0_split_67 : decode cX0_split 67 = .ok (.aload 6, 2) := dk_25 6 (dk_at dksX0_split_2 21 rfl rfl)
theorem dX0_split_69 : decode cX0_split 69 = .ok (.invokevirtual 248, 3) := dk_182 0 248 (dk_at dksX0_split_3 0 rfl rfl)
theorem dX0_split_72 : decode cX0_split 72 = .ok (.ifCond .eq 41, 3) := dk_153 0 41 (dk_at dksX0_split_3 3 rfl rfl)
theorem dX0_split_75 : decode cX0_split 75 = .ok (.iload 4, 2) := dk_21 4 (dk_at dksX0_split_3 6 rfl rfl)
theorem dX0_split_77 : decode cX0_split 77 = .ok (.iload_n 1, 1) := dk_27 (dk_at dksX0_split_3 8 rfl rfl)
theorem dX0_split_78 : decode cX0_split 78 = .ok (.iload 5, 2) := dk_21 5 (dk_at dksX0_split_3 9 rfl rfl)
theorem dX0_split_80 : decode cX0_split 80 = .ok (.ishr, 1) := dk_122 (dk_at dksX0_split_3 11 rfl rfl)
theorem dX0_split_81 : decode cX0_split 81 = .ok (.iconst 1, 1) := dk_4 (dk_at dksX0_split_3 12 rfl rfl)
theorem dX0_split_82 : decode cX0_split 82 = .ok (.iand, 1) := dk_126 (dk_at dksX0_split_3 13 rfl rfl)
theorem dX0_split_83 : decode cX0_split 83 = .ok (.iconst 1, 1) := dk_4 (dk_at dksX0_split_3 14 rfl rfl)
theorem dX0_split_84 : decode cX0_split 84 = .ok (.if_icmp .ne 22, 3) := dk_160 0 22 (dk_at dksX0_split_3 15 rfl rfl)
theorem dX0_split_87 : decode cX0_split 87 = .ok (.iload_n 1, 1) := dk_27 (dk_at dksX0_split_3 18 rfl rfl)
theorem dX0_split_88 : decode cX0_split 88 = .ok (.aload 6, 2) := dk_25 6 (dk_at dksX0_split_3 19 rfl rfl)
theorem dX0_split_90 : decode cX0_split 90 = .ok (.getfield 257, 3) := dk_180 1 1 (dk_at dksX0_split_3 21 rfl rfl)
theorem dX0_split_93 : decode cX0_split 93 = .ok (.getfield 234, 3) := dk_180 0 234 (dk_at dksX0_split_4 0 rfl rfl)
theorem dX0_split_96 : decode cX0_split 96 = .ok (.ishr, 1) := dk_122 (dk_at dksX0_split_4 3 rfl rfl)
theorem dX0_split_97 : decode cX0_split 97 = .ok (.iconst 1, 1) := dk_4 (dk_at dksX0_split_4 4 rfl rfl)
theorem dX0_split_98 : decode cX0_split 98 = .ok (.iand, 1) := dk_126 (dk_at dksX0_split_4 5 rfl rfl)
theorem dX0_split_99 : decode cX0_split 99 = .ok (.ifCond .ne 7, 3) := dk_154 0 7 (dk_at dksX0_split_4 6 rfl rfl)
theorem dX0_split_102 : decode cX0_split 102 = .ok (.iconst 1, 1) := dk_4 (dk_at dksX0_split_4 9 rfl rfl)
theorem dX0_split_103 : decode cX0_split 103 = .ok (.goto 4, 3) := dk_167 0 4 (dk_at dksX0_split_4 10 rfl rfl)
theorem dX0_split_106 : decode cX0_split 106 = .ok (.iconst 0, 1) := dk_3 (dk_at dksX0_split_4 13 rfl rfl)
theorem dX0_split_107 : decode cX0_split 107 = .ok (.ior, 1) := dk_128 (dk_at dksX0_split_4 14 rfl rfl)
theorem dX0_split_108 : decode cX0_split 108 = .ok (.istore 4, 2) := dk_54 4 (dk_at dksX0_split_4 15 rfl rfl)
theorem dX0_split_110 : decode cX0_split 110 = .ok (.goto 133, 3) := dk_167 0 133 (dk_at dksX0_split_4 17 rfl rfl)
theorem dX0_split_113 : decode cX0_split 113 = .ok (.iload_n 3, 1) := dk_29 (dk_at dksX0_split_4 20 rfl rfl)
theorem dX0_split_114 : decode cX0_split 114 = .ok (.bipush 9, 2) := dk_16 9 (dk_at dksX0_split_4 21 rfl rfl)
theorem dX0_split_116 : decode cX0_split 116 = .ok (.if_icmp .ne 5, 3) := dk_160 0 5 (dk_at dksX0_split_5 0 rfl rfl)
theorem dX0_split_119 : decode cX0_split 119 = .ok (.iconst (-1), 1) := dk_2 (dk_at dksX0_split_5 3 rfl rfl)
theorem dX0_split_120 : decode cX0_split 120 = .ok (.ireturn, 1) := dk_172 (dk_at dksX0_split_5 4 rfl rfl)
theorem dX0_split_121 : decode cX0_split 121 = .ok (.aload_n 0, 1) := dk_42 (dk_at dksX0_split_5 5 rfl rfl)
theorem dX0_split_122 : decode cX0_split 122 = .ok (.getfield 60, 3) := dk_180 0 60 (dk_at dksX0_split_5 6 rfl rfl)
theorem dX0_split_125 : decode cX0_split 125 = .ok (.iload_n 3, 1) := dk_29 (dk_at dksX0_split_5 9 rfl rfl)
theorem dX0_split_126 : decode cX0_split 126 = .ok (.iconst 1, 1) := dk_4 (dk_at dksX0_split_5 10 rfl rfl)
theorem dX0_split_127 : decode cX0_split 127 = .ok (.iload 5, 2) := dk_21 5 (dk_at dksX0_split_5 11 rfl rfl)
theorem dX0_split_129 : decode cX0_split 129 = .ok (.ishl, 1) := dk_120 (dk_at dksX0_split_5 13 rfl rfl)
theorem dX0_split_130 : decode cX0_split 130 = .ok (.iastore, 1) := dk_79 (dk_at dksX0_split_5 14 rfl rfl)
theorem dX0_split_131 : decode cX0_split 131 = .ok (.aload_n 0, 1) := dk_42 (dk_at dksX0_split_5 15 rfl rfl)
theorem dX0_split_132 : decode cX0_split 132 = .ok (.getfield 63, 3) := dk_180 0 63 (dk_at dksX0_split_5 16 rfl rfl)
theorem dX0_split_135 : decode cX0_split 135 = .ok (.iload_n 3, 1) := dk_29 (dk_at dksX0_split_5 19 rfl rfl)
theorem dX0_split_136 : decode cX0_split 136 = .ok (.iconst 1, 1) := dk_4 (dk_at dksX0_split_5 20 rfl rfl)
theorem dX0_split_137 : decode cX0_split 137 = .ok (.aload 6, 2) := dk_25 6 (dk_at dksX0_split_5 21 rfl rfl)
theorem dX0_split_139 : decode cX0_split 139 = .ok (.getfield 231, 3) := dk_180 0 231 (dk_at dksX0_split_6 0 rfl rfl)
theorem dX0_split_142 : decode cX0_split 142 = .ok (.invokeinterface 91 1, 5) := by decide +kernel
theorem dX0_split_147 : decode cX0_split 147 = .ok (.iadd, 1) := dk_96 (dk_at dksX0_split_6 8 rfl rfl)
theorem dX0_split_148 : decode cX0_split 148 = .ok (.iastore, 1) := dk_79 (dk_at dksX0_split_6 9 rfl rfl)
theorem dX0_split_149 : decode cX0_split 149 = .ok (.aload_n 0, 1) := dk_42 (dk_at dksX0_split_6 10 rfl rfl)
theorem dX0_split_150 : decode cX0_split 150 = .ok (.getfield 66, 3) := dk_180 0 66 (dk_at dksX0_split_6 11 rfl rfl)
theorem dX0_split_153 : decode cX0_split 153 = .ok (.iload_n 3, 1) := dk_29 (dk_at dksX0_split_6 14 rfl rfl)
theorem dX0_split_154 : decode cX0_split 154 = .ok (.aload 6, 2) := dk_25 6 (dk_at dksX0_split_6 15 rfl rfl)
theorem dX0_split_156 : decode cX0_split 156 = .ok (.getfield 254, 3) := dk_180 0 254 (dk_at dksX0_split_6 17 rfl rfl)
theorem dX0_split_159 : decode cX0_split 159 = .ok (.iastore, 1) := dk_79 (dk_at dksX0_split_6 20 rfl rfl)
theorem dX0_split_160 : decode cX0_split 160 = .ok (.iconst 0, 1) := dk_3 (dk_at dksX0_split_6 21 rfl rfl)
theorem dX0_split_161 : decode cX0_split 161 = .ok (.istore 7, 2) := dk_54 7 (dk_at dksX0_split_6 22 rfl rfl)
theorem dX0_split_163 : decode cX0_split 163 = .ok (.iload 7, 2) := dk_21 7 (dk_at dksX0_split_7 0 rfl rfl)
theorem dX0_split_165 : decode cX0_split 165 = .ok (.aload 6, 2) := dk_25 6 (dk_at dksX0_split_7 2 rfl rfl)
theorem dX0_split_167 : decode cX0_split 167 = .ok (.getfield 231, 3) := dk_180 0 231 (dk_at dksX0_split_7 4 rfl rfl)
theorem dX0_split_170 : decode cX0_split 170 = .ok (.invokeinterface 91 1, 5) := by decide +kernel
theorem dX0_split_175 : decode cX0_split 175 = .ok (.if_icmp .ge 65, 3) := dk_162 0 65 (dk_at dksX0_split_7 12 rfl rfl)
theorem dX0_split_178 : decode cX0_split 178 = .ok (.aload_n 0, 1) := dk_42 (dk_at dksX0_split_7 15 rfl rfl)
theorem dX0_split_179 : decode cX0_split 179 = .ok (.getfield 60, 3) := dk_180 0 60 (dk_at dksX0_split_7 16 rfl rfl)
theorem dX0_split_182 : decode cX0_split 182 = .ok (.iload_n 3, 1) := dk_29 (dk_at dksX0_split_7 19 rfl rfl)
theorem dX0_split_183 : decode cX0_split 183 = .ok (.dup2, 1) := dk_92 (dk_at dksX0_split_7 20 rfl rfl)
theorem dX0_split_184 : decode cX0_split 184 = .ok (.iaload, 1) := dk_46 (dk_at dksX0_split_7 21 rfl rfl)
theorem dX0_split_185 : decode cX0_split 185 = .ok (.iconst 1, 1) := dk_4 (dk_at dksX0_split_7 22 rfl rfl)
theorem dX0_split_186 : decode cX0_split 186 = .ok (.aload 6, 2) := dk_25 6 (dk_at dksX0_split_8 0 rfl rfl)
theorem dX0_split_188 : decode cX0_split 188 = .ok (.getfield 231, 3) := dk_180 0 231 (dk_at dksX0_split_8 2 rfl rfl)
theorem dX0_split_191 : decode cX0_split 191 = .ok (.iload 7, 2) := dk_21 7 (dk_at dksX0_split_8 5 rfl rfl)
theorem dX0_split_193 : decode cX0_split 193 = .ok (.invokeinterface 152 2, 5) := by decide +kernel
theorem dX0_split_198 : decode cX0_split 198 = .ok (.checkcast 203, 3) := dk_192 0 203 (dk_at dksX0_split_8 12 rfl rfl)
theorem dX0_split_201 : decode cX0_split 201 = .ok (.getfield 234, 3) := dk_180 0 234 (dk_at dksX0_split_8 15 rfl rfl)
theorem dX0_split_204 : decode cX0_split 204 = .ok (.ishl, 1) := dk_120 (dk_at dksX0_split_8 18 rfl rfl)
theorem dX0_split_205 : decode cX0_split 205 = .ok (.ior, 1) := dk_128 (dk_at dksX0_split_8 19 rfl rfl)
theorem dX0_split_206 : decode cX0_split 206 = .ok (.iastore, 1) := dk_79 (dk_at dksX0_split_8 20 rfl rfl)
theorem dX0_split_207 : decode cX0_split 207 = .ok (.aload_n 0, 1) := dk_42 (dk_at dksX0_split_8 21 rfl rfl)
theorem dX0_split_208 : decode cX0_split 208 = .ok (.getfield 66, 3) := dk_180 0 66 (dk_at dksX0_split_9 0 rfl rfl)
theorem dX0_split_211 : decode cX0_split 211 = .ok (.iload_n 3, 1) := dk_29 (dk_at dksX0_split_9 3 rfl rfl)
theorem dX0_split_212 : decode cX0_split 212 = .ok (.dup2, 1) := dk_92 (dk_at dksX0_split_9 4 rfl rfl)
theorem dX0_split_213 : decode cX0_split 213 = .ok (.iaload, 1) := dk_46 (dk_at dksX0_split_9 5 rfl rfl)
theorem dX0_split_214 : decode cX0_split 214 = .ok (.aload 6, 2) := dk_25 6 (dk_at dksX0_split_9 6 rfl rfl)
theorem dX0_split_216 : decode cX0_split 216 = .ok (.getfield 231, 3) := dk_180 0 231 (dk_at dksX0_split_9 8 rfl rfl)
theorem dX0_split_219 : decode cX0_split 219 = .ok (.iload 7, 2) := dk_21 7 (dk_at dksX0_split_9 11 rfl rfl)
theorem dX0_split_221 : decode cX0_split 221 = .ok (.invokeinterface 152 2, 5) := by decide +kernel
theorem dX0_split_226 : decode cX0_split 226 = .ok (.checkcast 203, 3) := dk_192 0 203 (dk_at dksX0_split_9 18 rfl rfl)
theorem dX0_split_229 : decode cX0_split 229 = .ok (.getfield 254, 3) := dk_180 0 254 (dk_at dksX0_split_9 21 rfl rfl)
theorem dX0_split_232 : decode cX0_split 232 = .ok (.iadd, 1) := dk_96 (dk_at dksX0_split_10 0 rfl rfl)
theorem dX0_split_233 : decode cX0_split 233 = .ok (.iastore, 1) := dk_79 (dk_at dksX0_split_10 1 rfl rfl)
theorem dX0_split_234 : decode cX0_split 234 = .ok (.iinc 7 1, 3) := dk_132 7 1 (dk_at dksX0_split_10 2 rfl rfl)
theorem dX0_split_237 : decode cX0_split 237 = .ok (.goto (-74), 3) := dk_167 255 182 (dk_at dksX0_split_10 5 rfl rfl)
theorem dX0_split_240 : decode cX0_split 240 = .ok (.iinc 3 1, 3) := dk_132 3 1 (dk_at dksX0_split_10 8 rfl rfl)
theorem dX0_split_243 : decode cX0_split 243 = .ok (.iinc 5 1, 3) := dk_132 5 1 (dk_at dksX0_split_10 11 rfl rfl)
theorem dX0_split_246 : decode cX0_split 246 = .ok (.goto (-218), 3) := dk_167 255 38 (dk_at dksX0_split_10 14 rfl rfl)
theorem dX0_split_249 : decode cX0_split 249 = .ok (.iload 4, 2) := dk_21 4 (dk_at dksX0_split_10 17 rfl rfl)
theorem dX0_split_251 : decode cX0_split 251 = .ok (.ifCond .eq 8, 3) := dk_153 0 8 (dk_at dksX0_split_10 19 rfl rfl)
theorem dX0_split_254 : decode cX0_split 254 = .ok (.bipush (-2), 2) := dk_16 254 (dk_at dksX0_split_10 22 rfl rfl)
theorem dX0_split_256 : decode cX0_split 256 = .ok (.goto 9, 3) := dk_167 0 9 (dk_at dksX0_split_11 0 rfl rfl)
theorem dX0_split_259 : decode cX0_split 259 = .ok (.aload_n 0, 1) := dk_42 (dk_at dksX0_split_11 3 rfl rfl)
theorem dX0_split_260 : decode cX0_split 260 = .ok (.iload_n 3, 1) := dk_29 (dk_at dksX0_split_11 4 rfl rfl)
theorem dX0_split_261 : decode cX0_split 261 = .ok (.iload_n 2, 1) := dk_28 (dk_at dksX0_split_11 5 rfl rfl)
theorem dX0_split_262 : decode cX0_split 262 = .ok (.invokevirtual 447, 3) := dk_182 1 191 (dk_at dksX0_split_11 6 rfl rfl)
theorem dX0_split_265 : decode cX0_split 265 = .ok (.ireturn, 1) := dk_172 (dk_at dksX0_split_11 9 rfl rfl)
abbrev cX0_bestUnits : ByteArray := prog_1_method_70_code
def yX0_bestUnits : MethodName := ⟨RX0, "bestUnits", "(II)I"⟩
def dkwX0_bestUnits_7 : List UInt8 := [167, 255, 105, 29, 172]
abbrev dktX0_bestUnits_7 : List UInt8 := dkwX0_bestUnits_7 ++ []
def dkwX0_bestUnits_6 : List UInt8 := [21, 4, 164, 0, 17, 17, 3, 232, 21, 7, 104, 21, 8, 96, 54, 4, 21, 6, 62, 132, 5, 255]
abbrev dktX0_bestUnits_6 : List UInt8 := dkwX0_bestUnits_6 ++ dktX0_bestUnits_7
def dkwX0_bestUnits_5 : List UInt8 := [54, 8, 132, 9, 1, 167, 255, 162, 21, 7, 28, 163, 0, 31, 17, 3, 232, 21, 7, 104, 21, 8, 96]
abbrev dktX0_bestUnits_5 : List UInt8 := dkwX0_bestUnits_5 ++ dktX0_bestUnits_6
def dkwX0_bestUnits_4 : List UInt8 := [3, 96, 54, 7, 21, 8, 21, 10, 153, 0, 13, 42, 180, 0, 66, 21, 9, 46, 167, 0, 4, 3, 96]
abbrev dktX0_bestUnits_4 : List UInt8 := dkwX0_bestUnits_4 ++ dktX0_bestUnits_5
def dkwX0_bestUnits_3 : List UInt8 := [167, 0, 4, 3, 128, 54, 6, 21, 7, 21, 10, 153, 0, 13, 42, 180, 0, 63, 21, 9, 46, 167, 0, 4]
abbrev dktX0_bestUnits_3 : List UInt8 := dkwX0_bestUnits_3 ++ dktX0_bestUnits_4
def dkwX0_bestUnits_2 : List UInt8 := [160, 0, 7, 4, 167, 0, 4, 3, 54, 10, 21, 6, 21, 10, 153, 0, 13, 42, 180, 0, 60, 21, 9, 46]
abbrev dktX0_bestUnits_2 : List UInt8 := dkwX0_bestUnits_2 ++ dktX0_bestUnits_3
def dkwX0_bestUnits_1 : List UInt8 := [54, 8, 3, 54, 9, 21, 9, 27, 162, 0, 94, 21, 5, 27, 4, 100, 21, 9, 100, 122, 4, 126, 4]
abbrev dktX0_bestUnits_1 : List UInt8 := dkwX0_bestUnits_1 ++ dktX0_bestUnits_2
def dkwX0_bestUnits_0 : List UInt8 := [3, 62, 2, 54, 4, 4, 27, 120, 4, 100, 54, 5, 21, 5, 155, 0, 152, 3, 54, 6, 3, 54, 7, 3]
abbrev dktX0_bestUnits_0 : List UInt8 := dkwX0_bestUnits_0 ++ dktX0_bestUnits_1
theorem dksX0_bestUnits_0 : cX0_bestUnits.data.toList.drop 0 = dktX0_bestUnits_0 := by decide +kernel
theorem dksX0_bestUnits_1 : cX0_bestUnits.data.toList.drop 24 = dktX0_bestUnits_1 := dk_seg dksX0_bestUnits_0 24 rfl rfl
theorem dksX0_bestUnits_2 : cX0_bestUnits.data.toList.drop 47 = dktX0_bestUnits_2 := dk_seg dksX0_bestUnits_1 23 rfl rfl
theorem dksX0_bestUnits_3 : cX0_bestUnits.data.toList.drop 71 = dktX0_bestUnits_3 := dk_seg dksX0_bestUnits_2 24 rfl rfl
theorem dksX0_bestUnits_4 : cX0_bestUnits.data.toList.drop 95 = dktX0_bestUnits_4 := dk_seg dksX0_bestUnits_3 24 rfl rfl
theorem dksX0_bestUnits_5 : cX0_bestUnits.data.toList.drop 118 = dktX0_bestUnits_5 := dk_seg dksX0_bestUnits_4 23 rfl rfl
theorem dksX0_bestUnits_6 : cX0_bestUnits.data.toList.drop 141 = dktX0_bestUnits_6 := dk_seg dksX0_bestUnits_5 23 rfl rfl
theorem dksX0_bestUnits_7 : cX0_bestUnits.data.toList.drop 163 = dktX0_bestUnits_7 := dk_seg dksX0_bestUnits_6 22 rfl rfl
theorem dX0_bestUnits_0 : decode cX0_bestUnits 0 = .ok (.iconst 0, 1) := dk_3 (dk_at dksX0_bestUnits_0 0 rfl rfl)
theorem dX0_bestUnits_1 : decode cX0_bestUnits 1 = .ok (.istore_n 3, 1) := dk_62 (dk_at dksX0_bestUnits_0 1 rfl rfl)
theorem dX0_bestUnits_2 : decode cX0_bestUnits 2 = .ok (.iconst (-1), 1) := dk_2 (dk_at dksX0_bestUnits_0 2 rfl rfl)
theorem dX0_bestUnits_3 : decode cX0_bestUnits 3 = .ok (.istore 4, 2) := dk_54 4 (dk_at dksX0_bestUnits_0 3 rfl rfl)
theorem dX0_bestUnits_5 : decode cX0_bestUnits 5 = .ok (.iconst 1, 1) := dk_4 (dk_at dksX0_bestUnits_0 5 rfl rfl)
theorem dX0_bestUnits_6 : decode cX0_bestUnits 6 = .ok (.iload_n 1, 1) := dk_27 (dk_at dksX0_bestUnits_0 6 rfl rfl)
theorem dX0_bestUnits_7 : decode cX0_bestUnits 7 = .ok (.ishl, 1) := dk_120 (dk_at dksX0_bestUnits_0 7 rfl rfl)
theorem dX0_bestUnits_8 : decode cX0_bestUnits 8 = .ok (.iconst 1, 1) := dk_4 (dk_at dksX0_bestUnits_0 8 rfl rfl)
theorem dX0_bestUnits_9 : decode cX0_bestUnits 9 = .ok (.isub, 1) := dk_100 (dk_at dksX0_bestUnits_0 9 rfl rfl)
theorem dX0_bestUnits_10 : decode cX0_bestUnits 10 = .ok (.istore 5, 2) := dk_54 5 (dk_at dksX0_bestUnits_0 10 rfl rfl)
theorem dX0_bestUnits_12 : decode cX0_bestUnits 12 = .ok (.iload 5, 2) := dk_21 5 (dk_at dksX0_bestUnits_0 12 rfl rfl)
theorem dX0_bestUnits_14 : decode cX0_bestUnits 14 = .ok (.ifCond .lt 152, 3) := dk_155 0 152 (dk_at dksX0_bestUnits_0 14 rfl rfl)
theorem dX0_bestUnits_17 : decode cX0_bestUnits 17 = .ok (.iconst 0, 1) := dk_3 (dk_at dksX0_bestUnits_0 17 rfl rfl)
theorem dX0_bestUnits_18 : decode cX0_bestUnits 18 = .ok (.istore 6, 2) := dk_54 6 (dk_at dksX0_bestUnits_0 18 rfl rfl)
theorem dX0_bestUnits_20 : decode cX0_bestUnits 20 = .ok (.iconst 0, 1) := dk_3 (dk_at dksX0_bestUnits_0 20 rfl rfl)
theorem dX0_bestUnits_21 : decode cX0_bestUnits 21 = .ok (.istore 7, 2) := dk_54 7 (dk_at dksX0_bestUnits_0 21 rfl rfl)
theorem dX0_bestUnits_23 : decode cX0_bestUnits 23 = .ok (.iconst 0, 1) := dk_3 (dk_at dksX0_bestUnits_0 23 rfl rfl)
theorem dX0_bestUnits_24 : decode cX0_bestUnits 24 = .ok (.istore 8, 2) := dk_54 8 (dk_at dksX0_bestUnits_1 0 rfl rfl)
theorem dX0_bestUnits_26 : decode cX0_bestUnits 26 = .ok (.iconst 0, 1) := dk_3 (dk_at dksX0_bestUnits_1 2 rfl rfl)
theorem dX0_bestUnits_27 : decode cX0_bestUnits 27 = .ok (.istore 9, 2) := dk_54 9 (dk_at dksX0_bestUnits_1 3 rfl rfl)
theorem dX0_bestUnits_29 : decode cX0_bestUnits 29 = .ok (.iload 9, 2) := dk_21 9 (dk_at dksX0_bestUnits_1 5 rfl rfl)
theorem dX0_bestUnits_31 : decode cX0_bestUnits 31 = .ok (.iload_n 1, 1) := dk_27 (dk_at dksX0_bestUnits_1 7 rfl rfl)
theorem dX0_bestUnits_32 : decode cX0_bestUnits 32 = .ok (.if_icmp .ge 94, 3) := dk_162 0 94 (dk_at dksX0_bestUnits_1 8 rfl rfl)
theorem dX0_bestUnits_35 : decode cX0_bestUnits 35 = .ok (.iload 5, 2) := dk_21 5 (dk_at dksX0_bestUnits_1 11 rfl rfl)
theorem dX0_bestUnits_37 : decode cX0_bestUnits 37 = .ok (.iload_n 1, 1) := dk_27 (dk_at dksX0_bestUnits_1 13 rfl rfl)
theorem dX0_bestUnits_38 : decode cX0_bestUnits 38 = .ok (.iconst 1, 1) := dk_4 (dk_at dksX0_bestUnits_1 14 rfl rfl)
theorem dX0_bestUnits_39 : decode cX0_bestUnits 39 = .ok (.isub, 1) := dk_100 (dk_at dksX0_bestUnits_1 15 rfl rfl)
theorem dX0_bestUnits_40 : decode cX0_bestUnits 40 = .ok (.iload 9, 2) := dk_21 9 (dk_at dksX0_bestUnits_1 16 rfl rfl)
theorem dX0_bestUnits_42 : decode cX0_bestUnits 42 = .ok (.isub, 1) := dk_100 (dk_at dksX0_bestUnits_1 18 rfl rfl)
theorem dX0_bestUnits_43 : decode cX0_bestUnits 43 = .ok (.ishr, 1) := dk_122 (dk_at dksX0_bestUnits_1 19 rfl rfl)
theorem dX0_bestUnits_44 : decode cX0_bestUnits 44 = .ok (.iconst 1, 1) := dk_4 (dk_at dksX0_bestUnits_1 20 rfl rfl)
theorem dX0_bestUnits_45 : decode cX0_bestUnits 45 = .ok (.iand, 1) := dk_126 (dk_at dksX0_bestUnits_1 21 rfl rfl)
theorem dX0_bestUnits_46 : decode cX0_bestUnits 46 = .ok (.iconst 1, 1) := dk_4 (dk_at dksX0_bestUnits_1 22 rfl rfl)
theorem dX0_bestUnits_47 : decode cX0_bestUnits 47 = .ok (.if_icmp .ne 7, 3) := dk_160 0 7 (dk_at dksX0_bestUnits_2 0 rfl rfl)
theorem dX0_bestUnits_50 : decode cX0_bestUnits 50 = .ok (.iconst 1, 1) := dk_4 (dk_at dksX0_bestUnits_2 3 rfl rfl)
theorem dX0_bestUnits_51 : decode cX0_bestUnits 51 = .ok (.goto 4, 3) := dk_167 0 4 (dk_at dksX0_bestUnits_2 4 rfl rfl)
theorem dX0_bestUnits_54 : decode cX0_bestUnits 54 = .ok (.iconst 0, 1) := dk_3 (dk_at dksX0_bestUnits_2 7 rfl rfl)
theorem dX0_bestUnits_55 : decode cX0_bestUnits 55 = .ok (.istore 10, 2) := dk_54 10 (dk_at dksX0_bestUnits_2 8 rfl rfl)
theorem dX0_bestUnits_57 : decode cX0_bestUnits 57 = .ok (.iload 6, 2) := dk_21 6 (dk_at dksX0_bestUnits_2 10 rfl rfl)
theorem dX0_bestUnits_59 : decode cX0_bestUnits 59 = .ok (.iload 10, 2) := dk_21 10 (dk_at dksX0_bestUnits_2 12 rfl rfl)
theorem dX0_bestUnits_61 : decode cX0_bestUnits 61 = .ok (.ifCond .eq 13, 3) := dk_153 0 13 (dk_at dksX0_bestUnits_2 14 rfl rfl)
theorem dX0_bestUnits_64 : decode cX0_bestUnits 64 = .ok (.aload_n 0, 1) := dk_42 (dk_at dksX0_bestUnits_2 17 rfl rfl)
theorem dX0_bestUnits_65 : decode cX0_bestUnits 65 = .ok (.getfield 60, 3) := dk_180 0 60 (dk_at dksX0_bestUnits_2 18 rfl rfl)
theorem dX0_bestUnits_68 : decode cX0_bestUnits 68 = .ok (.iload 9, 2) := dk_21 9 (dk_at dksX0_bestUnits_2 21 rfl rfl)
theorem dX0_bestUnits_70 : decode cX0_bestUnits 70 = .ok (.iaload, 1) := dk_46 (dk_at dksX0_bestUnits_2 23 rfl rfl)
theorem dX0_bestUnits_71 : decode cX0_bestUnits 71 = .ok (.goto 4, 3) := dk_167 0 4 (dk_at dksX0_bestUnits_3 0 rfl rfl)
theorem dX0_bestUnits_74 : decode cX0_bestUnits 74 = .ok (.iconst 0, 1) := dk_3 (dk_at dksX0_bestUnits_3 3 rfl rfl)
theorem dX0_bestUnits_75 : decode cX0_bestUnits 75 = .ok (.ior, 1) := dk_128 (dk_at dksX0_bestUnits_3 4 rfl rfl)
theorem dX0_bestUnits_76 : decode cX0_bestUnits 76 = .ok (.istore 6, 2) := dk_54 6 (dk_at dksX0_bestUnits_3 5 rfl rfl)
theorem dX0_bestUnits_78 : decode cX0_bestUnits 78 = .ok (.iload 7, 2) := dk_21 7 (dk_at dksX0_bestUnits_3 7 rfl rfl)
theorem dX0_bestUnits_80 : decode cX0_bestUnits 80 = .ok (.iload 10, 2) := dk_21 10 (dk_at dksX0_bestUnits_3 9 rfl rfl)
theorem dX0_bestUnits_82 : decode cX0_bestUnits 82 = .ok (.ifCond .eq 13, 3) := dk_153 0 13 (dk_at dksX0_bestUnits_3 11 rfl rfl)
theorem dX0_bestUnits_85 : decode cX0_bestUnits 85 = .ok (.aload_n 0, 1) := dk_42 (dk_at dksX0_bestUnits_3 14 rfl rfl)
theorem dX0_bestUnits_86 : decode cX0_bestUnits 86 = .ok (.getfield 63, 3) := dk_180 0 63 (dk_at dksX0_bestUnits_3 15 rfl rfl)
theorem dX0_bestUnits_89 : decode cX0_bestUnits 89 = .ok (.iload 9, 2) := dk_21 9 (dk_at dksX0_bestUnits_3 18 rfl rfl)
theorem dX0_bestUnits_91 : decode cX0_bestUnits 91 = .ok (.iaload, 1) := dk_46 (dk_at dksX0_bestUnits_3 20 rfl rfl)
theorem dX0_bestUnits_92 : decode cX0_bestUnits 92 = .ok (.goto 4, 3) := dk_167 0 4 (dk_at dksX0_bestUnits_3 21 rfl rfl)
theorem dX0_bestUnits_95 : decode cX0_bestUnits 95 = .ok (.iconst 0, 1) := dk_3 (dk_at dksX0_bestUnits_4 0 rfl rfl)
theorem dX0_bestUnits_96 : decode cX0_bestUnits 96 = .ok (.iadd, 1) := dk_96 (dk_at dksX0_bestUnits_4 1 rfl rfl)
theorem dX0_bestUnits_97 : decode cX0_bestUnits 97 = .ok (.istore 7, 2) := dk_54 7 (dk_at dksX0_bestUnits_4 2 rfl rfl)
theorem dX0_bestUnits_99 : decode cX0_bestUnits 99 = .ok (.iload 8, 2) := dk_21 8 (dk_at dksX0_bestUnits_4 4 rfl rfl)
theorem dX0_bestUnits_101 : decode cX0_bestUnits 101 = .ok (.iload 10, 2) := dk_21 10 (dk_at dksX0_bestUnits_4 6 rfl rfl)
theorem dX0_bestUnits_103 : decode cX0_bestUnits 103 = .ok (.ifCond .eq 13, 3) := dk_153 0 13 (dk_at dksX0_bestUnits_4 8 rfl rfl)
theorem dX0_bestUnits_106 : decode cX0_bestUnits 106 = .ok (.aload_n 0, 1) := dk_42 (dk_at dksX0_bestUnits_4 11 rfl rfl)
theorem dX0_bestUnits_107 : decode cX0_bestUnits 107 = .ok (.getfield 66, 3) := dk_180 0 66 (dk_at dksX0_bestUnits_4 12 rfl rfl)
theorem dX0_bestUnits_110 : decode cX0_bestUnits 110 = .ok (.iload 9, 2) := dk_21 9 (dk_at dksX0_bestUnits_4 15 rfl rfl)
theorem dX0_bestUnits_112 : decode cX0_bestUnits 112 = .ok (.iaload, 1) := dk_46 (dk_at dksX0_bestUnits_4 17 rfl rfl)
theorem dX0_bestUnits_113 : decode cX0_bestUnits 113 = .ok (.goto 4, 3) := dk_167 0 4 (dk_at dksX0_bestUnits_4 18 rfl rfl)
theorem dX0_bestUnits_116 : decode cX0_bestUnits 116 = .ok (.iconst 0, 1) := dk_3 (dk_at dksX0_bestUnits_4 21 rfl rfl)
theorem dX0_bestUnits_117 : decode cX0_bestUnits 117 = .ok (.iadd, 1) := dk_96 (dk_at dksX0_bestUnits_4 22 rfl rfl)
theorem dX0_bestUnits_118 : decode cX0_bestUnits 118 = .ok (.istore 8, 2) := dk_54 8 (dk_at dksX0_bestUnits_5 0 rfl rfl)
theorem dX0_bestUnits_120 : decode cX0_bestUnits 120 = .ok (.iinc 9 1, 3) := dk_132 9 1 (dk_at dksX0_bestUnits_5 2 rfl rfl)
theorem dX0_bestUnits_123 : decode cX0_bestUnits 123 = .ok (.goto (-94), 3) := dk_167 255 162 (dk_at dksX0_bestUnits_5 5 rfl rfl)
theorem dX0_bestUnits_126 : decode cX0_bestUnits 126 = .ok (.iload 7, 2) := dk_21 7 (dk_at dksX0_bestUnits_5 8 rfl rfl)
theorem dX0_bestUnits_128 : decode cX0_bestUnits 128 = .ok (.iload_n 2, 1) := dk_28 (dk_at dksX0_bestUnits_5 10 rfl rfl)
theorem dX0_bestUnits_129 : decode cX0_bestUnits 129 = .ok (.if_icmp .gt 31, 3) := dk_163 0 31 (dk_at dksX0_bestUnits_5 11 rfl rfl)
theorem dX0_bestUnits_132 : decode cX0_bestUnits 132 = .ok (.sipush 1000, 3) := dk_17 3 232 (dk_at dksX0_bestUnits_5 14 rfl rfl)
theorem dX0_bestUnits_135 : decode cX0_bestUnits 135 = .ok (.iload 7, 2) := dk_21 7 (dk_at dksX0_bestUnits_5 17 rfl rfl)
theorem dX0_bestUnits_137 : decode cX0_bestUnits 137 = .ok (.imul, 1) := dk_104 (dk_at dksX0_bestUnits_5 19 rfl rfl)
theorem dX0_bestUnits_138 : decode cX0_bestUnits 138 = .ok (.iload 8, 2) := dk_21 8 (dk_at dksX0_bestUnits_5 20 rfl rfl)
theorem dX0_bestUnits_140 : decode cX0_bestUnits 140 = .ok (.iadd, 1) := dk_96 (dk_at dksX0_bestUnits_5 22 rfl rfl)
theorem dX0_bestUnits_141 : decode cX0_bestUnits 141 = .ok (.iload 4, 2) := dk_21 4 (dk_at dksX0_bestUnits_6 0 rfl rfl)
theorem dX0_bestUnits_143 : decode cX0_bestUnits 143 = .ok (.if_icmp .le 17, 3) := dk_164 0 17 (dk_at dksX0_bestUnits_6 2 rfl rfl)
theorem dX0_bestUnits_146 : decode cX0_bestUnits 146 = .ok (.sipush 1000, 3) := dk_17 3 232 (dk_at dksX0_bestUnits_6 5 rfl rfl)
theorem dX0_bestUnits_149 : decode cX0_bestUnits 149 = .ok (.iload 7, 2) := dk_21 7 (dk_at dksX0_bestUnits_6 8 rfl rfl)
theorem dX0_bestUnits_151 : decode cX0_bestUnits 151 = .ok (.imul, 1) := dk_104 (dk_at dksX0_bestUnits_6 10 rfl rfl)
theorem dX0_bestUnits_152 : decode cX0_bestUnits 152 = .ok (.iload 8, 2) := dk_21 8 (dk_at dksX0_bestUnits_6 11 rfl rfl)
theorem dX0_bestUnits_154 : decode cX0_bestUnits 154 = .ok (.iadd, 1) := dk_96 (dk_at dksX0_bestUnits_6 13 rfl rfl)
theorem dX0_bestUnits_155 : decode cX0_bestUnits 155 = .ok (.istore 4, 2) := dk_54 4 (dk_at dksX0_bestUnits_6 14 rfl rfl)
theorem dX0_bestUnits_157 : decode cX0_bestUnits 157 = .ok (.iload 6, 2) := dk_21 6 (dk_at dksX0_bestUnits_6 16 rfl rfl)
theorem dX0_bestUnits_159 : decode cX0_bestUnits 159 = .ok (.istore_n 3, 1) := dk_62 (dk_at dksX0_bestUnits_6 18 rfl rfl)
theorem dX0_bestUnits_160 : decode cX0_bestUnits 160 = .ok (.iinc 5 (-1), 3) := dk_132 5 255 (dk_at dksX0_bestUnits_6 19 rfl rfl)
theorem dX0_bestUnits_163 : decode cX0_bestUnits 163 = .ok (.goto (-151), 3) := dk_167 255 105 (dk_at dksX0_bestUnits_7 0 rfl rfl)
theorem dX0_bestUnits_166 : decode cX0_bestUnits 166 = .ok (.iload_n 3, 1) := dk_29 (dk_at dksX0_bestUnits_7 3 rfl rfl)
theorem dX0_bestUnits_167 : decode cX0_bestUnits 167 = .ok (.ireturn, 1) := dk_172 (dk_at dksX0_bestUnits_7 4 rfl rfl)
abbrev cX0_turned : ByteArray := prog_1_method_72_code
def yX0_turned : MethodName := ⟨RX0, "turned", "(I)I"⟩
def dkwX0_turned_0 : List UInt8 := [27, 3, 17, 39, 15, 184, 0, 97, 153, 0, 11, 42, 27, 182, 1, 198, 167, 0, 4, 2, 172]
abbrev dktX0_turned_0 : List UInt8 := dkwX0_turned_0 ++ []
theorem dksX0_turned_0 : cX0_turned.data.toList.drop 0 = dktX0_turned_0 := by decide +kernel
theorem dX0_turned_0 : decode cX0_turned 0 = .ok (.iload_n 1, 1) := dk_27 (dk_at dksX0_turned_0 0 rfl rfl)
theorem dX0_turned_1 : decode cX0_turned 1 = .ok (.iconst 0, 1) := dk_3 (dk_at dksX0_turned_0 1 rfl rfl)
theorem dX0_turned_2 : decode cX0_turned 2 = .ok (.sipush 9999, 3) := dk_17 39 15 (dk_at dksX0_turned_0 2 rfl rfl)
theorem dX0_turned_5 : decode cX0_turned 5 = .ok (.invokestatic 97, 3) := dk_184 0 97 (dk_at dksX0_turned_0 5 rfl rfl)
theorem dX0_turned_8 : decode cX0_turned 8 = .ok (.ifCond .eq 11, 3) := dk_153 0 11 (dk_at dksX0_turned_0 8 rfl rfl)
theorem dX0_turned_11 : decode cX0_turned 11 = .ok (.aload_n 0, 1) := dk_42 (dk_at dksX0_turned_0 11 rfl rfl)
theorem dX0_turned_12 : decode cX0_turned 12 = .ok (.iload_n 1, 1) := dk_27 (dk_at dksX0_turned_0 12 rfl rfl)
theorem dX0_turned_13 : decode cX0_turned 13 = .ok (.invokevirtual 454, 3) := dk_182 1 198 (dk_at dksX0_turned_0 13 rfl rfl)
theorem dX0_turned_16 : decode cX0_turned 16 = .ok (.goto 4, 3) := dk_167 0 4 (dk_at dksX0_turned_0 16 rfl rfl)
theorem dX0_turned_19 : decode cX0_turned 19 = .ok (.iconst (-1), 1) := dk_2 (dk_at dksX0_turned_0 19 rfl rfl)
theorem dX0_turned_20 : decode cX0_turned 20 = .ok (.ireturn, 1) := dk_172 (dk_at dksX0_turned_0 20 rfl rfl)
abbrev cX0_turnedFrom : ByteArray := prog_1_method_71_code
def yX0_turnedFrom : MethodName := ⟨RX0, "turnedFrom", "(I)I"⟩
def dkwX0_turnedFrom_9 : List UInt8 := [153, 0, 7, 28, 167, 0, 5, 16, 252, 172]
abbrev dktX0_turnedFrom_9 : List UInt8 := dkwX0_turnedFrom_9 ++ []
def dkwX0_turnedFrom_8 : List UInt8 := [167, 0, 9, 4, 21, 6, 120, 2, 130, 126, 61, 132, 6, 1, 167, 255, 160, 132, 4, 1, 167, 255, 107, 29]
abbrev dktX0_turnedFrom_8 : List UInt8 := dkwX0_turnedFrom_8 ++ dktX0_turnedFrom_9
def dkwX0_turnedFrom_7 : List UInt8 := [180, 0, 105, 122, 4, 126, 4, 160, 0, 7, 4, 167, 0, 4, 3, 54, 8, 28, 21, 8, 153, 0, 7, 2]
abbrev dktX0_turnedFrom_7 : List UInt8 := dkwX0_turnedFrom_7 ++ dktX0_turnedFrom_8
def dkwX0_turnedFrom_6 : List UInt8 := [158, 0, 37, 25, 7, 25, 5, 180, 1, 197, 165, 0, 23, 25, 7, 180, 0, 160, 25, 5, 180, 1, 197]
abbrev dktX0_turnedFrom_6 : List UInt8 := dkwX0_turnedFrom_6 ++ dktX0_turnedFrom_7
def dkwX0_turnedFrom_5 : List UInt8 := [162, 0, 88, 42, 21, 6, 182, 0, 156, 58, 7, 25, 7, 198, 0, 48, 25, 5, 180, 1, 197, 182, 0, 215]
abbrev dktX0_turnedFrom_5 : List UInt8 := dkwX0_turnedFrom_5 ++ dktX0_turnedFrom_6
def dkwX0_turnedFrom_4 : List UInt8 := [27, 162, 0, 6, 167, 0, 107, 4, 62, 3, 54, 6, 21, 6, 42, 180, 0, 12, 185, 0, 91, 1, 0]
abbrev dktX0_turnedFrom_4 : List UInt8 := dkwX0_turnedFrom_4 ++ dktX0_turnedFrom_5
def dkwX0_turnedFrom_3 : List UInt8 := [162, 0, 141, 42, 180, 0, 37, 21, 4, 185, 0, 152, 2, 0, 192, 1, 65, 58, 5, 25, 5, 180, 1, 194]
abbrev dktX0_turnedFrom_3 : List UInt8 := dkwX0_turnedFrom_3 ++ dktX0_turnedFrom_4
def dkwX0_turnedFrom_2 : List UInt8 := [132, 3, 1, 167, 255, 211, 3, 62, 3, 54, 4, 21, 4, 42, 180, 0, 37, 185, 0, 91, 1, 0]
abbrev dktX0_turnedFrom_2 : List UInt8 := dkwX0_turnedFrom_2 ++ dktX0_turnedFrom_3
def dkwX0_turnedFrom_1 : List UInt8 := [185, 0, 152, 2, 0, 192, 0, 106, 182, 0, 215, 158, 0, 9, 4, 29, 120, 167, 0, 4, 3, 128, 61]
abbrev dktX0_turnedFrom_1 : List UInt8 := dkwX0_turnedFrom_1 ++ dktX0_turnedFrom_2
def dkwX0_turnedFrom_0 : List UInt8 := [3, 61, 3, 62, 29, 42, 180, 0, 12, 185, 0, 91, 1, 0, 162, 0, 38, 28, 42, 180, 0, 12, 29]
abbrev dktX0_turnedFrom_0 : List UInt8 := dkwX0_turnedFrom_0 ++ dktX0_turnedFrom_1
theorem dksX0_turnedFrom_0 : cX0_turnedFrom.data.toList.drop 0 = dktX0_turnedFrom_0 := by decide +kernel
theorem dksX0_turnedFrom_1 : cX0_turnedFrom.data.toList.drop 23 = dktX0_turnedFrom_1 := dk_seg dksX0_turnedFrom_0 23 rfl rfl
theorem dksX0_turnedFrom_2 : cX0_turnedFrom.data.toList.drop 46 = dktX0_turnedFrom_2 := dk_seg dksX0_turnedFrom_1 23 rfl rfl
theorem dksX0_turnedFrom_3 : cX0_turnedFrom.data.toList.drop 68 = dktX0_turnedFrom_3 := dk_seg dksX0_turnedFrom_2 22 rfl rfl
theorem dksX0_turnedFrom_4 : cX0_turnedFrom.data.toList.drop 92 = dktX0_turnedFrom_4 := dk_seg dksX0_turnedFrom_3 24 rfl rfl
theorem dksX0_turnedFrom_5 : cX0_turnedFrom.data.toList.drop 115 = dktX0_turnedFrom_5 := dk_seg dksX0_turnedFrom_4 23 rfl rfl
theorem dksX0_turnedFrom_6 : cX0_turnedFrom.data.toList.drop 139 = dktX0_turnedFrom_6 := dk_seg dksX0_turnedFrom_5 24 rfl rfl
theorem dksX0_turnedFrom_7 : cX0_turnedFrom.data.toList.drop 162 = dktX0_turnedFrom_7 := dk_seg dksX0_turnedFrom_6 23 rfl rfl
theorem dksX0_turnedFrom_8 : cX0_turnedFrom.data.toList.drop 186 = dktX0_turnedFrom_8 := dk_seg dksX0_turnedFrom_7 24 rfl rfl
theorem dksX0_turnedFrom_9 : cX0_turnedFrom.data.toList.drop 210 = dktX0_turnedFrom_9 := dk_seg dksX0_turnedFrom_8 24 rfl rfl
theorem dX0_turnedFrom_0 : decode cX0_turnedFrom 0 = .ok (.iconst 0, 1) := dk_3 (dk_at dksX0_turnedFrom_0 0 rfl rfl)
theorem dX0_turnedFrom_1 : decode cX0_turnedFrom 1 = .ok (.istore_n 2, 1) := dk_61 (dk_at dksX0_turnedFrom_0 1 rfl rfl)
theorem dX0_turnedFrom_2 : decode cX0_turnedFrom 2 = .ok (.iconst 0, 1) := dk_3 (dk_at dksX0_turnedFrom_0 2 rfl rfl)
theorem dX0_turnedFrom_3 : decode cX0_turnedFrom 3 = .ok (.istore_n 3, 1) := dk_62 (dk_at dksX0_turnedFrom_0 3 rfl rfl)
theorem dX0_turnedFrom_4 : decode cX0_turnedFrom 4 = .ok (.iload_n 3, 1) := dk_29 (dk_at dksX0_turnedFrom_0 4 rfl rfl)
theorem dX0_turnedFrom_5 : decode cX0_turnedFrom 5 = .ok (.aload_n 0, 1) := dk_42 (dk_at dksX0_turnedFrom_0 5 rfl rfl)
theorem dX0_turnedFrom_6 : decode cX0_turnedFrom 6 = .ok (.getfield 12, 3) := dk_180 0 12 (dk_at dksX0_turnedFrom_0 6 rfl rfl)
theorem dX0_turnedFrom_9 : decode cX0_turnedFrom 9 = .ok (.invokeinterface 91 1, 5) := by decide +kernel
theorem dX0_turnedFrom_14 : decode cX0_turnedFrom 14 = .ok (.if_icmp .ge 38, 3) := dk_162 0 38 (dk_at dksX0_turnedFrom_0 14 rfl rfl)
theorem dX0_turnedFrom_17 : decode cX0_turnedFrom 17 = .ok (.iload_n 2, 1) := dk_28 (dk_at dksX0_turnedFrom_0 17 rfl rfl)
theorem dX0_turnedFrom_18 : decode cX0_turnedFrom 18 = .ok (.aload_n 0, 1) := dk_42 (dk_at dksX0_turnedFrom_0 18 rfl rfl)
theorem dX0_turnedFrom_19 : decode cX0_turnedFrom 19 = .ok (.getfield 12, 3) := dk_180 0 12 (dk_at dksX0_turnedFrom_0 19 rfl rfl)
theorem dX0_turnedFrom_22 : decode cX0_turnedFrom 22 = .ok (.iload_n 3, 1) := dk_29 (dk_at dksX0_turnedFrom_0 22 rfl rfl)
theorem dX0_turnedFrom_23 : decode cX0_turnedFrom 23 = .ok (.invokeinterface 152 2, 5) := by decide +kernel
theorem dX0_turnedFrom_28 : decode cX0_turnedFrom 28 = .ok (.checkcast 106, 3) := dk_192 0 106 (dk_at dksX0_turnedFrom_1 5 rfl rfl)
theorem dX0_turnedFrom_31 : decode cX0_turnedFrom 31 = .ok (.invokevirtual 215, 3) := dk_182 0 215 (dk_at dksX0_turnedFrom_1 8 rfl rfl)
theorem dX0_turnedFrom_34 : decode cX0_turnedFrom 34 = .ok (.ifCond .le 9, 3) := dk_158 0 9 (dk_at dksX0_turnedFrom_1 11 rfl rfl)
theorem dX0_turnedFrom_37 : decode cX0_turnedFrom 37 = .ok (.iconst 1, 1) := dk_4 (dk_at dksX0_turnedFrom_1 14 rfl rfl)
theorem dX0_turnedFrom_38 : decode cX0_turnedFrom 38 = .ok (.iload_n 3, 1) := dk_29 (dk_at dksX0_turnedFrom_1 15 rfl rfl)
theorem dX0_turnedFrom_39 : decode cX0_turnedFrom 39 = .ok (.ishl, 1) := dk_120 (dk_at dksX0_turnedFrom_1 16 rfl rfl)
theorem dX0_turnedFrom_40 : decode cX0_turnedFrom 40 = .ok (.goto 4, 3) := dk_167 0 4 (dk_at dksX0_turnedFrom_1 17 rfl rfl)
theorem dX0_turnedFrom_43 : decode cX0_turnedFrom 43 = .ok (.iconst 0, 1) := dk_3 (dk_at dksX0_turnedFrom_1 20 rfl rfl)
theorem dX0_turnedFrom_44 : decode cX0_turnedFrom 44 = .ok (.ior, 1) := dk_128 (dk_at dksX0_turnedFrom_1 21 rfl rfl)
theorem dX0_turnedFrom_45 : decode cX0_turnedFrom 45 = .ok (.istore_n 2, 1) := dk_61 (dk_at dksX0_turnedFrom_1 22 rfl rfl)
theorem dX0_turnedFrom_46 : decode cX0_turnedFrom 46 = .ok (.iinc 3 1, 3) := dk_132 3 1 (dk_at dksX0_turnedFrom_2 0 rfl rfl)
theorem dX0_turnedFrom_49 : decode cX0_turnedFrom 49 = .ok (.goto (-45), 3) := dk_167 255 211 (dk_at dksX0_turnedFrom_2 3 rfl rfl)
theorem dX0_turnedFrom_52 : decode cX0_turnedFrom 52 = .ok (.iconst 0, 1) := dk_3 (dk_at dksX0_turnedFrom_2 6 rfl rfl)
theorem dX0_turnedFrom_53 : decode cX0_turnedFrom 53 = .ok (.istore_n 3, 1) := dk_62 (dk_at dksX0_turnedFrom_2 7 rfl rfl)
theorem dX0_turnedFrom_54 : decode cX0_turnedFrom 54 = .ok (.iconst 0, 1) := dk_3 (dk_at dksX0_turnedFrom_2 8 rfl rfl)
theorem dX0_turnedFrom_55 : decode cX0_turnedFrom 55 = .ok (.istore 4, 2) := dk_54 4 (dk_at dksX0_turnedFrom_2 9 rfl rfl)
theorem dX0_turnedFrom_57 : decode cX0_turnedFrom 57 = .ok (.iload 4, 2) := dk_21 4 (dk_at dksX0_turnedFrom_2 11 rfl rfl)
theorem dX0_turnedFrom_59 : decode cX0_turnedFrom 59 = .ok (.aload_n 0, 1) := dk_42 (dk_at dksX0_turnedFrom_2 13 rfl rfl)
theorem dX0_turnedFrom_60 : decode cX0_turnedFrom 60 = .ok (.getfield 37, 3) := dk_180 0 37 (dk_at dksX0_turnedFrom_2 14 rfl rfl)
theorem dX0_turnedFrom_63 : decode cX0_turnedFrom 63 = .ok (.invokeinterface 91 1, 5) := by decide +kernel
theorem dX0_turnedFrom_68 : decode cX0_turnedFrom 68 = .ok (.if_icmp .ge 141, 3) := dk_162 0 141 (dk_at dksX0_turnedFrom_3 0 rfl rfl)
theorem dX0_turnedFrom_71 : decode cX0_turnedFrom 71 = .ok (.aload_n 0, 1) := dk_42 (dk_at dksX0_turnedFrom_3 3 rfl rfl)
theorem dX0_turnedFrom_72 : decode cX0_turnedFrom 72 = .ok (.getfield 37, 3) := dk_180 0 37 (dk_at dksX0_turnedFrom_3 4 rfl rfl)
theorem dX0_turnedFrom_75 : decode cX0_turnedFrom 75 = .ok (.iload 4, 2) := dk_21 4 (dk_at dksX0_turnedFrom_3 7 rfl rfl)
theorem dX0_turnedFrom_77 : decode cX0_turnedFrom 77 = .ok (.invokeinterface 152 2, 5) := by decide +kernel
theorem dX0_turnedFrom_82 : decode cX0_turnedFrom 82 = .ok (.checkcast 321, 3) := dk_192 1 65 (dk_at dksX0_turnedFrom_3 14 rfl rfl)
theorem dX0_turnedFrom_85 : decode cX0_turnedFrom 85 = .ok (.astore 5, 2) := dk_58 5 (dk_at dksX0_turnedFrom_3 17 rfl rfl)
theorem dX0_turnedFrom_87 : decode cX0_turnedFrom 87 = .ok (.aload 5, 2) := dk_25 5 (dk_at dksX0_turnedFrom_3 19 rfl rfl)
theorem dX0_turnedFrom_89 : decode cX0_turnedFrom 89 = .ok (.getfield 450, 3) := dk_180 1 194 (dk_at dksX0_turnedFrom_3 21 rfl rfl)
theorem dX0_turnedFrom_92 : decode cX0_turnedFrom 92 = .ok (.iload_n 1, 1) := dk_27 (dk_at dksX0_turnedFrom_4 0 rfl rfl)
theorem dX0_turnedFrom_93 : decode cX0_turnedFrom 93 = .ok (.if_icmp .ge 6, 3) := dk_162 0 6 (dk_at dksX0_turnedFrom_4 1 rfl rfl)
theorem dX0_turnedFrom_96 : decode cX0_turnedFrom 96 = .ok (.goto 107, 3) := dk_167 0 107 (dk_at dksX0_turnedFrom_4 4 rfl rfl)
theorem dX0_turnedFrom_99 : decode cX0_turnedFrom 99 = .ok (.iconst 1, 1) := dk_4 (dk_at dksX0_turnedFrom_4 7 rfl rfl)
theorem dX0_turnedFrom_100 : decode cX0_turnedFrom 100 = .ok (.istore_n 3, 1) := dk_62 (dk_at dksX0_turnedFrom_4 8 rfl rfl)
theorem dX0_turnedFrom_101 : decode cX0_turnedFrom 101 = .ok (.iconst 0, 1) := dk_3 (dk_at dksX0_turnedFrom_4 9 rfl rfl)
theorem dX0_turnedFrom_102 : decode cX0_turnedFrom 102 = .ok (.istore 6, 2) := dk_54 6 (dk_at dksX0_turnedFrom_4 10 rfl rfl)
theorem dX0_turnedFrom_104 : decode cX0_turnedFrom 104 = .ok (.iload 6, 2) := dk_21 6 (dk_at dksX0_turnedFrom_4 12 rfl rfl)
theorem dX0_turnedFrom_106 : decode cX0_turnedFrom 106 = .ok (.aload_n 0, 1) := dk_42 (dk_at dksX0_turnedFrom_4 14 rfl rfl)
theorem dX0_turnedFrom_107 : decode cX0_turnedFrom 107 = .ok (.getfield 12, 3) := dk_180 0 12 (dk_at dksX0_turnedFrom_4 15 rfl rfl)
theorem dX0_turnedFrom_110 : decode cX0_turnedFrom 110 = .ok (.invokeinterface 91 1, 5) := by decide +kernel
theorem dX0_turnedFrom_115 : decode cX0_turnedFrom 115 = .ok (.if_icmp .ge 88, 3) := dk_162 0 88 (dk_at dksX0_turnedFrom_5 0 rfl rfl)
theorem dX0_turnedFrom_118 : decode cX0_turnedFrom 118 = .ok (.aload_n 0, 1) := dk_42 (dk_at dksX0_turnedFrom_5 3 rfl rfl)
theorem dX0_turnedFrom_119 : decode cX0_turnedFrom 119 = .ok (.iload 6, 2) := dk_21 6 (dk_at dksX0_turnedFrom_5 4 rfl rfl)
theorem dX0_turnedFrom_121 : decode cX0_turnedFrom 121 = .ok (.invokevirtual 156, 3) := dk_182 0 156 (dk_at dksX0_turnedFrom_5 6 rfl rfl)
theorem dX0_turnedFrom_124 : decode cX0_turnedFrom 124 = .ok (.astore 7, 2) := dk_58 7 (dk_at dksX0_turnedFrom_5 9 rfl rfl)
theorem dX0_turnedFrom_126 : decode cX0_turnedFrom 126 = .ok (.aload 7, 2) := dk_25 7 (dk_at dksX0_turnedFrom_5 11 rfl rfl)
theorem dX0_turnedFrom_128 : decode cX0_turnedFrom 128 = .ok (.ifnull 48, 3) := dk_198 0 48 (dk_at dksX0_turnedFrom_5 13 rfl rfl)
theorem dX0_turnedFrom_131 : decode cX0_turnedFrom 131 = .ok (.aload 5, 2) := dk_25 5 (dk_at dksX0_turnedFrom_5 16 rfl rfl)
theorem dX0_turnedFrom_133 : decode cX0_turnedFrom 133 = .ok (.getfield 453, 3) := dk_180 1 197 (dk_at dksX0_turnedFrom_5 18 rfl rfl)
theorem dX0_turnedFrom_136 : decode cX0_turnedFrom 136 = .ok (.invokevirtual 215, 3) := dk_182 0 215 (dk_at dksX0_turnedFrom_5 21 rfl rfl)
theorem dX0_turnedFrom_139 : decode cX0_turnedFrom 139 = .ok (.ifCond .le 37, 3) := dk_158 0 37 (dk_at dksX0_turnedFrom_6 0 rfl rfl)
theorem dX0_turnedFrom_142 : decode cX0_turnedFrom 142 = .ok (.aload 7, 2) := dk_25 7 (dk_at dksX0_turnedFrom_6 3 rfl rfl)
theorem dX0_turnedFrom_144 : decode cX0_turnedFrom 144 = .ok (.aload 5, 2) := dk_25 5 (dk_at dksX0_turnedFrom_6 5 rfl rfl)
theorem dX0_turnedFrom_146 : decode cX0_turnedFrom 146 = .ok (.getfield 453, 3) := dk_180 1 197 (dk_at dksX0_turnedFrom_6 7 rfl rfl)
theorem dX0_turnedFrom_149 : decode cX0_turnedFrom 149 = .ok (.if_acmp .eq 23, 3) := dk_165 0 23 (dk_at dksX0_turnedFrom_6 10 rfl rfl)
theorem dX0_turnedFrom_152 : decode cX0_turnedFrom 152 = .ok (.aload 7, 2) := dk_25 7 (dk_at dksX0_turnedFrom_6 13 rfl rfl)
theorem dX0_turnedFrom_154 : decode cX0_turnedFrom 154 = .ok (.getfield 160, 3) := dk_180 0 160 (dk_at dksX0_turnedFrom_6 15 rfl rfl)
theorem dX0_turnedFrom_157 : decode cX0_turnedFrom 157 = .ok (.aload 5, 2) := dk_25 5 (dk_at dksX0_turnedFrom_6 18 rfl rfl)
theorem dX0_turnedFrom_159 : decode cX0_turnedFrom 159 = .ok (.getfield 453, 3) := dk_180 1 197 (dk_at dksX0_turnedFrom_6 20 rfl rfl)
theorem dX0_turnedFrom_162 : decode cX0_turnedFrom 162 = .ok (.getfield 105, 3) := dk_180 0 105 (dk_at dksX0_turnedFrom_7 0 rfl rfl)
theorem dX0_turnedFrom_165 : decode cX0_turnedFrom 165 = .ok (.ishr, 1) := dk_122 (dk_at dksX0_turnedFrom_7 3 rfl rfl)
theorem dX0_turnedFrom_166 : decode cX0_turnedFrom 166 = .ok (.iconst 1, 1) := dk_4 (dk_at dksX0_turnedFrom_7 4 rfl rfl)
theorem dX0_turnedFrom_167 : decode cX0_turnedFrom 167 = .ok (.iand, 1) := dk_126 (dk_at dksX0_turnedFrom_7 5 rfl rfl)
theorem dX0_turnedFrom_168 : decode cX0_turnedFrom 168 = .ok (.iconst 1, 1) := dk_4 (dk_at dksX0_turnedFrom_7 6 rfl rfl)
theorem dX0_turnedFrom_169 : decode cX0_turnedFrom 169 = .ok (.if_icmp .ne 7, 3) := dk_160 0 7 (dk_at dksX0_turnedFrom_7 7 rfl rfl)
theorem dX0_turnedFrom_172 : decode cX0_turnedFrom 172 = .ok (.iconst 1, 1) := dk_4 (dk_at dksX0_turnedFrom_7 10 rfl rfl)
theorem dX0_turnedFrom_173 : decode cX0_turnedFrom 173 = .ok (.goto 4, 3) := dk_167 0 4 (dk_at dksX0_turnedFrom_7 11 rfl rfl)
theorem dX0_turnedFrom_176 : decode cX0_turnedFrom 176 = .ok (.iconst 0, 1) := dk_3 (dk_at dksX0_turnedFrom_7 14 rfl rfl)
theorem dX0_turnedFrom_177 : decode cX0_turnedFrom 177 = .ok (.istore 8, 2) := dk_54 8 (dk_at dksX0_turnedFrom_7 15 rfl rfl)
theorem dX0_turnedFrom_179 : decode cX0_turnedFrom 179 = .ok (.iload_n 2, 1) := dk_28 (dk_at dksX0_turnedFrom_7 17 rfl rfl)
theorem dX0_turnedFrom_180 : decode cX0_turnedFrom 180 = .ok (.iload 8, 2) := dk_21 8 (dk_at dksX0_turnedFrom_7 18 rfl rfl)
theorem dX0_turnedFrom_182 : decode cX0_turnedFrom 182 = .ok (.ifCond .eq 7, 3) := dk_153 0 7 (dk_at dksX0_turnedFrom_7 20 rfl rfl)
theorem dX0_turnedFrom_185 : decode cX0_turnedFrom 185 = .ok (.iconst (-1), 1) := dk_2 (dk_at dksX0_turnedFrom_7 23 rfl rfl)
theorem dX0_turnedFrom_186 : decode cX0_turnedFrom 186 = .ok (.goto 9, 3) := dk_167 0 9 (dk_at dksX0_turnedFrom_8 0 rfl rfl)
theorem dX0_turnedFrom_189 : decode cX0_turnedFrom 189 = .ok (.iconst 1, 1) := dk_4 (dk_at dksX0_turnedFrom_8 3 rfl rfl)
theorem dX0_turnedFrom_190 : decode cX0_turnedFrom 190 = .ok (.iload 6, 2) := dk_21 6 (dk_at dksX0_turnedFrom_8 4 rfl rfl)
theorem dX0_turnedFrom_192 : decode cX0_turnedFrom 192 = .ok (.ishl, 1) := dk_120 (dk_at dksX0_turnedFrom_8 6 rfl rfl)
theorem dX0_turnedFrom_193 : decode cX0_turnedFrom 193 = .ok (.iconst (-1), 1) := dk_2 (dk_at dksX0_turnedFrom_8 7 rfl rfl)
theorem dX0_turnedFrom_194 : decode cX0_turnedFrom 194 = .ok (.ixor, 1) := dk_130 (dk_at dksX0_turnedFrom_8 8 rfl rfl)
theorem dX0_turnedFrom_195 : decode cX0_turnedFrom 195 = .ok (.iand, 1) := dk_126 (dk_at dksX0_turnedFrom_8 9 rfl rfl)
theorem dX0_turnedFrom_196 : decode cX0_turnedFrom 196 = .ok (.istore_n 2, 1) := dk_61 (dk_at dksX0_turnedFrom_8 10 rfl rfl)
theorem dX0_turnedFrom_197 : decode cX0_turnedFrom 197 = .ok (.iinc 6 1, 3) := dk_132 6 1 (dk_at dksX0_turnedFrom_8 11 rfl rfl)
theorem dX0_turnedFrom_200 : decode cX0_turnedFrom 200 = .ok (.goto (-96), 3) := dk_167 255 160 (dk_at dksX0_turnedFrom_8 14 rfl rfl)
theorem dX0_turnedFrom_203 : decode cX0_turnedFrom 203 = .ok (.iinc 4 1, 3) := dk_132 4 1 (dk_at dksX0_turnedFrom_8 17 rfl rfl)
theorem dX0_turnedFrom_206 : decode cX0_turnedFrom 206 = .ok (.goto (-149), 3) := dk_167 255 107 (dk_at dksX0_turnedFrom_8 20 rfl rfl)
theorem dX0_turnedFrom_209 : decode cX0_turnedFrom 209 = .ok (.iload_n 3, 1) := dk_29 (dk_at dksX0_turnedFrom_8 23 rfl rfl)
theorem dX0_turnedFrom_210 : decode cX0_turnedFrom 210 = .ok (.ifCond .eq 7, 3) := dk_153 0 7 (dk_at dksX0_turnedFrom_9 0 rfl rfl)
theorem dX0_turnedFrom_213 : decode cX0_turnedFrom 213 = .ok (.iload_n 2, 1) := dk_28 (dk_at dksX0_turnedFrom_9 3 rfl rfl)
theorem dX0_turnedFrom_214 : decode cX0_turnedFrom 214 = .ok (.goto 5, 3) := dk_167 0 5 (dk_at dksX0_turnedFrom_9 4 rfl rfl)
theorem dX0_turnedFrom_217 : decode cX0_turnedFrom 217 = .ok (.bipush (-4), 2) := dk_16 252 (dk_at dksX0_turnedFrom_9 7 rfl rfl)
theorem dX0_turnedFrom_219 : decode cX0_turnedFrom 219 = .ok (.ireturn, 1) := dk_172 (dk_at dksX0_turnedFrom_9 9 rfl rfl)
abbrev cX0_sure : ByteArray := prog_1_method_73_code
def yX0_sure : MethodName := ⟨RX0, "sure", "(I)I"⟩
def dkwX0_sure_1 : List UInt8 := [184, 1, 201, 4, 160, 0, 10, 28, 184, 1, 206, 167, 0, 5, 16, 252, 172]
abbrev dktX0_sure_1 : List UInt8 := dkwX0_sure_1 ++ []
def dkwX0_sure_0 : List UInt8 := [27, 3, 17, 39, 15, 184, 0, 97, 154, 0, 5, 2, 172, 42, 27, 182, 1, 198, 61, 28, 158, 0, 18, 28]
abbrev dktX0_sure_0 : List UInt8 := dkwX0_sure_0 ++ dktX0_sure_1
theorem dksX0_sure_0 : cX0_sure.data.toList.drop 0 = dktX0_sure_0 := by decide +kernel
theorem dksX0_sure_1 : cX0_sure.data.toList.drop 24 = dktX0_sure_1 := dk_seg dksX0_sure_0 24 rfl rfl
theorem dX0_sure_0 : decode cX0_sure 0 = .ok (.iload_n 1, 1) := dk_27 (dk_at dksX0_sure_0 0 rfl rfl)
theorem dX0_sure_1 : decode cX0_sure 1 = .ok (.iconst 0, 1) := dk_3 (dk_at dksX0_sure_0 1 rfl rfl)
theorem dX0_sure_2 : decode cX0_sure 2 = .ok (.sipush 9999, 3) := dk_17 39 15 (dk_at dksX0_sure_0 2 rfl rfl)
theorem dX0_sure_5 : decode cX0_sure 5 = .ok (.invokestatic 97, 3) := dk_184 0 97 (dk_at dksX0_sure_0 5 rfl rfl)
theorem dX0_sure_8 : decode cX0_sure 8 = .ok (.ifCond .ne 5, 3) := dk_154 0 5 (dk_at dksX0_sure_0 8 rfl rfl)
theorem dX0_sure_11 : decode cX0_sure 11 = .ok (.iconst (-1), 1) := dk_2 (dk_at dksX0_sure_0 11 rfl rfl)
theorem dX0_sure_12 : decode cX0_sure 12 = .ok (.ireturn, 1) := dk_172 (dk_at dksX0_sure_0 12 rfl rfl)
theorem dX0_sure_13 : decode cX0_sure 13 = .ok (.aload_n 0, 1) := dk_42 (dk_at dksX0_sure_0 13 rfl rfl)
theorem dX0_sure_14 : decode cX0_sure 14 = .ok (.iload_n 1, 1) := dk_27 (dk_at dksX0_sure_0 14 rfl rfl)
theorem dX0_sure_15 : decode cX0_sure 15 = .ok (.invokevirtual 454, 3) := dk_182 1 198 (dk_at dksX0_sure_0 15 rfl rfl)
theorem dX0_sure_18 : decode cX0_sure 18 = .ok (.istore_n 2, 1) := dk_61 (dk_at dksX0_sure_0 18 rfl rfl)
theorem dX0_sure_19 : decode cX0_sure 19 = .ok (.iload_n 2, 1) := dk_28 (dk_at dksX0_sure_0 19 rfl rfl)
theorem dX0_sure_20 : decode cX0_sure 20 = .ok (.ifCond .le 18, 3) := dk_158 0 18 (dk_at dksX0_sure_0 20 rfl rfl)
theorem dX0_sure_23 : decode cX0_sure 23 = .ok (.iload_n 2, 1) := dk_28 (dk_at dksX0_sure_0 23 rfl rfl)
theorem dX0_sure_24 : decode cX0_sure 24 = .ok (.invokestatic 457, 3) := dk_184 1 201 (dk_at dksX0_sure_1 0 rfl rfl)
theorem dX0_sure_27 : decode cX0_sure 27 = .ok (.iconst 1, 1) := dk_4 (dk_at dksX0_sure_1 3 rfl rfl)
theorem dX0_sure_28 : decode cX0_sure 28 = .ok (.if_icmp .ne 10, 3) := dk_160 0 10 (dk_at dksX0_sure_1 4 rfl rfl)
theorem dX0_sure_31 : decode cX0_sure 31 = .ok (.iload_n 2, 1) := dk_28 (dk_at dksX0_sure_1 7 rfl rfl)
theorem dX0_sure_32 : decode cX0_sure 32 = .ok (.invokestatic 462, 3) := dk_184 1 206 (dk_at dksX0_sure_1 8 rfl rfl)
theorem dX0_sure_35 : decode cX0_sure 35 = .ok (.goto 5, 3) := dk_167 0 5 (dk_at dksX0_sure_1 11 rfl rfl)
theorem dX0_sure_38 : decode cX0_sure 38 = .ok (.bipush (-4), 2) := dk_16 252 (dk_at dksX0_sure_1 14 rfl rfl)
theorem dX0_sure_40 : decode cX0_sure 40 = .ok (.ireturn, 1) := dk_172 (dk_at dksX0_sure_1 16 rfl rfl)
abbrev cX0_talk : ByteArray := prog_1_method_75_code
def yX0_talk : MethodName := ⟨RX0, "talk", "(III)I"⟩
def dkwX0_talk_3 : List UInt8 := [167, 0, 11, 29, 42, 180, 0, 69, 28, 46, 104, 172]
abbrev dktX0_talk_3 : List UInt8 := dkwX0_talk_3 ++ []
def dkwX0_talk_2 : List UInt8 := [42, 27, 182, 1, 209, 54, 4, 21, 4, 155, 0, 12, 42, 180, 0, 69, 28, 46, 156, 0, 8, 16, 252]
abbrev dktX0_talk_2 : List UInt8 := dkwX0_talk_2 ++ dktX0_talk_3
def dkwX0_talk_1 : List UInt8 := [154, 0, 5, 2, 172, 42, 27, 182, 0, 156, 198, 0, 11, 42, 28, 182, 0, 156, 199, 0, 6, 16, 244, 172]
abbrev dktX0_talk_1 : List UInt8 := dkwX0_talk_1 ++ dktX0_talk_2
def dkwX0_talk_0 : List UInt8 := [42, 27, 182, 0, 143, 153, 0, 21, 42, 28, 182, 0, 143, 153, 0, 13, 29, 4, 16, 100, 184, 0, 97]
abbrev dktX0_talk_0 : List UInt8 := dkwX0_talk_0 ++ dktX0_talk_1
theorem dksX0_talk_0 : cX0_talk.data.toList.drop 0 = dktX0_talk_0 := by decide +kernel
theorem dksX0_talk_1 : cX0_talk.data.toList.drop 23 = dktX0_talk_1 := dk_seg dksX0_talk_0 23 rfl rfl
theorem dksX0_talk_2 : cX0_talk.data.toList.drop 47 = dktX0_talk_2 := dk_seg dksX0_talk_1 24 rfl rfl
theorem dksX0_talk_3 : cX0_talk.data.toList.drop 70 = dktX0_talk_3 := dk_seg dksX0_talk_2 23 rfl rfl
theorem dX0_talk_0 : decode cX0_talk 0 = .ok (.aload_n 0, 1) := dk_42 (dk_at dksX0_talk_0 0 rfl rfl)
theorem dX0_talk_1 : decode cX0_talk 1 = .ok (.iload_n 1, 1) := dk_27 (dk_at dksX0_talk_0 1 rfl rfl)
theorem dX0_talk_2 : decode cX0_talk 2 = .ok (.invokevirtual 143, 3) := dk_182 0 143 (dk_at dksX0_talk_0 2 rfl rfl)
theorem dX0_talk_5 : decode cX0_talk 5 = .ok (.ifCond .eq 21, 3) := dk_153 0 21 (dk_at dksX0_talk_0 5 rfl rfl)
theorem dX0_talk_8 : decode cX0_talk 8 = .ok (.aload_n 0, 1) := dk_42 (dk_at dksX0_talk_0 8 rfl rfl)
theorem dX0_talk_9 : decode cX0_talk 9 = .ok (.iload_n 2, 1) := dk_28 (dk_at dksX0_talk_0 9 rfl rfl)
theorem dX0_talk_10 : decode cX0_talk 10 = .ok (.invokevirtual 143, 3) := dk_182 0 143 (dk_at dksX0_talk_0 10 rfl rfl)
theorem dX0_talk_13 : decode cX0_talk 13 = .ok (.ifCond .eq 13, 3) := dk_153 0 13 (dk_at dksX0_talk_0 13 rfl rfl)
theorem dX0_talk_16 : decode cX0_talk 16 = .ok (.iload_n 3, 1) := dk_29 (dk_at dksX0_talk_0 16 rfl rfl)
theorem dX0_talk_17 : decode cX0_talk 17 = .ok (.iconst 1, 1) := dk_4 (dk_at dksX0_talk_0 17 rfl rfl)
theorem dX0_talk_18 : decode cX0_talk 18 = .ok (.bipush 100, 2) := dk_16 100 (dk_at dksX0_talk_0 18 rfl rfl)
theorem dX0_talk_20 : decode cX0_talk 20 = .ok (.invokestatic 97, 3) := dk_184 0 97 (dk_at dksX0_talk_0 20 rfl rfl)
theorem dX0_talk_23 : decode cX0_talk 23 = .ok (.ifCond .ne 5, 3) := dk_154 0 5 (dk_at dksX0_talk_1 0 rfl rfl)
theorem dX0_talk_26 : decode cX0_talk 26 = .ok (.iconst (-1), 1) := dk_2 (dk_at dksX0_talk_1 3 rfl rfl)
theorem dX0_talk_27 : decode cX0_talk 27 = .ok (.ireturn, 1) := dk_172 (dk_at dksX0_talk_1 4 rfl rfl)
theorem dX0_talk_28 : decode cX0_talk 28 = .ok (.aload_n 0, 1) := dk_42 (dk_at dksX0_talk_1 5 rfl rfl)
theorem dX0_talk_29 : decode cX0_talk 29 = .ok (.iload_n 1, 1) := dk_27 (dk_at dksX0_talk_1 6 rfl rfl)
theorem dX0_talk_30 : decode cX0_talk 30 = .ok (.invokevirtual 156, 3) := dk_182 0 156 (dk_at dksX0_talk_1 7 rfl rfl)
theorem dX0_talk_33 : decode cX0_talk 33 = .ok (.ifnull 11, 3) := dk_198 0 11 (dk_at dksX0_talk_1 10 rfl rfl)
theorem dX0_talk_36 : decode cX0_talk 36 = .ok (.aload_n 0, 1) := dk_42 (dk_at dksX0_talk_1 13 rfl rfl)
theorem dX0_talk_37 : decode cX0_talk 37 = .ok (.iload_n 2, 1) := dk_28 (dk_at dksX0_talk_1 14 rfl rfl)
theorem dX0_talk_38 : decode cX0_talk 38 = .ok (.invokevirtual 156, 3) := dk_182 0 156 (dk_at dksX0_talk_1 15 rfl rfl)
theorem dX0_talk_41 : decode cX0_talk 41 = .ok (.ifnonnull 6, 3) := dk_199 0 6 (dk_at dksX0_talk_1 18 rfl rfl)
theorem dX0_talk_44 : decode cX0_talk 44 = .ok (.bipush (-12), 2) := dk_16 244 (dk_at dksX0_talk_1 21 rfl rfl)
theorem dX0_talk_46 : decode cX0_talk 46 = .ok (.ireturn, 1) := dk_172 (dk_at dksX0_talk_1 23 rfl rfl)
theorem dX0_talk_47 : decode cX0_talk 47 = .ok (.aload_n 0, 1) := dk_42 (dk_at dksX0_talk_2 0 rfl rfl)
theorem dX0_talk_48 : decode cX0_talk 48 = .ok (.iload_n 1, 1) := dk_27 (dk_at dksX0_talk_2 1 rfl rfl)
theorem dX0_talk_49 : decode cX0_talk 49 = .ok (.invokevirtual 465, 3) := dk_182 1 209 (dk_at dksX0_talk_2 2 rfl rfl)
theorem dX0_talk_52 : decode cX0_talk 52 = .ok (.istore 4, 2) := dk_54 4 (dk_at dksX0_talk_2 5 rfl rfl)
theorem dX0_talk_54 : decode cX0_talk 54 = .ok (.iload 4, 2) := dk_21 4 (dk_at dksX0_talk_2 7 rfl rfl)
theorem dX0_talk_56 : decode cX0_talk 56 = .ok (.ifCond .lt 12, 3) := dk_155 0 12 (dk_at dksX0_talk_2 9 rfl rfl)
theorem dX0_talk_59 : decode cX0_talk 59 = .ok (.aload_n 0, 1) := dk_42 (dk_at dksX0_talk_2 12 rfl rfl)
theorem dX0_talk_60 : decode cX0_talk 60 = .ok (.getfield 69, 3) := dk_180 0 69 (dk_at dksX0_talk_2 13 rfl rfl)
theorem dX0_talk_63 : decode cX0_talk 63 = .ok (.iload_n 2, 1) := dk_28 (dk_at dksX0_talk_2 16 rfl rfl)
theorem dX0_talk_64 : decode cX0_talk 64 = .ok (.iaload, 1) := dk_46 (dk_at dksX0_talk_2 17 rfl rfl)
theorem dX0_talk_65 : decode cX0_talk 65 = .ok (.ifCond .ge 8, 3) := dk_156 0 8 (dk_at dksX0_talk_2 18 rfl rfl)
theorem dX0_talk_68 : decode cX0_talk 68 = .ok (.bipush (-4), 2) := dk_16 252 (dk_at dksX0_talk_2 21 rfl rfl)
theorem dX0_talk_70 : decode cX0_talk 70 = .ok (.goto 11, 3) := dk_167 0 11 (dk_at dksX0_talk_3 0 rfl rfl)
theorem dX0_talk_73 : decode cX0_talk 73 = .ok (.iload_n 3, 1) := dk_29 (dk_at dksX0_talk_3 3 rfl rfl)
theorem dX0_talk_74 : decode cX0_talk 74 = .ok (.aload_n 0, 1) := dk_42 (dk_at dksX0_talk_3 4 rfl rfl)
theorem dX0_talk_75 : decode cX0_talk 75 = .ok (.getfield 69, 3) := dk_180 0 69 (dk_at dksX0_talk_3 5 rfl rfl)
theorem dX0_talk_78 : decode cX0_talk 78 = .ok (.iload_n 2, 1) := dk_28 (dk_at dksX0_talk_3 8 rfl rfl)
theorem dX0_talk_79 : decode cX0_talk 79 = .ok (.iaload, 1) := dk_46 (dk_at dksX0_talk_3 9 rfl rfl)
theorem dX0_talk_80 : decode cX0_talk 80 = .ok (.imul, 1) := dk_104 (dk_at dksX0_talk_3 10 rfl rfl)
theorem dX0_talk_81 : decode cX0_talk 81 = .ok (.ireturn, 1) := dk_172 (dk_at dksX0_talk_3 11 rfl rfl)
abbrev cX0_findSteps : ByteArray := prog_1_method_74_code
def yX0_findSteps : MethodName := ⟨RX0, "findSteps", "(I)I"⟩
def dkwX0_findSteps_8 : List UInt8 := [100, 172]
abbrev dktX0_findSteps_8 : List UInt8 := dkwX0_findSteps_8 ++ []
def dkwX0_findSteps_7 : List UInt8 := [180, 0, 69, 21, 6, 46, 79, 132, 6, 1, 167, 255, 217, 132, 4, 1, 167, 255, 120, 28, 184, 1, 201, 4]
abbrev dktX0_findSteps_7 : List UInt8 := dkwX0_findSteps_7 ++ dktX0_findSteps_8
def dkwX0_findSteps_6 : List UInt8 := [42, 180, 0, 69, 21, 6, 29, 21, 6, 122, 4, 126, 4, 160, 0, 8, 21, 4, 167, 0, 10, 42]
abbrev dktX0_findSteps_6 : List UInt8 := dkwX0_findSteps_6 ++ dktX0_findSteps_7
def dkwX0_findSteps_5 : List UInt8 := [167, 255, 192, 21, 5, 28, 2, 130, 126, 62, 28, 29, 128, 61, 3, 54, 6, 21, 6, 16, 16, 162, 0, 38]
abbrev dktX0_findSteps_5 : List UInt8 := dkwX0_findSteps_5 ++ dktX0_findSteps_6
def dkwX0_findSteps_4 : List UInt8 := [180, 0, 160, 42, 180, 0, 72, 21, 6, 46, 2, 130, 126, 167, 0, 4, 3, 128, 54, 5, 132, 6, 1]
abbrev dktX0_findSteps_4 : List UInt8 := dkwX0_findSteps_4 ++ dktX0_findSteps_5
def dkwX0_findSteps_3 : List UInt8 := [182, 0, 156, 58, 7, 21, 5, 29, 21, 6, 122, 4, 126, 4, 160, 0, 26, 25, 7, 198, 0, 21, 25, 7]
abbrev dktX0_findSteps_3 : List UInt8 := dkwX0_findSteps_3 ++ dktX0_findSteps_4
def dkwX0_findSteps_2 : List UInt8 := [3, 54, 5, 3, 54, 6, 21, 6, 42, 180, 0, 12, 185, 0, 91, 1, 0, 162, 0, 56, 42, 21, 6]
abbrev dktX0_findSteps_2 : List UInt8 := dkwX0_findSteps_2 ++ dktX0_findSteps_3
def dkwX0_findSteps_1 : List UInt8 := [27, 160, 0, 7, 3, 167, 0, 5, 16, 252, 79, 132, 4, 1, 167, 255, 227, 4, 54, 4, 29, 153, 0, 138]
abbrev dktX0_findSteps_1 : List UInt8 := dkwX0_findSteps_1 ++ dktX0_findSteps_2
def dkwX0_findSteps_0 : List UInt8 := [4, 27, 120, 61, 28, 62, 3, 54, 4, 21, 4, 16, 16, 162, 0, 28, 42, 180, 0, 69, 21, 4, 21, 4]
abbrev dktX0_findSteps_0 : List UInt8 := dkwX0_findSteps_0 ++ dktX0_findSteps_1
theorem dksX0_findSteps_0 : cX0_findSteps.data.toList.drop 0 = dktX0_findSteps_0 := by decide +kernel
theorem dksX0_findSteps_1 : cX0_findSteps.data.toList.drop 24 = dktX0_findSteps_1 := dk_seg dksX0_findSteps_0 24 rfl rfl
theorem dksX0_findSteps_2 : cX0_findSteps.data.toList.drop 48 = dktX0_findSteps_2 := dk_seg dksX0_findSteps_1 24 rfl rfl
theorem dksX0_findSteps_3 : cX0_findSteps.data.toList.drop 71 = dktX0_findSteps_3 := dk_seg dksX0_findSteps_2 23 rfl rfl
theorem dksX0_findSteps_4 : cX0_findSteps.data.toList.drop 95 = dktX0_findSteps_4 := dk_seg dksX0_findSteps_3 24 rfl rfl
theorem dksX0_findSteps_5 : cX0_findSteps.data.toList.drop 118 = dktX0_findSteps_5 := dk_seg dksX0_findSteps_4 23 rfl rfl
theorem dksX0_findSteps_6 : cX0_findSteps.data.toList.drop 142 = dktX0_findSteps_6 := dk_seg dksX0_findSteps_5 24 rfl rfl
theorem dksX0_findSteps_7 : cX0_findSteps.data.toList.drop 164 = dktX0_findSteps_7 := dk_seg dksX0_findSteps_6 22 rfl rfl
theorem dksX0_findSteps_8 : cX0_findSteps.data.toList.drop 188 = dktX0_findSteps_8 := dk_seg dksX0_findSteps_7 24 rfl rfl
theorem dX0_findSteps_0 : decode cX0_findSteps 0 = .ok (.iconst 1, 1) := dk_4 (dk_at dksX0_findSteps_0 0 rfl rfl)
theorem dX0_findSteps_1 : decode cX0_findSteps 1 = .ok (.iload_n 1, 1) := dk_27 (dk_at dksX0_findSteps_0 1 rfl rfl)
theorem dX0_findSteps_2 : decode cX0_findSteps 2 = .ok (.ishl, 1) := dk_120 (dk_at dksX0_findSteps_0 2 rfl rfl)
theorem dX0_findSteps_3 : decode cX0_findSteps 3 = .ok (.istore_n 2, 1) := dk_61 (dk_at dksX0_findSteps_0 3 rfl rfl)
theorem dX0_findSteps_4 : decode cX0_findSteps 4 = .ok (.iload_n 2, 1) := dk_28 (dk_at dksX0_findSteps_0 4 rfl rfl)
theorem dX0_findSteps_5 : decode cX0_findSteps 5 = .ok (.istore_n 3, 1) := dk_62 (dk_at dksX0_findSteps_0 5 rfl rfl)
theorem dX0_findSteps_6 : decode cX0_findSteps 6 = .ok (.iconst 0, 1) := dk_3 (dk_at dksX0_findSteps_0 6 rfl rfl)
theorem dX0_findSteps_7 : decode cX0_findSteps 7 = .ok (.istore 4, 2) := dk_54 4 (dk_at dksX0_findSteps_0 7 rfl rfl)
theorem dX0_findSteps_9 : decode cX0_findSteps 9 = .ok (.iload 4, 2) := dk_21 4 (dk_at dksX0_findSteps_0 9 rfl rfl)
theorem dX0_findSteps_11 : decode cX0_findSteps 11 = .ok (.bipush 16, 2) := dk_16 16 (dk_at dksX0_findSteps_0 11 rfl rfl)
theorem dX0_findSteps_13 : decode cX0_findSteps 13 = .ok (.if_icmp .ge 28, 3) := dk_162 0 28 (dk_at dksX0_findSteps_0 13 rfl rfl)
theorem dX0_findSteps_16 : decode cX0_findSteps 16 = .ok (.aload_n 0, 1) := dk_42 (dk_at dksX0_findSteps_0 16 rfl rfl)
theorem dX0_findSteps_17 : decode cX0_findSteps 17 = .ok (.getfield 69, 3) := dk_180 0 69 (dk_at dksX0_findSteps_0 17 rfl rfl)
theorem dX0_findSteps_20 : decode cX0_findSteps 20 = .ok (.iload 4, 2) := dk_21 4 (dk_at dksX0_findSteps_0 20 rfl rfl)
theorem dX0_findSteps_22 : decode cX0_findSteps 22 = .ok (.iload 4, 2) := dk_21 4 (dk_at dksX0_findSteps_0 22 rfl rfl)
theorem dX0_findSteps_24 : decode cX0_findSteps 24 = .ok (.iload_n 1, 1) := dk_27 (dk_at dksX0_findSteps_1 0 rfl rfl)
theorem dX0_findSteps_25 : decode cX0_findSteps 25 = .ok (.if_icmp .ne 7, 3) := dk_160 0 7 (dk_at dksX0_findSteps_1 1 rfl rfl)
theorem dX0_findSteps_28 : decode cX0_findSteps 28 = .ok (.iconst 0, 1) := dk_3 (dk_at dksX0_findSteps_1 4 rfl rfl)
theorem dX0_findSteps_29 : decode cX0_findSteps 29 = .ok (.goto 5, 3) := dk_167 0 5 (dk_at dksX0_findSteps_1 5 rfl rfl)
theorem dX0_findSteps_32 : decode cX0_findSteps 32 = .ok (.bipush (-4), 2) := dk_16 252 (dk_at dksX0_findSteps_1 8 rfl rfl)
theorem dX0_findSteps_34 : decode cX0_findSteps 34 = .ok (.iastore, 1) := dk_79 (dk_at dksX0_findSteps_1 10 rfl rfl)
theorem dX0_findSteps_35 : decode cX0_findSteps 35 = .ok (.iinc 4 1, 3) := dk_132 4 1 (dk_at dksX0_findSteps_1 11 rfl rfl)
theorem dX0_findSteps_38 : decode cX0_findSteps 38 = .ok (.goto (-29), 3) := dk_167 255 227 (dk_at dksX0_findSteps_1 14 rfl rfl)
theorem dX0_findSteps_41 : decode cX0_findSteps 41 = .ok (.iconst 1, 1) := dk_4 (dk_at dksX0_findSteps_1 17 rfl rfl)
theorem dX0_findSteps_42 : decode cX0_findSteps 42 = .ok (.istore 4, 2) := dk_54 4 (dk_at dksX0_findSteps_1 18 rfl rfl)
theorem dX0_findSteps_44 : decode cX0_findSteps 44 = .ok (.iload_n 3, 1) := dk_29 (dk_at dksX0_findSteps_1 20 rfl rfl)
theorem dX0_findSteps_45 : decode cX0_findSteps 45 = .ok (.ifCond .eq 138, 3) := dk_153 0 138 (dk_at dksX0_findSteps_1 21 rfl rfl)
theorem dX0_findSteps_48 : decode cX0_findSteps 48 = .ok (.iconst 0, 1) := dk_3 (dk_at dksX0_findSteps_2 0 rfl rfl)
theorem dX0_findSteps_49 : decode cX0_findSteps 49 = .ok (.istore 5, 2) := dk_54 5 (dk_at dksX0_findSteps_2 1 rfl rfl)
theorem dX0_findSteps_51 : decode cX0_findSteps 51 = .ok (.iconst 0, 1) := dk_3 (dk_at dksX0_findSteps_2 3 rfl rfl)
theorem dX0_findSteps_52 : decode cX0_findSteps 52 = .ok (.istore 6, 2) := dk_54 6 (dk_at dksX0_findSteps_2 4 rfl rfl)
theorem dX0_findSteps_54 : decode cX0_findSteps 54 = .ok (.iload 6, 2) := dk_21 6 (dk_at dksX0_findSteps_2 6 rfl rfl)
theorem dX0_findSteps_56 : decode cX0_findSteps 56 = .ok (.aload_n 0, 1) := dk_42 (dk_at dksX0_findSteps_2 8 rfl rfl)
theorem dX0_findSteps_57 : decode cX0_findSteps 57 = .ok (.getfield 12, 3) := dk_180 0 12 (dk_at dksX0_findSteps_2 9 rfl rfl)
theorem dX0_findSteps_60 : decode cX0_findSteps 60 = .ok (.invokeinterface 91 1, 5) := by decide +kernel
theorem dX0_findSteps_65 : decode cX0_findSteps 65 = .ok (.if_icmp .ge 56, 3) := dk_162 0 56 (dk_at dksX0_findSteps_2 17 rfl rfl)
theorem dX0_findSteps_68 : decode cX0_findSteps 68 = .ok (.aload_n 0, 1) := dk_42 (dk_at dksX0_findSteps_2 20 rfl rfl)
theorem dX0_findSteps_69 : decode cX0_findSteps 69 = .ok (.iload 6, 2) := dk_21 6 (dk_at dksX0_findSteps_2 21 rfl rfl)
theorem dX0_findSteps_71 : decode cX0_findSteps 71 = .ok (.invokevirtual 156, 3) := dk_182 0 156 (dk_at dksX0_findSteps_3 0 rfl rfl)
theorem dX0_findSteps_74 : decode cX0_findSteps 74 = .ok (.astore 7, 2) := dk_58 7 (dk_at dksX0_findSteps_3 3 rfl rfl)
theorem dX0_findSteps_76 : decode cX0_findSteps 76 = .ok (.iload 5, 2) := dk_21 5 (dk_at dksX0_findSteps_3 5 rfl rfl)
theorem dX0_findSteps_78 : decode cX0_findSteps 78 = .ok (.iload_n 3, 1) := dk_29 (dk_at dksX0_findSteps_3 7 rfl rfl)
theorem dX0_findSteps_79 : decode cX0_findSteps 79 = .ok (.iload 6, 2) := dk_21 6 (dk_at dksX0_findSteps_3 8 rfl rfl)
theorem dX0_findSteps_81 : decode cX0_findSteps 81 = .ok (.ishr, 1) := dk_122 (dk_at dksX0_findSteps_3 10 rfl rfl)
theorem dX0_findSteps_82 : decode cX0_findSteps 82 = .ok (.iconst 1, 1) := dk_4 (dk_at dksX0_findSteps_3 11 rfl rfl)
theorem dX0_findSteps_83 : decode cX0_findSteps 83 = .ok (.iand, 1) := dk_126 (dk_at dksX0_findSteps_3 12 rfl rfl)
theorem dX0_findSteps_84 : decode cX0_findSteps 84 = .ok (.iconst 1, 1) := dk_4 (dk_at dksX0_findSteps_3 13 rfl rfl)
theorem dX0_findSteps_85 : decode cX0_findSteps 85 = .ok (.if_icmp .ne 26, 3) := dk_160 0 26 (dk_at dksX0_findSteps_3 14 rfl rfl)
theorem dX0_findSteps_88 : decode cX0_findSteps 88 = .ok (.aload 7, 2) := dk_25 7 (dk_at dksX0_findSteps_3 17 rfl rfl)
theorem dX0_findSteps_90 : decode cX0_findSteps 90 = .ok (.ifnull 21, 3) := dk_198 0 21 (dk_at dksX0_findSteps_3 19 rfl rfl)
theorem dX0_findSteps_93 : decode cX0_findSteps 93 = .ok (.aload 7, 2) := dk_25 7 (dk_at dksX0_findSteps_3 22 rfl rfl)
theorem dX0_findSteps_95 : decode cX0_findSteps 95 = .ok (.getfield 160, 3) := dk_180 0 160 (dk_at dksX0_findSteps_4 0 rfl rfl)
theorem dX0_findSteps_98 : decode cX0_findSteps 98 = .ok (.aload_n 0, 1) := dk_42 (dk_at dksX0_findSteps_4 3 rfl rfl)
theorem dX0_findSteps_99 : decode cX0_findSteps 99 = .ok (.getfield 72, 3) := dk_180 0 72 (dk_at dksX0_findSteps_4 4 rfl rfl)
theorem dX0_findSteps_102 : decode cX0_findSteps 102 = .ok (.iload 6, 2) := dk_21 6 (dk_at dksX0_findSteps_4 7 rfl rfl)
theorem dX0_findSteps_104 : decode cX0_findSteps 104 = .ok (.iaload, 1) := dk_46 (dk_at dksX0_findSteps_4 9 rfl rfl)
theorem dX0_findSteps_105 : decode cX0_findSteps 105 = .ok (.iconst (-1), 1) := dk_2 (dk_at dksX0_findSteps_4 10 rfl rfl)
theorem dX0_findSteps_106 : decode cX0_findSteps 106 = .ok (.ixor, 1) := dk_130 (dk_at dksX0_findSteps_4 11 rfl rfl)
theorem dX0_findSteps_107 : decode cX0_findSteps 107 = .ok (.iand, 1) := dk_126 (dk_at dksX0_findSteps_4 12 rfl rfl)
theorem dX0_findSteps_108 : decode cX0_findSteps 108 = .ok (.goto 4, 3) := dk_167 0 4 (dk_at dksX0_findSteps_4 13 rfl rfl)
theorem dX0_findSteps_111 : decode cX0_findSteps 111 = .ok (.iconst 0, 1) := dk_3 (dk_at dksX0_findSteps_4 16 rfl rfl)
theorem dX0_findSteps_112 : decode cX0_findSteps 112 = .ok (.ior, 1) := dk_128 (dk_at dksX0_findSteps_4 17 rfl rfl)
theorem dX0_findSteps_113 : decode cX0_findSteps 113 = .ok (.istore 5, 2) := dk_54 5 (dk_at dksX0_findSteps_4 18 rfl rfl)
theorem dX0_findSteps_115 : decode cX0_findSteps 115 = .ok (.iinc 6 1, 3) := dk_132 6 1 (dk_at dksX0_findSteps_4 20 rfl rfl)
theorem dX0_findSteps_118 : decode cX0_findSteps 118 = .ok (.goto (-64), 3) := dk_167 255 192 (dk_at dksX0_findSteps_5 0 rfl rfl)
theorem dX0_findSteps_121 : decode cX0_findSteps 121 = .ok (.iload 5, 2) := dk_21 5 (dk_at dksX0_findSteps_5 3 rfl rfl)
theorem dX0_findSteps_123 : decode cX0_findSteps 123 = .ok (.iload_n 2, 1) := dk_28 (dk_at dksX0_findSteps_5 5 rfl rfl)
theorem dX0_findSteps_124 : decode cX0_findSteps 124 = .ok (.iconst (-1), 1) := dk_2 (dk_at dksX0_findSteps_5 6 rfl rfl)
theorem dX0_findSteps_125 : decode cX0_findSteps 125 = .ok (.ixor, 1) := dk_130 (dk_at dksX0_findSteps_5 7 rfl rfl)
theorem dX0_findSteps_126 : decode cX0_findSteps 126 = .ok (.iand, 1) := dk_126 (dk_at dksX0_findSteps_5 8 rfl rfl)
theorem dX0_findSteps_127 : decode cX0_findSteps 127 = .ok (.istore_n 3, 1) := dk_62 (dk_at dksX0_findSteps_5 9 rfl rfl)
theorem dX0_findSteps_128 : decode cX0_findSteps 128 = .ok (.iload_n 2, 1) := dk_28 (dk_at dksX0_findSteps_5 10 rfl rfl)
theorem dX0_findSteps_129 : decode cX0_findSteps 129 = .ok (.iload_n 3, 1) := dk_29 (dk_at dksX0_findSteps_5 11 rfl rfl)
theorem dX0_findSteps_130 : decode cX0_findSteps 130 = .ok (.ior, 1) := dk_128 (dk_at dksX0_findSteps_5 12 rfl rfl)
theorem dX0_findSteps_131 : decode cX0_findSteps 131 = .ok (.istore_n 2, 1) := dk_61 (dk_at dksX0_findSteps_5 13 rfl rfl)
theorem dX0_findSteps_132 : decode cX0_findSteps 132 = .ok (.iconst 0, 1) := dk_3 (dk_at dksX0_findSteps_5 14 rfl rfl)
theorem dX0_findSteps_133 : decode cX0_findSteps 133 = .ok (.istore 6, 2) := dk_54 6 (dk_at dksX0_findSteps_5 15 rfl rfl)
theorem dX0_findSteps_135 : decode cX0_findSteps 135 = .ok (.iload 6, 2) := dk_21 6 (dk_at dksX0_findSteps_5 17 rfl rfl)
theorem dX0_findSteps_137 : decode cX0_findSteps 137 = .ok (.bipush 16, 2) := dk_16 16 (dk_at dksX0_findSteps_5 19 rfl rfl)
theorem dX0_findSteps_139 : decode cX0_findSteps 139 = .ok (.if_icmp .ge 38, 3) := dk_162 0 38 (dk_at dksX0_findSteps_5 21 rfl rfl)
theorem dX0_findSteps_142 : decode cX0_findSteps 142 = .ok (.aload_n 0, 1) := dk_42 (dk_at dksX0_findSteps_6 0 rfl rfl)
theorem dX0_findSteps_143 : decode cX0_findSteps 143 = .ok (.getfield 69, 3) := dk_180 0 69 (dk_at dksX0_findSteps_6 1 rfl rfl)
theorem dX0_findSteps_146 : decode cX0_findSteps 146 = .ok (.iload 6, 2) := dk_21 6 (dk_at dksX0_findSteps_6 4 rfl rfl)
theorem dX0_findSteps_148 : decode cX0_findSteps 148 = .ok (.iload_n 3, 1) := dk_29 (dk_at dksX0_findSteps_6 6 rfl rfl)
theorem dX0_findSteps_149 : decode cX0_findSteps 149 = .ok (.iload 6, 2) := dk_21 6 (dk_at dksX0_findSteps_6 7 rfl rfl)
theorem dX0_findSteps_151 : decode cX0_findSteps 151 = .ok (.ishr, 1) := dk_122 (dk_at dksX0_findSteps_6 9 rfl rfl)
theorem dX0_findSteps_152 : decode cX0_findSteps 152 = .ok (.iconst 1, 1) := dk_4 (dk_at dksX0_findSteps_6 10 rfl rfl)
theorem dX0_findSteps_153 : decode cX0_findSteps 153 = .ok (.iand, 1) := dk_126 (dk_at dksX0_findSteps_6 11 rfl rfl)
theorem dX0_findSteps_154 : decode cX0_findSteps 154 = .ok (.iconst 1, 1) := dk_4 (dk_at dksX0_findSteps_6 12 rfl rfl)
theorem dX0_findSteps_155 : decode cX0_findSteps 155 = .ok (.if_icmp .ne 8, 3) := dk_160 0 8 (dk_at dksX0_findSteps_6 13 rfl rfl)
theorem dX0_findSteps_158 : decode cX0_findSteps 158 = .ok (.iload 4, 2) := dk_21 4 (dk_at dksX0_findSteps_6 16 rfl rfl)
theorem dX0_findSteps_160 : decode cX0_findSteps 160 = .ok (.goto 10, 3) := dk_167 0 10 (dk_at dksX0_findSteps_6 18 rfl rfl)
theorem dX0_findSteps_163 : decode cX0_findSteps 163 = .ok (.aload_n 0, 1) := dk_42 (dk_at dksX0_findSteps_6 21 rfl rfl)
theorem dX0_findSteps_164 : decode cX0_findSteps 164 = .ok (.getfield 69, 3) := dk_180 0 69 (dk_at dksX0_findSteps_7 0 rfl rfl)
theorem dX0_findSteps_167 : decode cX0_findSteps 167 = .ok (.iload 6, 2) := dk_21 6 (dk_at dksX0_findSteps_7 3 rfl rfl)
theorem dX0_findSteps_169 : decode cX0_findSteps 169 = .ok (.iaload, 1) := dk_46 (dk_at dksX0_findSteps_7 5 rfl rfl)
theorem dX0_findSteps_170 : decode cX0_findSteps 170 = .ok (.iastore, 1) := dk_79 (dk_at dksX0_findSteps_7 6 rfl rfl)
theorem dX0_findSteps_171 : decode cX0_findSteps 171 = .ok (.iinc 6 1, 3) := dk_132 6 1 (dk_at dksX0_findSteps_7 7 rfl rfl)
theorem dX0_findSteps_174 : decode cX0_findSteps 174 = .ok (.goto (-39), 3) := dk_167 255 217 (dk_at dksX0_findSteps_7 10 rfl rfl)
theorem dX0_findSteps_177 : decode cX0_findSteps 177 = .ok (.iinc 4 1, 3) := dk_132 4 1 (dk_at dksX0_findSteps_7 13 rfl rfl)
theorem dX0_findSteps_180 : decode cX0_findSteps 180 = .ok (.goto (-136), 3) := dk_167 255 120 (dk_at dksX0_findSteps_7 16 rfl rfl)
theorem dX0_findSteps_183 : decode cX0_findSteps 183 = .ok (.iload_n 2, 1) := dk_28 (dk_at dksX0_findSteps_7 19 rfl rfl)
theorem dX0_findSteps_184 : decode cX0_findSteps 184 = .ok (.invokestatic 457, 3) := dk_184 1 201 (dk_at dksX0_findSteps_7 20 rfl rfl)
theorem dX0_findSteps_187 : decode cX0_findSteps 187 = .ok (.iconst 1, 1) := dk_4 (dk_at dksX0_findSteps_7 23 rfl rfl)
theorem dX0_findSteps_188 : decode cX0_findSteps 188 = .ok (.isub, 1) := dk_100 (dk_at dksX0_findSteps_8 0 rfl rfl)
theorem dX0_findSteps_189 : decode cX0_findSteps 189 = .ok (.ireturn, 1) := dk_172 (dk_at dksX0_findSteps_8 1 rfl rfl)
abbrev cX0_lost : ByteArray := prog_1_method_77_code
def yX0_lost : MethodName := ⟨RX0, "lost", "(III)I"⟩
def dkwX0_lost_10 : List UInt8 := [120, 167, 0, 4, 3, 128, 54, 6, 132, 7, 1, 167, 255, 204, 21, 6, 172]
abbrev dktX0_lost_10 : List UInt8 := dkwX0_lost_10 ++ []
def dkwX0_lost_9 : List UInt8 := [180, 0, 69, 21, 7, 46, 155, 0, 22, 42, 180, 0, 75, 21, 7, 46, 18, 147, 160, 0, 10, 4, 21, 7]
abbrev dktX0_lost_9 : List UInt8 := dkwX0_lost_9 ++ dktX0_lost_10
def dkwX0_lost_8 : List UInt8 := [3, 54, 6, 3, 54, 7, 21, 7, 42, 180, 0, 12, 185, 0, 91, 1, 0, 162, 0, 44, 21, 6, 42]
abbrev dktX0_lost_8 : List UInt8 := dkwX0_lost_8 ++ dktX0_lost_9
def dkwX0_lost_7 : List UInt8 := [132, 5, 1, 167, 255, 213, 4, 54, 5, 21, 5, 153, 0, 13, 42, 28, 182, 1, 212, 54, 5, 167, 255, 244]
abbrev dktX0_lost_7 : List UInt8 := dkwX0_lost_7 ++ dktX0_lost_8
def dkwX0_lost_6 : List UInt8 := [4, 126, 4, 160, 0, 17, 42, 180, 0, 69, 21, 5, 46, 153, 0, 7, 3, 167, 0, 5, 18, 147, 79]
abbrev dktX0_lost_6 : List UInt8 := dkwX0_lost_6 ++ dktX0_lost_7
def dkwX0_lost_5 : List UInt8 := [182, 1, 209, 87, 3, 54, 5, 21, 5, 16, 16, 162, 0, 42, 42, 180, 0, 75, 21, 5, 29, 21, 5, 122]
abbrev dktX0_lost_5 : List UInt8 := dkwX0_lost_5 ++ dktX0_lost_6
def dkwX0_lost_4 : List UInt8 := [167, 0, 4, 3, 126, 54, 4, 132, 5, 1, 167, 255, 211, 21, 4, 154, 0, 6, 16, 244, 172, 42, 27]
abbrev dktX0_lost_4 : List UInt8 := dkwX0_lost_4 ++ dktX0_lost_5
def dkwX0_lost_3 : List UInt8 := [162, 0, 37, 21, 4, 29, 21, 5, 122, 4, 126, 153, 0, 12, 42, 21, 5, 182, 0, 156, 198, 0, 7, 4]
abbrev dktX0_lost_3 : List UInt8 := dkwX0_lost_3 ++ dktX0_lost_4
def dkwX0_lost_2 : List UInt8 := [198, 0, 7, 4, 167, 0, 4, 3, 54, 4, 3, 54, 5, 21, 5, 42, 180, 0, 12, 185, 0, 91, 1, 0]
abbrev dktX0_lost_2 : List UInt8 := dkwX0_lost_2 ++ dktX0_lost_3
def dkwX0_lost_1 : List UInt8 := [180, 0, 12, 185, 0, 91, 1, 0, 120, 4, 100, 184, 0, 97, 154, 0, 5, 2, 172, 42, 27, 182, 0, 156]
abbrev dktX0_lost_1 : List UInt8 := dkwX0_lost_1 ++ dktX0_lost_2
def dkwX0_lost_0 : List UInt8 := [42, 27, 182, 0, 143, 153, 0, 34, 28, 4, 16, 100, 184, 0, 97, 153, 0, 24, 29, 3, 4, 42]
abbrev dktX0_lost_0 : List UInt8 := dkwX0_lost_0 ++ dktX0_lost_1
theorem dksX0_lost_0 : cX0_lost.data.toList.drop 0 = dktX0_lost_0 := by decide +kernel
theorem dksX0_lost_1 : cX0_lost.data.toList.drop 22 = dktX0_lost_1 := dk_seg dksX0_lost_0 22 rfl rfl
theorem dksX0_lost_2 : cX0_lost.data.toList.drop 46 = dktX0_lost_2 := dk_seg dksX0_lost_1 24 rfl rfl
theorem dksX0_lost_3 : cX0_lost.data.toList.drop 70 = dktX0_lost_3 := dk_seg dksX0_lost_2 24 rfl rfl
theorem dksX0_lost_4 : cX0_lost.data.toList.drop 94 = dktX0_lost_4 := dk_seg dksX0_lost_3 24 rfl rfl
theorem dksX0_lost_5 : cX0_lost.data.toList.drop 117 = dktX0_lost_5 := dk_seg dksX0_lost_4 23 rfl rfl
theorem dksX0_lost_6 : cX0_lost.data.toList.drop 141 = dktX0_lost_6 := dk_seg dksX0_lost_5 24 rfl rfl
theorem dksX0_lost_7 : cX0_lost.data.toList.drop 164 = dktX0_lost_7 := dk_seg dksX0_lost_6 23 rfl rfl
theorem dksX0_lost_8 : cX0_lost.data.toList.drop 188 = dktX0_lost_8 := dk_seg dksX0_lost_7 24 rfl rfl
theorem dksX0_lost_9 : cX0_lost.data.toList.drop 211 = dktX0_lost_9 := dk_seg dksX0_lost_8 23 rfl rfl
theorem dksX0_lost_10 : cX0_lost.data.toList.drop 235 = dktX0_lost_10 := dk_seg dksX0_lost_9 24 rfl rfl
theorem dX0_lost_0 : decode cX0_lost 0 = .ok (.aload_n 0, 1) := dk_42 (dk_at dksX0_lost_0 0 rfl rfl)
theorem dX0_lost_1 : decode cX0_lost 1 = .ok (.iload_n 1, 1) := dk_27 (dk_at dksX0_lost_0 1 rfl rfl)
theorem dX0_lost_2 : decode cX0_lost 2 = .ok (.invokevirtual 143, 3) := dk_182 0 143 (dk_at dksX0_lost_0 2 rfl rfl)
theorem dX0_lost_5 : decode cX0_lost 5 = .ok (.ifCond .eq 34, 3) := dk_153 0 34 (dk_at dksX0_lost_0 5 rfl rfl)
theorem dX0_lost_8 : decode cX0_lost 8 = .ok (.iload_n 2, 1) := dk_28 (dk_at dksX0_lost_0 8 rfl rfl)
theorem dX0_lost_9 : decode cX0_lost 9 = .ok (.iconst 1, 1) := dk_4 (dk_at dksX0_lost_0 9 rfl rfl)
theorem dX0_lost_10 : decode cX0_lost 10 = .ok (.bipush 100, 2) := dk_16 100 (dk_at dksX0_lost_0 10 rfl rfl)
theorem dX0_lost_12 : decode cX0_lost 12 = .ok (.invokestatic 97, 3) := dk_184 0 97 (dk_at dksX0_lost_0 12 rfl rfl)
theorem dX0_lost_15 : decode cX0_lost 15 = .ok (.ifCond .eq 24, 3) := dk_153 0 24 (dk_at dksX0_lost_0 15 rfl rfl)
theorem dX0_lost_18 : decode cX0_lost 18 = .ok (.iload_n 3, 1) := dk_29 (dk_at dksX0_lost_0 18 rfl rfl)
theorem dX0_lost_19 : decode cX0_lost 19 = .ok (.iconst 0, 1) := dk_3 (dk_at dksX0_lost_0 19 rfl rfl)
theorem dX0_lost_20 : decode cX0_lost 20 = .ok (.iconst 1, 1) := dk_4 (dk_at dksX0_lost_0 20 rfl rfl)
theorem dX0_lost_21 : decode cX0_lost 21 = .ok (.aload_n 0, 1) := dk_42 (dk_at dksX0_lost_0 21 rfl rfl)
theorem dX0_lost_22 : decode cX0_lost 22 = .ok (.getfield 12, 3) := dk_180 0 12 (dk_at dksX0_lost_1 0 rfl rfl)
theorem dX0_lost_25 : decode cX0_lost 25 = .ok (.invokeinterface 91 1, 5) := by decide +kernel
theorem dX0_lost_30 : decode cX0_lost 30 = .ok (.ishl, 1) := dk_120 (dk_at dksX0_lost_1 8 rfl rfl)
theorem dX0_lost_31 : decode cX0_lost 31 = .ok (.iconst 1, 1) := dk_4 (dk_at dksX0_lost_1 9 rfl rfl)
theorem dX0_lost_32 : decode cX0_lost 32 = .ok (.isub, 1) := dk_100 (dk_at dksX0_lost_1 10 rfl rfl)
theorem dX0_lost_33 : decode cX0_lost 33 = .ok (.invokestatic 97, 3) := dk_184 0 97 (dk_at dksX0_lost_1 11 rfl rfl)
theorem dX0_lost_36 : decode cX0_lost 36 = .ok (.ifCond .ne 5, 3) := dk_154 0 5 (dk_at dksX0_lost_1 14 rfl rfl)
theorem dX0_lost_39 : decode cX0_lost 39 = .ok (.iconst (-1), 1) := dk_2 (dk_at dksX0_lost_1 17 rfl rfl)
theorem dX0_lost_40 : decode cX0_lost 40 = .ok (.ireturn, 1) := dk_172 (dk_at dksX0_lost_1 18 rfl rfl)
theorem dX0_lost_41 : decode cX0_lost 41 = .ok (.aload_n 0, 1) := dk_42 (dk_at dksX0_lost_1 19 rfl rfl)
theorem dX0_lost_42 : decode cX0_lost 42 = .ok (.iload_n 1, 1) := dk_27 (dk_at dksX0_lost_1 20 rfl rfl)
theorem dX0_lost_43 : decode cX0_lost 43 = .ok (.invokevirtual 156, 3) := dk_182 0 156 (dk_at dksX0_lost_1 21 rfl rfl)
theorem dX0_lost_46 : decode cX0_lost 46 = .ok (.ifnull 7, 3) := dk_198 0 7 (dk_at dksX0_lost_2 0 rfl rfl)
theorem dX0_lost_49 : decode cX0_lost 49 = .ok (.iconst 1, 1) := dk_4 (dk_at dksX0_lost_2 3 rfl rfl)
theorem dX0_lost_50 : decode cX0_lost 50 = .ok (.goto 4, 3) := dk_167 0 4 (dk_at dksX0_lost_2 4 rfl rfl)
theorem dX0_lost_53 : decode cX0_lost 53 = .ok (.iconst 0, 1) := dk_3 (dk_at dksX0_lost_2 7 rfl rfl)
theorem dX0_lost_54 : decode cX0_lost 54 = .ok (.istore 4, 2) := dk_54 4 (dk_at dksX0_lost_2 8 rfl rfl)
theorem dX0_lost_56 : decode cX0_lost 56 = .ok (.iconst 0, 1) := dk_3 (dk_at dksX0_lost_2 10 rfl rfl)
theorem dX0_lost_57 : decode cX0_lost 57 = .ok (.istore 5, 2) := dk_54 5 (dk_at dksX0_lost_2 11 rfl rfl)
theorem dX0_lost_59 : decode cX0_lost 59 = .ok (.iload 5, 2) := dk_21 5 (dk_at dksX0_lost_2 13 rfl rfl)
theorem dX0_lost_61 : decode cX0_lost 61 = .ok (.aload_n 0, 1) := dk_42 (dk_at dksX0_lost_2 15 rfl rfl)
theorem dX0_lost_62 : decode cX0_lost 62 = .ok (.getfield 12, 3) := dk_180 0 12 (dk_at dksX0_lost_2 16 rfl rfl)
theorem dX0_lost_65 : decode cX0_lost 65 = .ok (.invokeinterface 91 1, 5) := by decide +kernel
theorem dX0_lost_70 : decode cX0_lost 70 = .ok (.if_icmp .ge 37, 3) := dk_162 0 37 (dk_at dksX0_lost_3 0 rfl rfl)
theorem dX0_lost_73 : decode cX0_lost 73 = .ok (.iload 4, 2) := dk_21 4 (dk_at dksX0_lost_3 3 rfl rfl)
theorem dX0_lost_75 : decode cX0_lost 75 = .ok (.iload_n 3, 1) := dk_29 (dk_at dksX0_lost_3 5 rfl rfl)
theorem dX0_lost_76 : decode cX0_lost 76 = .ok (.iload 5, 2) := dk_21 5 (dk_at dksX0_lost_3 6 rfl rfl)
theorem dX0_lost_78 : decode cX0_lost 78 = .ok (.ishr, 1) := dk_122 (dk_at dksX0_lost_3 8 rfl rfl)
theorem dX0_lost_79 : decode cX0_lost 79 = .ok (.iconst 1, 1) := dk_4 (dk_at dksX0_lost_3 9 rfl rfl)
theorem dX0_lost_80 : decode cX0_lost 80 = .ok (.iand, 1) := dk_126 (dk_at dksX0_lost_3 10 rfl rfl)
theorem dX0_lost_81 : decode cX0_lost 81 = .ok (.ifCond .eq 12, 3) := dk_153 0 12 (dk_at dksX0_lost_3 11 rfl rfl)
theorem dX0_lost_84 : decode cX0_lost 84 = .ok (.aload_n 0, 1) := dk_42 (dk_at dksX0_lost_3 14 rfl rfl)
theorem dX0_lost_85 : decode cX0_lost 85 = .ok (.iload 5, 2) := dk_21 5 (dk_at dksX0_lost_3 15 rfl rfl)
theorem dX0_lost_87 : decode cX0_lost 87 = .ok (.invokevirtual 156, 3) := dk_182 0 156 (dk_at dksX0_lost_3 17 rfl rfl)
theorem dX0_lost_90 : decode cX0_lost 90 = .ok (.ifnull 7, 3) := dk_198 0 7 (dk_at dksX0_lost_3 20 rfl rfl)
theorem dX0_lost_93 : decode cX0_lost 93 = .ok (.iconst 1, 1) := dk_4 (dk_at dksX0_lost_3 23 rfl rfl)
theorem dX0_lost_94 : decode cX0_lost 94 = .ok (.goto 4, 3) := dk_167 0 4 (dk_at dksX0_lost_4 0 rfl rfl)
theorem dX0_lost_97 : decode cX0_lost 97 = .ok (.iconst 0, 1) := dk_3 (dk_at dksX0_lost_4 3 rfl rfl)
theorem dX0_lost_98 : decode cX0_lost 98 = .ok (.iand, 1) := dk_126 (dk_at dksX0_lost_4 4 rfl rfl)
theorem dX0_lost_99 : decode cX0_lost 99 = .ok (.istore 4, 2) := dk_54 4 (dk_at dksX0_lost_4 5 rfl rfl)
theorem dX0_lost_101 : decode cX0_lost 101 = .ok (.iinc 5 1, 3) := dk_132 5 1 (dk_at dksX0_lost_4 7 rfl rfl)
theorem dX0_lost_104 : decode cX0_lost 104 = .ok (.goto (-45), 3) := dk_167 255 211 (dk_at dksX0_lost_4 10 rfl rfl)
theorem dX0_lost_107 : decode cX0_lost 107 = .ok (.iload 4, 2) := dk_21 4 (dk_at dksX0_lost_4 13 rfl rfl)
theorem dX0_lost_109 : decode cX0_lost 109 = .ok (.ifCond .ne 6, 3) := dk_154 0 6 (dk_at dksX0_lost_4 15 rfl rfl)
theorem dX0_lost_112 : decode cX0_lost 112 = .ok (.bipush (-12), 2) := dk_16 244 (dk_at dksX0_lost_4 18 rfl rfl)
theorem dX0_lost_114 : decode cX0_lost 114 = .ok (.ireturn, 1) := dk_172 (dk_at dksX0_lost_4 20 rfl rfl)
theorem dX0_lost_115 : decode cX0_lost 115 = .ok (.aload_n 0, 1) := dk_42 (dk_at dksX0_lost_4 21 rfl rfl)
theorem dX0_lost_116 : decode cX0_lost 116 = .ok (.iload_n 1, 1) := dk_27 (dk_at dksX0_lost_4 22 rfl rfl)
theorem dX0_lost_117 : decode cX0_lost 117 = .ok (.invokevirtual 465, 3) := dk_182 1 209 (dk_at dksX0_lost_5 0 rfl rfl)
theorem dX0_lost_120 : decode cX0_lost 120 = .ok (.pop, 1) := dk_87 (dk_at dksX0_lost_5 3 rfl rfl)
theorem dX0_lost_121 : decode cX0_lost 121 = .ok (.iconst 0, 1) := dk_3 (dk_at dksX0_lost_5 4 rfl rfl)
theorem dX0_lost_122 : decode cX0_lost 122 = .ok (.istore 5, 2) := dk_54 5 (dk_at dksX0_lost_5 5 rfl rfl)
theorem dX0_lost_124 : decode cX0_lost 124 = .ok (.iload 5, 2) := dk_21 5 (dk_at dksX0_lost_5 7 rfl rfl)
theorem dX0_lost_126 : decode cX0_lost 126 = .ok (.bipush 16, 2) := dk_16 16 (dk_at dksX0_lost_5 9 rfl rfl)
theorem dX0_lost_128 : decode cX0_lost 128 = .ok (.if_icmp .ge 42, 3) := dk_162 0 42 (dk_at dksX0_lost_5 11 rfl rfl)
theorem dX0_lost_131 : decode cX0_lost 131 = .ok (.aload_n 0, 1) := dk_42 (dk_at dksX0_lost_5 14 rfl rfl)
theorem dX0_lost_132 : decode cX0_lost 132 = .ok (.getfield 75, 3) := dk_180 0 75 (dk_at dksX0_lost_5 15 rfl rfl)
theorem dX0_lost_135 : decode cX0_lost 135 = .ok (.iload 5, 2) := dk_21 5 (dk_at dksX0_lost_5 18 rfl rfl)
theorem dX0_lost_137 : decode cX0_lost 137 = .ok (.iload_n 3, 1) := dk_29 (dk_at dksX0_lost_5 20 rfl rfl)
theorem dX0_lost_138 : decode cX0_lost 138 = .ok (.iload 5, 2) := dk_21 5 (dk_at dksX0_lost_5 21 rfl rfl)
theorem dX0_lost_140 : decode cX0_lost 140 = .ok (.ishr, 1) := dk_122 (dk_at dksX0_lost_5 23 rfl rfl)
theorem dX0_lost_141 : decode cX0_lost 141 = .ok (.iconst 1, 1) := dk_4 (dk_at dksX0_lost_6 0 rfl rfl)
theorem dX0_lost_142 : decode cX0_lost 142 = .ok (.iand, 1) := dk_126 (dk_at dksX0_lost_6 1 rfl rfl)
theorem dX0_lost_143 : decode cX0_lost 143 = .ok (.iconst 1, 1) := dk_4 (dk_at dksX0_lost_6 2 rfl rfl)
theorem dX0_lost_144 : decode cX0_lost 144 = .ok (.if_icmp .ne 17, 3) := dk_160 0 17 (dk_at dksX0_lost_6 3 rfl rfl)
theorem dX0_lost_147 : decode cX0_lost 147 = .ok (.aload_n 0, 1) := dk_42 (dk_at dksX0_lost_6 6 rfl rfl)
theorem dX0_lost_148 : decode cX0_lost 148 = .ok (.getfield 69, 3) := dk_180 0 69 (dk_at dksX0_lost_6 7 rfl rfl)
theorem dX0_lost_151 : decode cX0_lost 151 = .ok (.iload 5, 2) := dk_21 5 (dk_at dksX0_lost_6 10 rfl rfl)
theorem dX0_lost_153 : decode cX0_lost 153 = .ok (.iaload, 1) := dk_46 (dk_at dksX0_lost_6 12 rfl rfl)
theorem dX0_lost_154 : decode cX0_lost 154 = .ok (.ifCond .eq 7, 3) := dk_153 0 7 (dk_at dksX0_lost_6 13 rfl rfl)
theorem dX0_lost_157 : decode cX0_lost 157 = .ok (.iconst 0, 1) := dk_3 (dk_at dksX0_lost_6 16 rfl rfl)
theorem dX0_lost_158 : decode cX0_lost 158 = .ok (.goto 5, 3) := dk_167 0 5 (dk_at dksX0_lost_6 17 rfl rfl)
theorem dX0_lost_161 : decode cX0_lost 161 = .ok (.ldc 147, 2) := dk_18 147 (dk_at dksX0_lost_6 20 rfl rfl)
theorem dX0_lost_163 : decode cX0_lost 163 = .ok (.iastore, 1) := dk_79 (dk_at dksX0_lost_6 22 rfl rfl)
theorem dX0_lost_164 : decode cX0_lost 164 = .ok (.iinc 5 1, 3) := dk_132 5 1 (dk_at dksX0_lost_7 0 rfl rfl)
theorem dX0_lost_167 : decode cX0_lost 167 = .ok (.goto (-43), 3) := dk_167 255 213 (dk_at dksX0_lost_7 3 rfl rfl)
theorem dX0_lost_170 : decode cX0_lost 170 = .ok (.iconst 1, 1) := dk_4 (dk_at dksX0_lost_7 6 rfl rfl)
theorem dX0_lost_171 : decode cX0_lost 171 = .ok (.istore 5, 2) := dk_54 5 (dk_at dksX0_lost_7 7 rfl rfl)
theorem dX0_lost_173 : decode cX0_lost 173 = .ok (.iload 5, 2) := dk_21 5 (dk_at dksX0_lost_7 9 rfl rfl)
theorem dX0_lost_175 : decode cX0_lost 175 = .ok (.ifCond .eq 13, 3) := dk_153 0 13 (dk_at dksX0_lost_7 11 rfl rfl)
theorem dX0_lost_178 : decode cX0_lost 178 = .ok (.aload_n 0, 1) := dk_42 (dk_at dksX0_lost_7 14 rfl rfl)
theorem dX0_lost_179 : decode cX0_lost 179 = .ok (.iload_n 2, 1) := dk_28 (dk_at dksX0_lost_7 15 rfl rfl)
theorem dX0_lost_180 : decode cX0_lost 180 = .ok (.invokevirtual 468, 3) := dk_182 1 212 (dk_at dksX0_lost_7 16 rfl rfl)
theorem dX0_lost_183 : decode cX0_lost 183 = .ok (.istore 5, 2) := dk_54 5 (dk_at dksX0_lost_7 19 rfl rfl)
theorem dX0_lost_185 : decode cX0_lost 185 = .ok (.goto (-12), 3) := dk_167 255 244 (dk_at dksX0_lost_7 21 rfl rfl)
theorem dX0_lost_188 : decode cX0_lost 188 = .ok (.iconst 0, 1) := dk_3 (dk_at dksX0_lost_8 0 rfl rfl)
theorem dX0_lost_189 : decode cX0_lost 189 = .ok (.istore 6, 2) := dk_54 6 (dk_at dksX0_lost_8 1 rfl rfl)
theorem dX0_lost_191 : decode cX0_lost 191 = .ok (.iconst 0, 1) := dk_3 (dk_at dksX0_lost_8 3 rfl rfl)
theorem dX0_lost_192 : decode cX0_lost 192 = .ok (.istore 7, 2) := dk_54 7 (dk_at dksX0_lost_8 4 rfl rfl)
theorem dX0_lost_194 : decode cX0_lost 194 = .ok (.iload 7, 2) := dk_21 7 (dk_at dksX0_lost_8 6 rfl rfl)
theorem dX0_lost_196 : decode cX0_lost 196 = .ok (.aload_n 0, 1) := dk_42 (dk_at dksX0_lost_8 8 rfl rfl)
theorem dX0_lost_197 : decode cX0_lost 197 = .ok (.getfield 12, 3) := dk_180 0 12 (dk_at dksX0_lost_8 9 rfl rfl)
theorem dX0_lost_200 : decode cX0_lost 200 = .ok (.invokeinterface 91 1, 5) := by decide +kernel
theorem dX0_lost_205 : decode cX0_lost 205 = .ok (.if_icmp .ge 44, 3) := dk_162 0 44 (dk_at dksX0_lost_8 17 rfl rfl)
theorem dX0_lost_208 : decode cX0_lost 208 = .ok (.iload 6, 2) := dk_21 6 (dk_at dksX0_lost_8 20 rfl rfl)
theorem dX0_lost_210 : decode cX0_lost 210 = .ok (.aload_n 0, 1) := dk_42 (dk_at dksX0_lost_8 22 rfl rfl)
theorem dX0_lost_211 : decode cX0_lost 211 = .ok (.getfield 69, 3) := dk_180 0 69 (dk_at dksX0_lost_9 0 rfl rfl)
theorem dX0_lost_214 : decode cX0_lost 214 = .ok (.iload 7, 2) := dk_21 7 (dk_at dksX0_lost_9 3 rfl rfl)
theorem dX0_lost_216 : decode cX0_lost 216 = .ok (.iaload, 1) := dk_46 (dk_at dksX0_lost_9 5 rfl rfl)
theorem dX0_lost_217 : decode cX0_lost 217 = .ok (.ifCond .lt 22, 3) := dk_155 0 22 (dk_at dksX0_lost_9 6 rfl rfl)
theorem dX0_lost_220 : decode cX0_lost 220 = .ok (.aload_n 0, 1) := dk_42 (dk_at dksX0_lost_9 9 rfl rfl)
theorem dX0_lost_221 : decode cX0_lost 221 = .ok (.getfield 75, 3) := dk_180 0 75 (dk_at dksX0_lost_9 10 rfl rfl)
theorem dX0_lost_224 : decode cX0_lost 224 = .ok (.iload 7, 2) := dk_21 7 (dk_at dksX0_lost_9 13 rfl rfl)
theorem dX0_lost_226 : decode cX0_lost 226 = .ok (.iaload, 1) := dk_46 (dk_at dksX0_lost_9 15 rfl rfl)
theorem dX0_lost_227 : decode cX0_lost 227 = .ok (.ldc 147, 2) := dk_18 147 (dk_at dksX0_lost_9 16 rfl rfl)
theorem dX0_lost_229 : decode cX0_lost 229 = .ok (.if_icmp .ne 10, 3) := dk_160 0 10 (dk_at dksX0_lost_9 18 rfl rfl)
theorem dX0_lost_232 : decode cX0_lost 232 = .ok (.iconst 1, 1) := dk_4 (dk_at dksX0_lost_9 21 rfl rfl)
theorem dX0_lost_233 : decode cX0_lost 233 = .ok (.iload 7, 2) := dk_21 7 (dk_at dksX0_lost_9 22 rfl rfl)
theorem dX0_lost_235 : decode cX0_lost 235 = .ok (.ishl, 1) := dk_120 (dk_at dksX0_lost_10 0 rfl rfl)
theorem dX0_lost_236 : decode cX0_lost 236 = .ok (.goto 4, 3) := dk_167 0 4 (dk_at dksX0_lost_10 1 rfl rfl)
theorem dX0_lost_239 : decode cX0_lost 239 = .ok (.iconst 0, 1) := dk_3 (dk_at dksX0_lost_10 4 rfl rfl)
theorem dX0_lost_240 : decode cX0_lost 240 = .ok (.ior, 1) := dk_128 (dk_at dksX0_lost_10 5 rfl rfl)
theorem dX0_lost_241 : decode cX0_lost 241 = .ok (.istore 6, 2) := dk_54 6 (dk_at dksX0_lost_10 6 rfl rfl)
theorem dX0_lost_243 : decode cX0_lost 243 = .ok (.iinc 7 1, 3) := dk_132 7 1 (dk_at dksX0_lost_10 8 rfl rfl)
theorem dX0_lost_246 : decode cX0_lost 246 = .ok (.goto (-52), 3) := dk_167 255 204 (dk_at dksX0_lost_10 11 rfl rfl)
theorem dX0_lost_249 : decode cX0_lost 249 = .ok (.iload 6, 2) := dk_21 6 (dk_at dksX0_lost_10 14 rfl rfl)
theorem dX0_lost_251 : decode cX0_lost 251 = .ok (.ireturn, 1) := dk_172 (dk_at dksX0_lost_10 16 rfl rfl)
abbrev cX0_warnOn : ByteArray := prog_1_method_76_code
def yX0_warnOn : MethodName := ⟨RX0, "warnOn", "(I)Z"⟩
def dkwX0_warnOn_6 : List UInt8 := [21, 6, 79, 4, 61, 132, 5, 1, 167, 255, 157, 132, 3, 1, 167, 255, 104, 28, 172]
abbrev dktX0_warnOn_6 : List UInt8 := dkwX0_warnOn_6 ++ []
def dkwX0_warnOn_5 : List UInt8 := [155, 0, 17, 21, 6, 27, 42, 180, 0, 69, 21, 5, 46, 104, 162, 0, 14, 42, 180, 0, 75, 21, 5]
abbrev dktX0_warnOn_5 : List UInt8 := dkwX0_warnOn_5 ++ dktX0_warnOn_6
def dkwX0_warnOn_4 : List UInt8 := [18, 147, 54, 6, 21, 6, 42, 180, 0, 75, 21, 5, 46, 162, 0, 38, 42, 180, 0, 69, 21, 5, 46]
abbrev dktX0_warnOn_4 : List UInt8 := dkwX0_warnOn_4 ++ dktX0_warnOn_5
def dkwX0_warnOn_3 : List UInt8 := [122, 4, 126, 4, 160, 0, 20, 42, 180, 0, 75, 29, 46, 42, 180, 0, 21, 21, 5, 46, 96, 167, 0, 5]
abbrev dktX0_warnOn_3 : List UInt8 := dkwX0_warnOn_3 ++ dktX0_warnOn_4
def dkwX0_warnOn_2 : List UInt8 := [3, 54, 5, 21, 5, 42, 180, 0, 12, 185, 0, 91, 1, 0, 162, 0, 91, 25, 4, 180, 0, 160, 21, 5]
abbrev dktX0_warnOn_2 : List UInt8 := dkwX0_warnOn_2 ++ dktX0_warnOn_3
def dkwX0_warnOn_1 : List UInt8 := [25, 4, 198, 0, 127, 42, 180, 0, 75, 29, 46, 18, 147, 160, 0, 6, 167, 0, 113, 42, 29, 182, 0, 148]
abbrev dktX0_warnOn_1 : List UInt8 := dkwX0_warnOn_1 ++ dktX0_warnOn_2
def dkwX0_warnOn_0 : List UInt8 := [3, 61, 3, 62, 29, 42, 180, 0, 12, 185, 0, 91, 1, 0, 162, 0, 145, 42, 29, 182, 0, 156, 58, 4]
abbrev dktX0_warnOn_0 : List UInt8 := dkwX0_warnOn_0 ++ dktX0_warnOn_1
theorem dksX0_warnOn_0 : cX0_warnOn.data.toList.drop 0 = dktX0_warnOn_0 := by decide +kernel
theorem dksX0_warnOn_1 : cX0_warnOn.data.toList.drop 24 = dktX0_warnOn_1 := dk_seg dksX0_warnOn_0 24 rfl rfl
theorem dksX0_warnOn_2 : cX0_warnOn.data.toList.drop 48 = dktX0_warnOn_2 := dk_seg dksX0_warnOn_1 24 rfl rfl
theorem dksX0_warnOn_3 : cX0_warnOn.data.toList.drop 72 = dktX0_warnOn_3 := dk_seg dksX0_warnOn_2 24 rfl rfl
theorem dksX0_warnOn_4 : cX0_warnOn.data.toList.drop 96 = dktX0_warnOn_4 := dk_seg dksX0_warnOn_3 24 rfl rfl
theorem dksX0_warnOn_5 : cX0_warnOn.data.toList.drop 119 = dktX0_warnOn_5 := dk_seg dksX0_warnOn_4 23 rfl rfl
theorem dksX0_warnOn_6 : cX0_warnOn.data.toList.drop 142 = dktX0_warnOn_6 := dk_seg dksX0_warnOn_5 23 rfl rfl
theorem dX0_warnOn_0 : decode cX0_warnOn 0 = .ok (.iconst 0, 1) := dk_3 (dk_at dksX0_warnOn_0 0 rfl rfl)
theorem dX0_warnOn_1 : decode cX0_warnOn 1 = .ok (.istore_n 2, 1) := dk_61 (dk_at dksX0_warnOn_0 1 rfl rfl)
theorem dX0_warnOn_2 : decode cX0_warnOn 2 = .ok (.iconst 0, 1) := dk_3 (dk_at dksX0_warnOn_0 2 rfl rfl)
theorem dX0_warnOn_3 : decode cX0_warnOn 3 = .ok (.istore_n 3, 1) := dk_62 (dk_at dksX0_warnOn_0 3 rfl rfl)
theorem dX0_warnOn_4 : decode cX0_warnOn 4 = .ok (.iload_n 3, 1) := dk_29 (dk_at dksX0_warnOn_0 4 rfl rfl)
theorem dX0_warnOn_5 : decode cX0_warnOn 5 = .ok (.aload_n 0, 1) := dk_42 (dk_at dksX0_warnOn_0 5 rfl rfl)
theorem dX0_warnOn_6 : decode cX0_warnOn 6 = .ok (.getfield 12, 3) := dk_180 0 12 (dk_at dksX0_warnOn_0 6 rfl rfl)
theorem dX0_warnOn_9 : decode cX0_warnOn 9 = .ok (.invokeinterface 91 1, 5) := by decide +kernel
theorem dX0_warnOn_14 : decode cX0_warnOn 14 = .ok (.if_icmp .ge 145, 3) := dk_162 0 145 (dk_at dksX0_warnOn_0 14 rfl rfl)
theorem dX0_warnOn_17 : decode cX0_warnOn 17 = .ok (.aload_n 0, 1) := dk_42 (dk_at dksX0_warnOn_0 17 rfl rfl)
theorem dX0_warnOn_18 : decode cX0_warnOn 18 = .ok (.iload_n 3, 1) := dk_29 (dk_at dksX0_warnOn_0 18 rfl rfl)
theorem dX0_warnOn_19 : decode cX0_warnOn 19 = .ok (.invokevirtual 156, 3) := dk_182 0 156 (dk_at dksX0_warnOn_0 19 rfl rfl)
theorem dX0_warnOn_22 : decode cX0_warnOn 22 = .ok (.astore 4, 2) := dk_58 4 (dk_at dksX0_warnOn_0 22 rfl rfl)
theorem dX0_warnOn_24 : decode cX0_warnOn 24 = .ok (.aload 4, 2) := dk_25 4 (dk_at dksX0_warnOn_1 0 rfl rfl)
theorem dX0_warnOn_26 : decode cX0_warnOn 26 = .ok (.ifnull 127, 3) := dk_198 0 127 (dk_at dksX0_warnOn_1 2 rfl rfl)
theorem dX0_warnOn_29 : decode cX0_warnOn 29 = .ok (.aload_n 0, 1) := dk_42 (dk_at dksX0_warnOn_1 5 rfl rfl)
theorem dX0_warnOn_30 : decode cX0_warnOn 30 = .ok (.getfield 75, 3) := dk_180 0 75 (dk_at dksX0_warnOn_1 6 rfl rfl)
theorem dX0_warnOn_33 : decode cX0_warnOn 33 = .ok (.iload_n 3, 1) := dk_29 (dk_at dksX0_warnOn_1 9 rfl rfl)
theorem dX0_warnOn_34 : decode cX0_warnOn 34 = .ok (.iaload, 1) := dk_46 (dk_at dksX0_warnOn_1 10 rfl rfl)
theorem dX0_warnOn_35 : decode cX0_warnOn 35 = .ok (.ldc 147, 2) := dk_18 147 (dk_at dksX0_warnOn_1 11 rfl rfl)
theorem dX0_warnOn_37 : decode cX0_warnOn 37 = .ok (.if_icmp .ne 6, 3) := dk_160 0 6 (dk_at dksX0_warnOn_1 13 rfl rfl)
theorem dX0_warnOn_40 : decode cX0_warnOn 40 = .ok (.goto 113, 3) := dk_167 0 113 (dk_at dksX0_warnOn_1 16 rfl rfl)
theorem dX0_warnOn_43 : decode cX0_warnOn 43 = .ok (.aload_n 0, 1) := dk_42 (dk_at dksX0_warnOn_1 19 rfl rfl)
theorem dX0_warnOn_44 : decode cX0_warnOn 44 = .ok (.iload_n 3, 1) := dk_29 (dk_at dksX0_warnOn_1 20 rfl rfl)
theorem dX0_warnOn_45 : decode cX0_warnOn 45 = .ok (.invokevirtual 148, 3) := dk_182 0 148 (dk_at dksX0_warnOn_1 21 rfl rfl)
theorem dX0_warnOn_48 : decode cX0_warnOn 48 = .ok (.iconst 0, 1) := dk_3 (dk_at dksX0_warnOn_2 0 rfl rfl)
theorem dX0_warnOn_49 : decode cX0_warnOn 49 = .ok (.istore 5, 2) := dk_54 5 (dk_at dksX0_warnOn_2 1 rfl rfl)
theorem dX0_warnOn_51 : decode cX0_warnOn 51 = .ok (.iload 5, 2) := dk_21 5 (dk_at dksX0_warnOn_2 3 rfl rfl)
theorem dX0_warnOn_53 : decode cX0_warnOn 53 = .ok (.aload_n 0, 1) := dk_42 (dk_at dksX0_warnOn_2 5 rfl rfl)
theorem dX0_warnOn_54 : decode cX0_warnOn 54 = .ok (.getfield 12, 3) := dk_180 0 12 (dk_at dksX0_warnOn_2 6 rfl rfl)
theorem dX0_warnOn_57 : decode cX0_warnOn 57 = .ok (.invokeinterface 91 1, 5) := by decide +kernel
theorem dX0_warnOn_62 : decode cX0_warnOn 62 = .ok (.if_icmp .ge 91, 3) := dk_162 0 91 (dk_at dksX0_warnOn_2 14 rfl rfl)
theorem dX0_warnOn_65 : decode cX0_warnOn 65 = .ok (.aload 4, 2) := dk_25 4 (dk_at dksX0_warnOn_2 17 rfl rfl)
theorem dX0_warnOn_67 : decode cX0_warnOn 67 = .ok (.getfield 160, 3) := dk_180 0 160 (dk_at dksX0_warnOn_2 19 rfl rfl)
theorem dX0_warnOn_70 : decode cX0_warnOn 70 = .ok (.iload 5, 2) := dk_21 5 (dk_at dksX0_warnOn_2 22 rfl rfl)
theorem dX0_warnOn_72 : decode cX0_warnOn 72 = .ok (.ishr, 1) := dk_122 (dk_at dksX0_warnOn_3 0 rfl rfl)
theorem dX0_warnOn_73 : decode cX0_warnOn 73 = .ok (.iconst 1, 1) := dk_4 (dk_at dksX0_warnOn_3 1 rfl rfl)
theorem dX0_warnOn_74 : decode cX0_warnOn 74 = .ok (.iand, 1) := dk_126 (dk_at dksX0_warnOn_3 2 rfl rfl)
theorem dX0_warnOn_75 : decode cX0_warnOn 75 = .ok (.iconst 1, 1) := dk_4 (dk_at dksX0_warnOn_3 3 rfl rfl)
theorem dX0_warnOn_76 : decode cX0_warnOn 76 = .ok (.if_icmp .ne 20, 3) := dk_160 0 20 (dk_at dksX0_warnOn_3 4 rfl rfl)
theorem dX0_warnOn_79 : decode cX0_warnOn 79 = .ok (.aload_n 0, 1) := dk_42 (dk_at dksX0_warnOn_3 7 rfl rfl)
theorem dX0_warnOn_80 : decode cX0_warnOn 80 = .ok (.getfield 75, 3) := dk_180 0 75 (dk_at dksX0_warnOn_3 8 rfl rfl)
theorem dX0_warnOn_83 : decode cX0_warnOn 83 = .ok (.iload_n 3, 1) := dk_29 (dk_at dksX0_warnOn_3 11 rfl rfl)
theorem dX0_warnOn_84 : decode cX0_warnOn 84 = .ok (.iaload, 1) := dk_46 (dk_at dksX0_warnOn_3 12 rfl rfl)
theorem dX0_warnOn_85 : decode cX0_warnOn 85 = .ok (.aload_n 0, 1) := dk_42 (dk_at dksX0_warnOn_3 13 rfl rfl)
theorem dX0_warnOn_86 : decode cX0_warnOn 86 = .ok (.getfield 21, 3) := dk_180 0 21 (dk_at dksX0_warnOn_3 14 rfl rfl)
theorem dX0_warnOn_89 : decode cX0_warnOn 89 = .ok (.iload 5, 2) := dk_21 5 (dk_at dksX0_warnOn_3 17 rfl rfl)
theorem dX0_warnOn_91 : decode cX0_warnOn 91 = .ok (.iaload, 1) := dk_46 (dk_at dksX0_warnOn_3 19 rfl rfl)
theorem dX0_warnOn_92 : decode cX0_warnOn 92 = .ok (.iadd, 1) := dk_96 (dk_at dksX0_warnOn_3 20 rfl rfl)
theorem dX0_warnOn_93 : decode cX0_warnOn 93 = .ok (.goto 5, 3) := dk_167 0 5 (dk_at dksX0_warnOn_3 21 rfl rfl)
theorem dX0_warnOn_96 : decode cX0_warnOn 96 = .ok (.ldc 147, 2) := dk_18 147 (dk_at dksX0_warnOn_4 0 rfl rfl)
theorem dX0_warnOn_98 : decode cX0_warnOn 98 = .ok (.istore 6, 2) := dk_54 6 (dk_at dksX0_warnOn_4 2 rfl rfl)
theorem dX0_warnOn_100 : decode cX0_warnOn 100 = .ok (.iload 6, 2) := dk_21 6 (dk_at dksX0_warnOn_4 4 rfl rfl)
theorem dX0_warnOn_102 : decode cX0_warnOn 102 = .ok (.aload_n 0, 1) := dk_42 (dk_at dksX0_warnOn_4 6 rfl rfl)
theorem dX0_warnOn_103 : decode cX0_warnOn 103 = .ok (.getfield 75, 3) := dk_180 0 75 (dk_at dksX0_warnOn_4 7 rfl rfl)
theorem dX0_warnOn_106 : decode cX0_warnOn 106 = .ok (.iload 5, 2) := dk_21 5 (dk_at dksX0_warnOn_4 10 rfl rfl)
theorem dX0_warnOn_108 : decode cX0_warnOn 108 = .ok (.iaload, 1) := dk_46 (dk_at dksX0_warnOn_4 12 rfl rfl)
theorem dX0_warnOn_109 : decode cX0_warnOn 109 = .ok (.if_icmp .ge 38, 3) := dk_162 0 38 (dk_at dksX0_warnOn_4 13 rfl rfl)
theorem dX0_warnOn_112 : decode cX0_warnOn 112 = .ok (.aload_n 0, 1) := dk_42 (dk_at dksX0_warnOn_4 16 rfl rfl)
theorem dX0_warnOn_113 : decode cX0_warnOn 113 = .ok (.getfield 69, 3) := dk_180 0 69 (dk_at dksX0_warnOn_4 17 rfl rfl)
theorem dX0_warnOn_116 : decode cX0_warnOn 116 = .ok (.iload 5, 2) := dk_21 5 (dk_at dksX0_warnOn_4 20 rfl rfl)
theorem dX0_warnOn_118 : decode cX0_warnOn 118 = .ok (.iaload, 1) := dk_46 (dk_at dksX0_warnOn_4 22 rfl rfl)
theorem dX0_warnOn_119 : decode cX0_warnOn 119 = .ok (.ifCond .lt 17, 3) := dk_155 0 17 (dk_at dksX0_warnOn_5 0 rfl rfl)
theorem dX0_warnOn_122 : decode cX0_warnOn 122 = .ok (.iload 6, 2) := dk_21 6 (dk_at dksX0_warnOn_5 3 rfl rfl)
theorem dX0_warnOn_124 : decode cX0_warnOn 124 = .ok (.iload_n 1, 1) := dk_27 (dk_at dksX0_warnOn_5 5 rfl rfl)
theorem dX0_warnOn_125 : decode cX0_warnOn 125 = .ok (.aload_n 0, 1) := dk_42 (dk_at dksX0_warnOn_5 6 rfl rfl)
theorem dX0_warnOn_126 : decode cX0_warnOn 126 = .ok (.getfield 69, 3) := dk_180 0 69 (dk_at dksX0_warnOn_5 7 rfl rfl)
theorem dX0_warnOn_129 : decode cX0_warnOn 129 = .ok (.iload 5, 2) := dk_21 5 (dk_at dksX0_warnOn_5 10 rfl rfl)
theorem dX0_warnOn_131 : decode cX0_warnOn 131 = .ok (.iaload, 1) := dk_46 (dk_at dksX0_warnOn_5 12 rfl rfl)
theorem dX0_warnOn_132 : decode cX0_warnOn 132 = .ok (.imul, 1) := dk_104 (dk_at dksX0_warnOn_5 13 rfl rfl)
theorem dX0_warnOn_133 : decode cX0_warnOn 133 = .ok (.if_icmp .ge 14, 3) := dk_162 0 14 (dk_at dksX0_warnOn_5 14 rfl rfl)
theorem dX0_warnOn_136 : decode cX0_warnOn 136 = .ok (.aload_n 0, 1) := dk_42 (dk_at dksX0_warnOn_5 17 rfl rfl)
theorem dX0_warnOn_137 : decode cX0_warnOn 137 = .ok (.getfield 75, 3) := dk_180 0 75 (dk_at dksX0_warnOn_5 18 rfl rfl)
theorem dX0_warnOn_140 : decode cX0_warnOn 140 = .ok (.iload 5, 2) := dk_21 5 (dk_at dksX0_warnOn_5 21 rfl rfl)
theorem dX0_warnOn_142 : decode cX0_warnOn 142 = .ok (.iload 6, 2) := dk_21 6 (dk_at dksX0_warnOn_6 0 rfl rfl)
theorem dX0_warnOn_144 : decode cX0_warnOn 144 = .ok (.iastore, 1) := dk_79 (dk_at dksX0_warnOn_6 2 rfl rfl)
theorem dX0_warnOn_145 : decode cX0_warnOn 145 = .ok (.iconst 1, 1) := dk_4 (dk_at dksX0_warnOn_6 3 rfl rfl)
theorem dX0_warnOn_146 : decode cX0_warnOn 146 = .ok (.istore_n 2, 1) := dk_61 (dk_at dksX0_warnOn_6 4 rfl rfl)
theorem dX0_warnOn_147 : decode cX0_warnOn 147 = .ok (.iinc 5 1, 3) := dk_132 5 1 (dk_at dksX0_warnOn_6 5 rfl rfl)
theorem dX0_warnOn_150 : decode cX0_warnOn 150 = .ok (.goto (-99), 3) := dk_167 255 157 (dk_at dksX0_warnOn_6 8 rfl rfl)
theorem dX0_warnOn_153 : decode cX0_warnOn 153 = .ok (.iinc 3 1, 3) := dk_132 3 1 (dk_at dksX0_warnOn_6 11 rfl rfl)
theorem dX0_warnOn_156 : decode cX0_warnOn 156 = .ok (.goto (-152), 3) := dk_167 255 104 (dk_at dksX0_warnOn_6 14 rfl rfl)
theorem dX0_warnOn_159 : decode cX0_warnOn 159 = .ok (.iload_n 2, 1) := dk_28 (dk_at dksX0_warnOn_6 17 rfl rfl)
theorem dX0_warnOn_160 : decode cX0_warnOn 160 = .ok (.ireturn, 1) := dk_172 (dk_at dksX0_warnOn_6 18 rfl rfl)
abbrev cX0_tie : ByteArray := prog_1_method_78_code
def yX0_tie : MethodName := ⟨RX0, "tie", "(II)I"⟩
def dkwX0_tie_7 : List UInt8 := [100, 172]
abbrev dktX0_tie_7 : List UInt8 := dkwX0_tie_7 ++ []
def dkwX0_tie_6 : List UInt8 := [180, 0, 81, 42, 180, 1, 215, 28, 79, 42, 89, 180, 1, 215, 4, 96, 181, 1, 215, 42, 180, 1, 215, 4]
abbrev dktX0_tie_6 : List UInt8 := dkwX0_tie_6 ++ dktX0_tie_7
def dkwX0_tie_5 : List UInt8 := [180, 1, 215, 16, 8, 160, 0, 6, 16, 253, 172, 42, 180, 0, 78, 42, 180, 1, 215, 27, 79, 42]
abbrev dktX0_tie_5 : List UInt8 := dkwX0_tie_5 ++ dktX0_tie_6
def dkwX0_tie_4 : List UInt8 := [154, 0, 18, 42, 27, 182, 0, 156, 180, 0, 160, 28, 122, 4, 126, 154, 0, 6, 16, 254, 172, 42]
abbrev dktX0_tie_4 : List UInt8 := dkwX0_tie_4 ++ dktX0_tie_5
def dkwX0_tie_3 : List UInt8 := [180, 0, 81, 21, 4, 46, 28, 160, 0, 7, 4, 167, 0, 4, 3, 128, 62, 132, 4, 1, 167, 255, 214, 29]
abbrev dktX0_tie_3 : List UInt8 := dkwX0_tie_3 ++ dktX0_tie_4
def dkwX0_tie_2 : List UInt8 := [21, 4, 42, 180, 1, 215, 162, 0, 39, 29, 42, 180, 0, 78, 21, 4, 46, 27, 160, 0, 18, 42]
abbrev dktX0_tie_2 : List UInt8 := dkwX0_tie_2 ++ dktX0_tie_3
def dkwX0_tie_1 : List UInt8 := [27, 182, 0, 156, 198, 0, 11, 42, 28, 182, 0, 156, 199, 0, 6, 16, 244, 172, 3, 62, 3, 54, 4]
abbrev dktX0_tie_1 : List UInt8 := dkwX0_tie_1 ++ dktX0_tie_2
def dkwX0_tie_0 : List UInt8 := [42, 27, 182, 0, 143, 153, 0, 16, 42, 28, 182, 0, 143, 153, 0, 8, 27, 28, 160, 0, 5, 2, 172, 42]
abbrev dktX0_tie_0 : List UInt8 := dkwX0_tie_0 ++ dktX0_tie_1
theorem dksX0_tie_0 : cX0_tie.data.toList.drop 0 = dktX0_tie_0 := by decide +kernel
theorem dksX0_tie_1 : cX0_tie.data.toList.drop 24 = dktX0_tie_1 := dk_seg dksX0_tie_0 24 rfl rfl
theorem dksX0_tie_2 : cX0_tie.data.toList.drop 47 = dktX0_tie_2 := dk_seg dksX0_tie_1 23 rfl rfl
theorem dksX0_tie_3 : cX0_tie.data.toList.drop 69 = dktX0_tie_3 := dk_seg dksX0_tie_2 22 rfl rfl
theorem dksX0_tie_4 : cX0_tie.data.toList.drop 93 = dktX0_tie_4 := dk_seg dksX0_tie_3 24 rfl rfl
theorem dksX0_tie_5 : cX0_tie.data.toList.drop 115 = dktX0_tie_5 := dk_seg dksX0_tie_4 22 rfl rfl
theorem dksX0_tie_6 : cX0_tie.data.toList.drop 137 = dktX0_tie_6 := dk_seg dksX0_tie_5 22 rfl rfl
theorem dksX0_tie_7 : cX0_tie.data.toList.drop 161 = dktX0_tie_7 := dk_seg dksX0_tie_6 24 rfl rfl
theorem dX0_tie_0 : decode cX0_tie 0 = .ok (.aload_n 0, 1) := dk_42 (dk_at dksX0_tie_0 0 rfl rfl)
theorem dX0_tie_1 : decode cX0_tie 1 = .ok (.iload_n 1, 1) := dk_27 (dk_at dksX0_tie_0 1 rfl rfl)
theorem dX0_tie_2 : decode cX0_tie 2 = .ok (.invokevirtual 143, 3) := dk_182 0 143 (dk_at dksX0_tie_0 2 rfl rfl)
theorem dX0_tie_5 : decode cX0_tie 5 = .ok (.ifCond .eq 16, 3) := dk_153 0 16 (dk_at dksX0_tie_0 5 rfl rfl)
theorem dX0_tie_8 : decode cX0_tie 8 = .ok (.aload_n 0, 1) := dk_42 (dk_at dksX0_tie_0 8 rfl rfl)
theorem dX0_tie_9 : decode cX0_tie 9 = .ok (.iload_n 2, 1) := dk_28 (dk_at dksX0_tie_0 9 rfl rfl)
theorem dX0_tie_10 : decode cX0_tie 10 = .ok (.invokevirtual 143, 3) := dk_182 0 143 (dk_at dksX0_tie_0 10 rfl rfl)
theorem dX0_tie_13 : decode cX0_tie 13 = .ok (.ifCond .eq 8, 3) := dk_153 0 8 (dk_at dksX0_tie_0 13 rfl rfl)
theorem dX0_tie_16 : decode cX0_tie 16 = .ok (.iload_n 1, 1) := dk_27 (dk_at dksX0_tie_0 16 rfl rfl)
theorem dX0_tie_17 : decode cX0_tie 17 = .ok (.iload_n 2, 1) := dk_28 (dk_at dksX0_tie_0 17 rfl rfl)
theorem dX0_tie_18 : decode cX0_tie 18 = .ok (.if_icmp .ne 5, 3) := dk_160 0 5 (dk_at dksX0_tie_0 18 rfl rfl)
theorem dX0_tie_21 : decode cX0_tie 21 = .ok (.iconst (-1), 1) := dk_2 (dk_at dksX0_tie_0 21 rfl rfl)
theorem dX0_tie_22 : decode cX0_tie 22 = .ok (.ireturn, 1) := dk_172 (dk_at dksX0_tie_0 22 rfl rfl)
theorem dX0_tie_23 : decode cX0_tie 23 = .ok (.aload_n 0, 1) := dk_42 (dk_at dksX0_tie_0 23 rfl rfl)
theorem dX0_tie_24 : decode cX0_tie 24 = .ok (.iload_n 1, 1) := dk_27 (dk_at dksX0_tie_1 0 rfl rfl)
theorem dX0_tie_25 : decode cX0_tie 25 = .ok (.invokevirtual 156, 3) := dk_182 0 156 (dk_at dksX0_tie_1 1 rfl rfl)
theorem dX0_tie_28 : decode cX0_tie 28 = .ok (.ifnull 11, 3) := dk_198 0 11 (dk_at dksX0_tie_1 4 rfl rfl)
theorem dX0_tie_31 : decode cX0_tie 31 = .ok (.aload_n 0, 1) := dk_42 (dk_at dksX0_tie_1 7 rfl rfl)
theorem dX0_tie_32 : decode cX0_tie 32 = .ok (.iload_n 2, 1) := dk_28 (dk_at dksX0_tie_1 8 rfl rfl)
theorem dX0_tie_33 : decode cX0_tie 33 = .ok (.invokevirtual 156, 3) := dk_182 0 156 (dk_at dksX0_tie_1 9 rfl rfl)
theorem dX0_tie_36 : decode cX0_tie 36 = .ok (.ifnonnull 6, 3) := dk_199 0 6 (dk_at dksX0_tie_1 12 rfl rfl)
theorem dX0_tie_39 : decode cX0_tie 39 = .ok (.bipush (-12), 2) := dk_16 244 (dk_at dksX0_tie_1 15 rfl rfl)
theorem dX0_tie_41 : decode cX0_tie 41 = .ok (.ireturn, 1) := dk_172 (dk_at dksX0_tie_1 17 rfl rfl)
theorem dX0_tie_42 : decode cX0_tie 42 = .ok (.iconst 0, 1) := dk_3 (dk_at dksX0_tie_1 18 rfl rfl)
theorem dX0_tie_43 : decode cX0_tie 43 = .ok (.istore_n 3, 1) := dk_62 (dk_at dksX0_tie_1 19 rfl rfl)
theorem dX0_tie_44 : decode cX0_tie 44 = .ok (.iconst 0, 1) := dk_3 (dk_at dksX0_tie_1 20 rfl rfl)
theorem dX0_tie_45 : decode cX0_tie 45 = .ok (.istore 4, 2) := dk_54 4 (dk_at dksX0_tie_1 21 rfl rfl)
theorem dX0_tie_47 : decode cX0_tie 47 = .ok (.iload 4, 2) := dk_21 4 (dk_at dksX0_tie_2 0 rfl rfl)
theorem dX0_tie_49 : decode cX0_tie 49 = .ok (.aload_n 0, 1) := dk_42 (dk_at dksX0_tie_2 2 rfl rfl)
theorem dX0_tie_50 : decode cX0_tie 50 = .ok (.getfield 471, 3) := dk_180 1 215 (dk_at dksX0_tie_2 3 rfl rfl)
theorem dX0_tie_53 : decode cX0_tie 53 = .ok (.if_icmp .ge 39, 3) := dk_162 0 39 (dk_at dksX0_tie_2 6 rfl rfl)
theorem dX0_tie_56 : decode cX0_tie 56 = .ok (.iload_n 3, 1) := dk_29 (dk_at dksX0_tie_2 9 rfl rfl)
theorem dX0_tie_57 : decode cX0_tie 57 = .ok (.aload_n 0, 1) := dk_42 (dk_at dksX0_tie_2 10 rfl rfl)
theorem dX0_tie_58 : decode cX0_tie 58 = .ok (.getfield 78, 3) := dk_180 0 78 (dk_at dksX0_tie_2 11 rfl rfl)
theorem dX0_tie_61 : decode cX0_tie 61 = .ok (.iload 4, 2) := dk_21 4 (dk_at dksX0_tie_2 14 rfl rfl)
theorem dX0_tie_63 : decode cX0_tie 63 = .ok (.iaload, 1) := dk_46 (dk_at dksX0_tie_2 16 rfl rfl)
theorem dX0_tie_64 : decode cX0_tie 64 = .ok (.iload_n 1, 1) := dk_27 (dk_at dksX0_tie_2 17 rfl rfl)
theorem dX0_tie_65 : decode cX0_tie 65 = .ok (.if_icmp .ne 18, 3) := dk_160 0 18 (dk_at dksX0_tie_2 18 rfl rfl)
theorem dX0_tie_68 : decode cX0_tie 68 = .ok (.aload_n 0, 1) := dk_42 (dk_at dksX0_tie_2 21 rfl rfl)
theorem dX0_tie_69 : decode cX0_tie 69 = .ok (.getfield 81, 3) := dk_180 0 81 (dk_at dksX0_tie_3 0 rfl rfl)
theorem dX0_tie_72 : decode cX0_tie 72 = .ok (.iload 4, 2) := dk_21 4 (dk_at dksX0_tie_3 3 rfl rfl)
theorem dX0_tie_74 : decode cX0_tie 74 = .ok (.iaload, 1) := dk_46 (dk_at dksX0_tie_3 5 rfl rfl)
theorem dX0_tie_75 : decode cX0_tie 75 = .ok (.iload_n 2, 1) := dk_28 (dk_at dksX0_tie_3 6 rfl rfl)
theorem dX0_tie_76 : decode cX0_tie 76 = .ok (.if_icmp .ne 7, 3) := dk_160 0 7 (dk_at dksX0_tie_3 7 rfl rfl)
theorem dX0_tie_79 : decode cX0_tie 79 = .ok (.iconst 1, 1) := dk_4 (dk_at dksX0_tie_3 10 rfl rfl)
theorem dX0_tie_80 : decode cX0_tie 80 = .ok (.goto 4, 3) := dk_167 0 4 (dk_at dksX0_tie_3 11 rfl rfl)
theorem dX0_tie_83 : decode cX0_tie 83 = .ok (.iconst 0, 1) := dk_3 (dk_at dksX0_tie_3 14 rfl rfl)
theorem dX0_tie_84 : decode cX0_tie 84 = .ok (.ior, 1) := dk_128 (dk_at dksX0_tie_3 15 rfl rfl)
theorem dX0_tie_85 : decode cX0_tie 85 = .ok (.istore_n 3, 1) := dk_62 (dk_at dksX0_tie_3 16 rfl rfl)
theorem dX0_tie_86 : decode cX0_tie 86 = .ok (.iinc 4 1, 3) := dk_132 4 1 (dk_at dksX0_tie_3 17 rfl rfl)
theorem dX0_tie_89 : decode cX0_tie 89 = .ok (.goto (-42), 3) := dk_167 255 214 (dk_at dksX0_tie_3 20 rfl rfl)
theorem dX0_tie_92 : decode cX0_tie 92 = .ok (.iload_n 3, 1) := dk_29 (dk_at dksX0_tie_3 23 rfl rfl)
theorem dX0_tie_93 : decode cX0_tie 93 = .ok (.ifCond .ne 18, 3) := dk_154 0 18 (dk_at dksX0_tie_4 0 rfl rfl)
theorem dX0_tie_96 : decode cX0_tie 96 = .ok (.aload_n 0, 1) := dk_42 (dk_at dksX0_tie_4 3 rfl rfl)
theorem dX0_tie_97 : decode cX0_tie 97 = .ok (.iload_n 1, 1) := dk_27 (dk_at dksX0_tie_4 4 rfl rfl)
theorem dX0_tie_98 : decode cX0_tie 98 = .ok (.invokevirtual 156, 3) := dk_182 0 156 (dk_at dksX0_tie_4 5 rfl rfl)
theorem dX0_tie_101 : decode cX0_tie 101 = .ok (.getfield 160, 3) := dk_180 0 160 (dk_at dksX0_tie_4 8 rfl rfl)
theorem dX0_tie_104 : decode cX0_tie 104 = .ok (.iload_n 2, 1) := dk_28 (dk_at dksX0_tie_4 11 rfl rfl)
theorem dX0_tie_105 : decode cX0_tie 105 = .ok (.ishr, 1) := dk_122 (dk_at dksX0_tie_4 12 rfl rfl)
theorem dX0_tie_106 : decode cX0_tie 106 = .ok (.iconst 1, 1) := dk_4 (dk_at dksX0_tie_4 13 rfl rfl)
theorem dX0_tie_107 : decode cX0_tie 107 = .ok (.iand, 1) := dk_126 (dk_at dksX0_tie_4 14 rfl rfl)
theorem dX0_tie_108 : decode cX0_tie 108 = .ok (.ifCond .ne 6, 3) := dk_154 0 6 (dk_at dksX0_tie_4 15 rfl rfl)
theorem dX0_tie_111 : decode cX0_tie 111 = .ok (.bipush (-2), 2) := dk_16 254 (dk_at dksX0_tie_4 18 rfl rfl)
theorem dX0_tie_113 : decode cX0_tie 113 = .ok (.ireturn, 1) := dk_172 (dk_at dksX0_tie_4 20 rfl rfl)
theorem dX0_tie_114 : decode cX0_tie 114 = .ok (.aload_n 0, 1) := dk_42 (dk_at dksX0_tie_4 21 rfl rfl)
theorem dX0_tie_115 : decode cX0_tie 115 = .ok (.getfield 471, 3) := dk_180 1 215 (dk_at dksX0_tie_5 0 rfl rfl)
theorem dX0_tie_118 : decode cX0_tie 118 = .ok (.bipush 8, 2) := dk_16 8 (dk_at dksX0_tie_5 3 rfl rfl)
theorem dX0_tie_120 : decode cX0_tie 120 = .ok (.if_icmp .ne 6, 3) := dk_160 0 6 (dk_at dksX0_tie_5 5 rfl rfl)
theorem dX0_tie_123 : decode cX0_tie 123 = .ok (.bipush (-3), 2) := dk_16 253 (dk_at dksX0_tie_5 8 rfl rfl)
theorem dX0_tie_125 : decode cX0_tie 125 = .ok (.ireturn, 1) := dk_172 (dk_at dksX0_tie_5 10 rfl rfl)
theorem dX0_tie_126 : decode cX0_tie 126 = .ok (.aload_n 0, 1) := dk_42 (dk_at dksX0_tie_5 11 rfl rfl)
theorem dX0_tie_127 : decode cX0_tie 127 = .ok (.getfield 78, 3) := dk_180 0 78 (dk_at dksX0_tie_5 12 rfl rfl)
theorem dX0_tie_130 : decode cX0_tie 130 = .ok (.aload_n 0, 1) := dk_42 (dk_at dksX0_tie_5 15 rfl rfl)
theorem dX0_tie_131 : decode cX0_tie 131 = .ok (.getfield 471, 3) := dk_180 1 215 (dk_at dksX0_tie_5 16 rfl rfl)
theorem dX0_tie_134 : decode cX0_tie 134 = .ok (.iload_n 1, 1) := dk_27 (dk_at dksX0_tie_5 19 rfl rfl)
theorem dX0_tie_135 : decode cX0_tie 135 = .ok (.iastore, 1) := dk_79 (dk_at dksX0_tie_5 20 rfl rfl)
theorem dX0_tie_136 : decode cX0_tie 136 = .ok (.aload_n 0, 1) := dk_42 (dk_at dksX0_tie_5 21 rfl rfl)
theorem dX0_tie_137 : decode cX0_tie 137 = .ok (.getfield 81, 3) := dk_180 0 81 (dk_at dksX0_tie_6 0 rfl rfl)
theorem dX0_tie_140 : decode cX0_tie 140 = .ok (.aload_n 0, 1) := dk_42 (dk_at dksX0_tie_6 3 rfl rfl)
theorem dX0_tie_141 : decode cX0_tie 141 = .ok (.getfield 471, 3) := dk_180 1 215 (dk_at dksX0_tie_6 4 rfl rfl)
theorem dX0_tie_144 : decode cX0_tie 144 = .ok (.iload_n 2, 1) := dk_28 (dk_at dksX0_tie_6 7 rfl rfl)
theorem dX0_tie_145 : decode cX0_tie 145 = .ok (.iastore, 1) := dk_79 (dk_at dksX0_tie_6 8 rfl rfl)
theorem dX0_tie_146 : decode cX0_tie 146 = .ok (.aload_n 0, 1) := dk_42 (dk_at dksX0_tie_6 9 rfl rfl)
theorem dX0_tie_147 : decode cX0_tie 147 = .ok (.dup, 1) := dk_89 (dk_at dksX0_tie_6 10 rfl rfl)
theorem dX0_tie_148 : decode cX0_tie 148 = .ok (.getfield 471, 3) := dk_180 1 215 (dk_at dksX0_tie_6 11 rfl rfl)
theorem dX0_tie_151 : decode cX0_tie 151 = .ok (.iconst 1, 1) := dk_4 (dk_at dksX0_tie_6 14 rfl rfl)
theorem dX0_tie_152 : decode cX0_tie 152 = .ok (.iadd, 1) := dk_96 (dk_at dksX0_tie_6 15 rfl rfl)
theorem dX0_tie_153 : decode cX0_tie 153 = .ok (.putfield 471, 3) := dk_181 1 215 (dk_at dksX0_tie_6 16 rfl rfl)
theorem dX0_tie_156 : decode cX0_tie 156 = .ok (.aload_n 0, 1) := dk_42 (dk_at dksX0_tie_6 19 rfl rfl)
theorem dX0_tie_157 : decode cX0_tie 157 = .ok (.getfield 471, 3) := dk_180 1 215 (dk_at dksX0_tie_6 20 rfl rfl)
theorem dX0_tie_160 : decode cX0_tie 160 = .ok (.iconst 1, 1) := dk_4 (dk_at dksX0_tie_6 23 rfl rfl)
theorem dX0_tie_161 : decode cX0_tie 161 = .ok (.isub, 1) := dk_100 (dk_at dksX0_tie_7 0 rfl rfl)
theorem dX0_tie_162 : decode cX0_tie 162 = .ok (.ireturn, 1) := dk_172 (dk_at dksX0_tie_7 1 rfl rfl)
abbrev cX0_safe : ByteArray := prog_1_method_80_code
def yX0_safe : MethodName := ⟨RX0, "safe", "(I)I"⟩
def dkwX0_safe_4 : List UInt8 := [153, 0, 6, 21, 4, 172, 132, 3, 255, 167, 255, 185, 132, 2, 1, 167, 255, 162, 16, 252, 172]
abbrev dktX0_safe_4 : List UInt8 := dkwX0_safe_4 ++ []
def dkwX0_safe_3 : List UInt8 := [132, 5, 1, 167, 255, 223, 21, 4, 184, 1, 201, 28, 160, 0, 16, 42, 21, 4, 27, 182, 1, 218]
abbrev dktX0_safe_3 : List UInt8 := dkwX0_safe_3 ++ dktX0_safe_4
def dkwX0_safe_2 : List UInt8 := [162, 0, 30, 21, 4, 29, 42, 180, 1, 215, 4, 100, 21, 5, 100, 122, 4, 126, 21, 5, 120, 128, 54, 4]
abbrev dktX0_safe_2 : List UInt8 := dkwX0_safe_2 ++ dktX0_safe_3
def dkwX0_safe_1 : List UInt8 := [180, 1, 215, 120, 4, 100, 62, 29, 155, 0, 73, 3, 54, 4, 3, 54, 5, 21, 5, 42, 180, 1, 215]
abbrev dktX0_safe_1 : List UInt8 := dkwX0_safe_1 ++ dktX0_safe_2
def dkwX0_safe_0 : List UInt8 := [27, 3, 16, 15, 184, 0, 97, 154, 0, 5, 2, 172, 3, 61, 28, 42, 180, 1, 215, 163, 0, 92, 4, 42]
abbrev dktX0_safe_0 : List UInt8 := dkwX0_safe_0 ++ dktX0_safe_1
theorem dksX0_safe_0 : cX0_safe.data.toList.drop 0 = dktX0_safe_0 := by decide +kernel
theorem dksX0_safe_1 : cX0_safe.data.toList.drop 24 = dktX0_safe_1 := dk_seg dksX0_safe_0 24 rfl rfl
theorem dksX0_safe_2 : cX0_safe.data.toList.drop 47 = dktX0_safe_2 := dk_seg dksX0_safe_1 23 rfl rfl
theorem dksX0_safe_3 : cX0_safe.data.toList.drop 71 = dktX0_safe_3 := dk_seg dksX0_safe_2 24 rfl rfl
theorem dksX0_safe_4 : cX0_safe.data.toList.drop 93 = dktX0_safe_4 := dk_seg dksX0_safe_3 22 rfl rfl
theorem dX0_safe_0 : decode cX0_safe 0 = .ok (.iload_n 1, 1) := dk_27 (dk_at dksX0_safe_0 0 rfl rfl)
theorem dX0_safe_1 : decode cX0_safe 1 = .ok (.iconst 0, 1) := dk_3 (dk_at dksX0_safe_0 1 rfl rfl)
theorem dX0_safe_2 : decode cX0_safe 2 = .ok (.bipush 15, 2) := dk_16 15 (dk_at dksX0_safe_0 2 rfl rfl)
theorem dX0_safe_4 : decode cX0_safe 4 = .ok (.invokestatic 97, 3) := dk_184 0 97 (dk_at dksX0_safe_0 4 rfl rfl)
theorem dX0_safe_7 : decode cX0_safe 7 = .ok (.ifCond .ne 5, 3) := dk_154 0 5 (dk_at dksX0_safe_0 7 rfl rfl)
theorem dX0_safe_10 : decode cX0_safe 10 = .ok (.iconst (-1), 1) := dk_2 (dk_at dksX0_safe_0 10 rfl rfl)
theorem dX0_safe_11 : decode cX0_safe 11 = .ok (.ireturn, 1) := dk_172 (dk_at dksX0_safe_0 11 rfl rfl)
theorem dX0_safe_12 : decode cX0_safe 12 = .ok (.iconst 0, 1) := dk_3 (dk_at dksX0_safe_0 12 rfl rfl)
theorem dX0_safe_13 : decode cX0_safe 13 = .ok (.istore_n 2, 1) := dk_61 (dk_at dksX0_safe_0 13 rfl rfl)
theorem dX0_safe_14 : decode cX0_safe 14 = .ok (.iload_n 2, 1) := dk_28 (dk_at dksX0_safe_0 14 rfl rfl)
theorem dX0_safe_15 : decode cX0_safe 15 = .ok (.aload_n 0, 1) := dk_42 (dk_at dksX0_safe_0 15 rfl rfl)
theorem dX0_safe_16 : decode cX0_safe 16 = .ok (.getfield 471, 3) := dk_180 1 215 (dk_at dksX0_safe_0 16 rfl rfl)
theorem dX0_safe_19 : decode cX0_safe 19 = .ok (.if_icmp .gt 92, 3) := dk_163 0 92 (dk_at dksX0_safe_0 19 rfl rfl)
theorem dX0_safe_22 : decode cX0_safe 22 = .ok (.iconst 1, 1) := dk_4 (dk_at dksX0_safe_0 22 rfl rfl)
theorem dX0_safe_23 : decode cX0_safe 23 = .ok (.aload_n 0, 1) := dk_42 (dk_at dksX0_safe_0 23 rfl rfl)
theorem dX0_safe_24 : decode cX0_safe 24 = .ok (.getfield 471, 3) := dk_180 1 215 (dk_at dksX0_safe_1 0 rfl rfl)
theorem dX0_safe_27 : decode cX0_safe 27 = .ok (.ishl, 1) := dk_120 (dk_at dksX0_safe_1 3 rfl rfl)
theorem dX0_safe_28 : decode cX0_safe 28 = .ok (.iconst 1, 1) := dk_4 (dk_at dksX0_safe_1 4 rfl rfl)
theorem dX0_safe_29 : decode cX0_safe 29 = .ok (.isub, 1) := dk_100 (dk_at dksX0_safe_1 5 rfl rfl)
theorem dX0_safe_30 : decode cX0_safe 30 = .ok (.istore_n 3, 1) := dk_62 (dk_at dksX0_safe_1 6 rfl rfl)
theorem dX0_safe_31 : decode cX0_safe 31 = .ok (.iload_n 3, 1) := dk_29 (dk_at dksX0_safe_1 7 rfl rfl)
theorem dX0_safe_32 : decode cX0_safe 32 = .ok (.ifCond .lt 73, 3) := dk_155 0 73 (dk_at dksX0_safe_1 8 rfl rfl)
theorem dX0_safe_35 : decode cX0_safe 35 = .ok (.iconst 0, 1) := dk_3 (dk_at dksX0_safe_1 11 rfl rfl)
theorem dX0_safe_36 : decode cX0_safe 36 = .ok (.istore 4, 2) := dk_54 4 (dk_at dksX0_safe_1 12 rfl rfl)
theorem dX0_safe_38 : decode cX0_safe 38 = .ok (.iconst 0, 1) := dk_3 (dk_at dksX0_safe_1 14 rfl rfl)
theorem dX0_safe_39 : decode cX0_safe 39 = .ok (.istore 5, 2) := dk_54 5 (dk_at dksX0_safe_1 15 rfl rfl)
theorem dX0_safe_41 : decode cX0_safe 41 = .ok (.iload 5, 2) := dk_21 5 (dk_at dksX0_safe_1 17 rfl rfl)
theorem dX0_safe_43 : decode cX0_safe 43 = .ok (.aload_n 0, 1) := dk_42 (dk_at dksX0_safe_1 19 rfl rfl)
theorem dX0_safe_44 : decode cX0_safe 44 = .ok (.getfield 471, 3) := dk_180 1 215 (dk_at dksX0_safe_1 20 rfl rfl)
theorem dX0_safe_47 : decode cX0_safe 47 = .ok (.if_icmp .ge 30, 3) := dk_162 0 30 (dk_at dksX0_safe_2 0 rfl rfl)
theorem dX0_safe_50 : decode cX0_safe 50 = .ok (.iload 4, 2) := dk_21 4 (dk_at dksX0_safe_2 3 rfl rfl)
theorem dX0_safe_52 : decode cX0_safe 52 = .ok (.iload_n 3, 1) := dk_29 (dk_at dksX0_safe_2 5 rfl rfl)
theorem dX0_safe_53 : decode cX0_safe 53 = .ok (.aload_n 0, 1) := dk_42 (dk_at dksX0_safe_2 6 rfl rfl)
theorem dX0_safe_54 : decode cX0_safe 54 = .ok (.getfield 471, 3) := dk_180 1 215 (dk_at dksX0_safe_2 7 rfl rfl)
theorem dX0_safe_57 : decode cX0_safe 57 = .ok (.iconst 1, 1) := dk_4 (dk_at dksX0_safe_2 10 rfl rfl)
theorem dX0_safe_58 : decode cX0_safe 58 = .ok (.isub, 1) := dk_100 (dk_at dksX0_safe_2 11 rfl rfl)
theorem dX0_safe_59 : decode cX0_safe 59 = .ok (.iload 5, 2) := dk_21 5 (dk_at dksX0_safe_2 12 rfl rfl)
theorem dX0_safe_61 : decode cX0_safe 61 = .ok (.isub, 1) := dk_100 (dk_at dksX0_safe_2 14 rfl rfl)
theorem dX0_safe_62 : decode cX0_safe 62 = .ok (.ishr, 1) := dk_122 (dk_at dksX0_safe_2 15 rfl rfl)
theorem dX0_safe_63 : decode cX0_safe 63 = .ok (.iconst 1, 1) := dk_4 (dk_at dksX0_safe_2 16 rfl rfl)
theorem dX0_safe_64 : decode cX0_safe 64 = .ok (.iand, 1) := dk_126 (dk_at dksX0_safe_2 17 rfl rfl)
theorem dX0_safe_65 : decode cX0_safe 65 = .ok (.iload 5, 2) := dk_21 5 (dk_at dksX0_safe_2 18 rfl rfl)
theorem dX0_safe_67 : decode cX0_safe 67 = .ok (.ishl, 1) := dk_120 (dk_at dksX0_safe_2 20 rfl rfl)
theorem dX0_safe_68 : decode cX0_safe 68 = .ok (.ior, 1) := dk_128 (dk_at dksX0_safe_2 21 rfl rfl)
theorem dX0_safe_69 : decode cX0_safe 69 = .ok (.istore 4, 2) := dk_54 4 (dk_at dksX0_safe_2 22 rfl rfl)
theorem dX0_safe_71 : decode cX0_safe 71 = .ok (.iinc 5 1, 3) := dk_132 5 1 (dk_at dksX0_safe_3 0 rfl rfl)
theorem dX0_safe_74 : decode cX0_safe 74 = .ok (.goto (-33), 3) := dk_167 255 223 (dk_at dksX0_safe_3 3 rfl rfl)
theorem dX0_safe_77 : decode cX0_safe 77 = .ok (.iload 4, 2) := dk_21 4 (dk_at dksX0_safe_3 6 rfl rfl)
theorem dX0_safe_79 : decode cX0_safe 79 = .ok (.invokestatic 457, 3) := dk_184 1 201 (dk_at dksX0_safe_3 8 rfl rfl)
theorem dX0_safe_82 : decode cX0_safe 82 = .ok (.iload_n 2, 1) := dk_28 (dk_at dksX0_safe_3 11 rfl rfl)
theorem dX0_safe_83 : decode cX0_safe 83 = .ok (.if_icmp .ne 16, 3) := dk_160 0 16 (dk_at dksX0_safe_3 12 rfl rfl)
theorem dX0_safe_86 : decode cX0_safe 86 = .ok (.aload_n 0, 1) := dk_42 (dk_at dksX0_safe_3 15 rfl rfl)
theorem dX0_safe_87 : decode cX0_safe 87 = .ok (.iload 4, 2) := dk_21 4 (dk_at dksX0_safe_3 16 rfl rfl)
theorem dX0_safe_89 : decode cX0_safe 89 = .ok (.iload_n 1, 1) := dk_27 (dk_at dksX0_safe_3 18 rfl rfl)
theorem dX0_safe_90 : decode cX0_safe 90 = .ok (.invokevirtual 474, 3) := dk_182 1 218 (dk_at dksX0_safe_3 19 rfl rfl)
theorem dX0_safe_93 : decode cX0_safe 93 = .ok (.ifCond .eq 6, 3) := dk_153 0 6 (dk_at dksX0_safe_4 0 rfl rfl)
theorem dX0_safe_96 : decode cX0_safe 96 = .ok (.iload 4, 2) := dk_21 4 (dk_at dksX0_safe_4 3 rfl rfl)
theorem dX0_safe_98 : decode cX0_safe 98 = .ok (.ireturn, 1) := dk_172 (dk_at dksX0_safe_4 5 rfl rfl)
theorem dX0_safe_99 : decode cX0_safe 99 = .ok (.iinc 3 (-1), 3) := dk_132 3 255 (dk_at dksX0_safe_4 6 rfl rfl)
theorem dX0_safe_102 : decode cX0_safe 102 = .ok (.goto (-71), 3) := dk_167 255 185 (dk_at dksX0_safe_4 9 rfl rfl)
theorem dX0_safe_105 : decode cX0_safe 105 = .ok (.iinc 2 1, 3) := dk_132 2 1 (dk_at dksX0_safe_4 12 rfl rfl)
theorem dX0_safe_108 : decode cX0_safe 108 = .ok (.goto (-94), 3) := dk_167 255 162 (dk_at dksX0_safe_4 15 rfl rfl)
theorem dX0_safe_111 : decode cX0_safe 111 = .ok (.bipush (-4), 2) := dk_16 252 (dk_at dksX0_safe_4 18 rfl rfl)
theorem dX0_safe_113 : decode cX0_safe 113 = .ok (.ireturn, 1) := dk_172 (dk_at dksX0_safe_4 20 rfl rfl)
abbrev cX0_isSafe : ByteArray := prog_1_method_79_code
def yX0_isSafe : MethodName := ⟨RX0, "isSafe", "(II)Z"⟩
def dkwX0_isSafe_6 : List UInt8 := [132, 4, 1, 167, 255, 238, 29, 172]
abbrev dktX0_isSafe_6 : List UInt8 := dkwX0_isSafe_6 ++ []
def dkwX0_isSafe_5 : List UInt8 := [132, 4, 1, 167, 255, 212, 3, 54, 4, 21, 4, 16, 16, 162, 0, 17, 42, 180, 0, 72, 21, 4, 3, 79]
abbrev dktX0_isSafe_5 : List UInt8 := dkwX0_isSafe_5 ++ dktX0_isSafe_6
def dkwX0_isSafe_4 : List UInt8 := [182, 0, 156, 198, 0, 13, 42, 21, 4, 182, 1, 209, 28, 163, 0, 7, 4, 167, 0, 4, 3, 126, 62]
abbrev dktX0_isSafe_4 : List UInt8 := dkwX0_isSafe_4 ++ dktX0_isSafe_5
def dkwX0_isSafe_3 : List UInt8 := [4, 62, 3, 54, 4, 21, 4, 42, 180, 0, 12, 185, 0, 91, 1, 0, 162, 0, 36, 29, 42, 21, 4]
abbrev dktX0_isSafe_3 : List UInt8 := dkwX0_isSafe_3 ++ dktX0_isSafe_4
def dkwX0_isSafe_2 : List UInt8 := [4, 160, 0, 14, 4, 42, 180, 0, 81, 29, 46, 120, 167, 0, 4, 3, 128, 79, 132, 3, 1, 167, 255, 210]
abbrev dktX0_isSafe_2 : List UInt8 := dkwX0_isSafe_2 ++ dktX0_isSafe_3
def dkwX0_isSafe_1 : List UInt8 := [42, 180, 1, 215, 162, 0, 44, 42, 180, 0, 72, 42, 180, 0, 78, 29, 46, 92, 46, 27, 29, 122, 4, 126]
abbrev dktX0_isSafe_1 : List UInt8 := dkwX0_isSafe_1 ++ dktX0_isSafe_2
def dkwX0_isSafe_0 : List UInt8 := [3, 62, 29, 16, 16, 162, 0, 16, 42, 180, 0, 72, 29, 3, 79, 132, 3, 1, 167, 255, 240, 3, 62, 29]
abbrev dktX0_isSafe_0 : List UInt8 := dkwX0_isSafe_0 ++ dktX0_isSafe_1
theorem dksX0_isSafe_0 : cX0_isSafe.data.toList.drop 0 = dktX0_isSafe_0 := by decide +kernel
theorem dksX0_isSafe_1 : cX0_isSafe.data.toList.drop 24 = dktX0_isSafe_1 := dk_seg dksX0_isSafe_0 24 rfl rfl
theorem dksX0_isSafe_2 : cX0_isSafe.data.toList.drop 48 = dktX0_isSafe_2 := dk_seg dksX0_isSafe_1 24 rfl rfl
theorem dksX0_isSafe_3 : cX0_isSafe.data.toList.drop 72 = dktX0_isSafe_3 := dk_seg dksX0_isSafe_2 24 rfl rfl
theorem dksX0_isSafe_4 : cX0_isSafe.data.toList.drop 95 = dktX0_isSafe_4 := dk_seg dksX0_isSafe_3 23 rfl rfl
theorem dksX0_isSafe_5 : cX0_isSafe.data.toList.drop 118 = dktX0_isSafe_5 := dk_seg dksX0_isSafe_4 23 rfl rfl
theorem dksX0_isSafe_6 : cX0_isSafe.data.toList.drop 142 = dktX0_isSafe_6 := dk_seg dksX0_isSafe_5 24 rfl rfl
theorem dX0_isSafe_0 : decode cX0_isSafe 0 = .ok (.iconst 0, 1) := dk_3 (dk_at dksX0_isSafe_0 0 rfl rfl)
theorem dX0_isSafe_1 : decode cX0_isSafe 1 = .ok (.istore_n 3, 1) := dk_62 (dk_at dksX0_isSafe_0 1 rfl rfl)
theorem dX0_isSafe_2 : decode cX0_isSafe 2 = .ok (.iload_n 3, 1) := dk_29 (dk_at dksX0_isSafe_0 2 rfl rfl)
theorem dX0_isSafe_3 : decode cX0_isSafe 3 = .ok (.bipush 16, 2) := dk_16 16 (dk_at dksX0_isSafe_0 3 rfl rfl)
theorem dX0_isSafe_5 : decode cX0_isSafe 5 = .ok (.if_icmp .ge 16, 3) := dk_162 0 16 (dk_at dksX0_isSafe_0 5 rfl rfl)
theorem dX0_isSafe_8 : decode cX0_isSafe 8 = .ok (.aload_n 0, 1) := dk_42 (dk_at dksX0_isSafe_0 8 rfl rfl)
theorem dX0_isSafe_9 : decode cX0_isSafe 9 = .ok (.getfield 72, 3) := dk_180 0 72 (dk_at dksX0_isSafe_0 9 rfl rfl)
theorem dX0_isSafe_12 : decode cX0_isSafe 12 = .ok (.iload_n 3, 1) := dk_29 (dk_at dksX0_isSafe_0 12 rfl rfl)
theorem dX0_isSafe_13 : decode cX0_isSafe 13 = .ok (.iconst 0, 1) := dk_3 (dk_at dksX0_isSafe_0 13 rfl rfl)
theorem dX0_isSafe_14 : decode cX0_isSafe 14 = .ok (.iastore, 1) := dk_79 (dk_at dksX0_isSafe_0 14 rfl rfl)
theorem dX0_isSafe_15 : decode cX0_isSafe 15 = .ok (.iinc 3 1, 3) := dk_132 3 1 (dk_at dksX0_isSafe_0 15 rfl rfl)
theorem dX0_isSafe_18 : decode cX0_isSafe 18 = .ok (.goto (-16), 3) := dk_167 255 240 (dk_at dksX0_isSafe_0 18 rfl rfl)
theorem dX0_isSafe_21 : decode cX0_isSafe 21 = .ok (.iconst 0, 1) := dk_3 (dk_at dksX0_isSafe_0 21 rfl rfl)
theorem dX0_isSafe_22 : decode cX0_isSafe 22 = .ok (.istore_n 3, 1) := dk_62 (dk_at dksX0_isSafe_0 22 rfl rfl)
theorem dX0_isSafe_23 : decode cX0_isSafe 23 = .ok (.iload_n 3, 1) := dk_29 (dk_at dksX0_isSafe_0 23 rfl rfl)
theorem dX0_isSafe_24 : decode cX0_isSafe 24 = .ok (.aload_n 0, 1) := dk_42 (dk_at dksX0_isSafe_1 0 rfl rfl)
theorem dX0_isSafe_25 : decode cX0_isSafe 25 = .ok (.getfield 471, 3) := dk_180 1 215 (dk_at dksX0_isSafe_1 1 rfl rfl)
theorem dX0_isSafe_28 : decode cX0_isSafe 28 = .ok (.if_icmp .ge 44, 3) := dk_162 0 44 (dk_at dksX0_isSafe_1 4 rfl rfl)
theorem dX0_isSafe_31 : decode cX0_isSafe 31 = .ok (.aload_n 0, 1) := dk_42 (dk_at dksX0_isSafe_1 7 rfl rfl)
theorem dX0_isSafe_32 : decode cX0_isSafe 32 = .ok (.getfield 72, 3) := dk_180 0 72 (dk_at dksX0_isSafe_1 8 rfl rfl)
theorem dX0_isSafe_35 : decode cX0_isSafe 35 = .ok (.aload_n 0, 1) := dk_42 (dk_at dksX0_isSafe_1 11 rfl rfl)
theorem dX0_isSafe_36 : decode cX0_isSafe 36 = .ok (.getfield 78, 3) := dk_180 0 78 (dk_at dksX0_isSafe_1 12 rfl rfl)
theorem dX0_isSafe_39 : decode cX0_isSafe 39 = .ok (.iload_n 3, 1) := dk_29 (dk_at dksX0_isSafe_1 15 rfl rfl)
theorem dX0_isSafe_40 : decode cX0_isSafe 40 = .ok (.iaload, 1) := dk_46 (dk_at dksX0_isSafe_1 16 rfl rfl)
theorem dX0_isSafe_41 : decode cX0_isSafe 41 = .ok (.dup2, 1) := dk_92 (dk_at dksX0_isSafe_1 17 rfl rfl)
theorem dX0_isSafe_42 : decode cX0_isSafe 42 = .ok (.iaload, 1) := dk_46 (dk_at dksX0_isSafe_1 18 rfl rfl)
theorem dX0_isSafe_43 : decode cX0_isSafe 43 = .ok (.iload_n 1, 1) := dk_27 (dk_at dksX0_isSafe_1 19 rfl rfl)
theorem dX0_isSafe_44 : decode cX0_isSafe 44 = .ok (.iload_n 3, 1) := dk_29 (dk_at dksX0_isSafe_1 20 rfl rfl)
theorem dX0_isSafe_45 : decode cX0_isSafe 45 = .ok (.ishr, 1) := dk_122 (dk_at dksX0_isSafe_1 21 rfl rfl)
theorem dX0_isSafe_46 : decode cX0_isSafe 46 = .ok (.iconst 1, 1) := dk_4 (dk_at dksX0_isSafe_1 22 rfl rfl)
theorem dX0_isSafe_47 : decode cX0_isSafe 47 = .ok (.iand, 1) := dk_126 (dk_at dksX0_isSafe_1 23 rfl rfl)
theorem dX0_isSafe_48 : decode cX0_isSafe 48 = .ok (.iconst 1, 1) := dk_4 (dk_at dksX0_isSafe_2 0 rfl rfl)
theorem dX0_isSafe_49 : decode cX0_isSafe 49 = .ok (.if_icmp .ne 14, 3) := dk_160 0 14 (dk_at dksX0_isSafe_2 1 rfl rfl)
theorem dX0_isSafe_52 : decode cX0_isSafe 52 = .ok (.iconst 1, 1) := dk_4 (dk_at dksX0_isSafe_2 4 rfl rfl)
theorem dX0_isSafe_53 : decode cX0_isSafe 53 = .ok (.aload_n 0, 1) := dk_42 (dk_at dksX0_isSafe_2 5 rfl rfl)
theorem dX0_isSafe_54 : decode cX0_isSafe 54 = .ok (.getfield 81, 3) := dk_180 0 81 (dk_at dksX0_isSafe_2 6 rfl rfl)
theorem dX0_isSafe_57 : decode cX0_isSafe 57 = .ok (.iload_n 3, 1) := dk_29 (dk_at dksX0_isSafe_2 9 rfl rfl)
theorem dX0_isSafe_58 : decode cX0_isSafe 58 = .ok (.iaload, 1) := dk_46 (dk_at dksX0_isSafe_2 10 rfl rfl)
theorem dX0_isSafe_59 : decode cX0_isSafe 59 = .ok (.ishl, 1) := dk_120 (dk_at dksX0_isSafe_2 11 rfl rfl)
theorem dX0_isSafe_60 : decode cX0_isSafe 60 = .ok (.goto 4, 3) := dk_167 0 4 (dk_at dksX0_isSafe_2 12 rfl rfl)
theorem dX0_isSafe_63 : decode cX0_isSafe 63 = .ok (.iconst 0, 1) := dk_3 (dk_at dksX0_isSafe_2 15 rfl rfl)
theorem dX0_isSafe_64 : decode cX0_isSafe 64 = .ok (.ior, 1) := dk_128 (dk_at dksX0_isSafe_2 16 rfl rfl)
theorem dX0_isSafe_65 : decode cX0_isSafe 65 = .ok (.iastore, 1) := dk_79 (dk_at dksX0_isSafe_2 17 rfl rfl)
theorem dX0_isSafe_66 : decode cX0_isSafe 66 = .ok (.iinc 3 1, 3) := dk_132 3 1 (dk_at dksX0_isSafe_2 18 rfl rfl)
theorem dX0_isSafe_69 : decode cX0_isSafe 69 = .ok (.goto (-46), 3) := dk_167 255 210 (dk_at dksX0_isSafe_2 21 rfl rfl)
theorem dX0_isSafe_72 : decode cX0_isSafe 72 = .ok (.iconst 1, 1) := dk_4 (dk_at dksX0_isSafe_3 0 rfl rfl)
theorem dX0_isSafe_73 : decode cX0_isSafe 73 = .ok (.istore_n 3, 1) := dk_62 (dk_at dksX0_isSafe_3 1 rfl rfl)
theorem dX0_isSafe_74 : decode cX0_isSafe 74 = .ok (.iconst 0, 1) := dk_3 (dk_at dksX0_isSafe_3 2 rfl rfl)
theorem dX0_isSafe_75 : decode cX0_isSafe 75 = .ok (.istore 4, 2) := dk_54 4 (dk_at dksX0_isSafe_3 3 rfl rfl)
theorem dX0_isSafe_77 : decode cX0_isSafe 77 = .ok (.iload 4, 2) := dk_21 4 (dk_at dksX0_isSafe_3 5 rfl rfl)
theorem dX0_isSafe_79 : decode cX0_isSafe 79 = .ok (.aload_n 0, 1) := dk_42 (dk_at dksX0_isSafe_3 7 rfl rfl)
theorem dX0_isSafe_80 : decode cX0_isSafe 80 = .ok (.getfield 12, 3) := dk_180 0 12 (dk_at dksX0_isSafe_3 8 rfl rfl)
theorem dX0_isSafe_83 : decode cX0_isSafe 83 = .ok (.invokeinterface 91 1, 5) := by decide +kernel
theorem dX0_isSafe_88 : decode cX0_isSafe 88 = .ok (.if_icmp .ge 36, 3) := dk_162 0 36 (dk_at dksX0_isSafe_3 16 rfl rfl)
theorem dX0_isSafe_91 : decode cX0_isSafe 91 = .ok (.iload_n 3, 1) := dk_29 (dk_at dksX0_isSafe_3 19 rfl rfl)
theorem dX0_isSafe_92 : decode cX0_isSafe 92 = .ok (.aload_n 0, 1) := dk_42 (dk_at dksX0_isSafe_3 20 rfl rfl)
theorem dX0_isSafe_93 : decode cX0_isSafe 93 = .ok (.iload 4, 2) := dk_21 4 (dk_at dksX0_isSafe_3 21 rfl rfl)
theorem dX0_isSafe_95 : decode cX0_isSafe 95 = .ok (.invokevirtual 156, 3) := dk_182 0 156 (dk_at dksX0_isSafe_4 0 rfl rfl)
theorem dX0_isSafe_98 : decode cX0_isSafe 98 = .ok (.ifnull 13, 3) := dk_198 0 13 (dk_at dksX0_isSafe_4 3 rfl rfl)
theorem dX0_isSafe_101 : decode cX0_isSafe 101 = .ok (.aload_n 0, 1) := dk_42 (dk_at dksX0_isSafe_4 6 rfl rfl)
theorem dX0_isSafe_102 : decode cX0_isSafe 102 = .ok (.iload 4, 2) := dk_21 4 (dk_at dksX0_isSafe_4 7 rfl rfl)
theorem dX0_isSafe_104 : decode cX0_isSafe 104 = .ok (.invokevirtual 465, 3) := dk_182 1 209 (dk_at dksX0_isSafe_4 9 rfl rfl)
theorem dX0_isSafe_107 : decode cX0_isSafe 107 = .ok (.iload_n 2, 1) := dk_28 (dk_at dksX0_isSafe_4 12 rfl rfl)
theorem dX0_isSafe_108 : decode cX0_isSafe 108 = .ok (.if_icmp .gt 7, 3) := dk_163 0 7 (dk_at dksX0_isSafe_4 13 rfl rfl)
theorem dX0_isSafe_111 : decode cX0_isSafe 111 = .ok (.iconst 1, 1) := dk_4 (dk_at dksX0_isSafe_4 16 rfl rfl)
theorem dX0_isSafe_112 : decode cX0_isSafe 112 = .ok (.goto 4, 3) := dk_167 0 4 (dk_at dksX0_isSafe_4 17 rfl rfl)
theorem dX0_isSafe_115 : decode cX0_isSafe 115 = .ok (.iconst 0, 1) := dk_3 (dk_at dksX0_isSafe_4 20 rfl rfl)
theorem dX0_isSafe_116 : decode cX0_isSafe 116 = .ok (.iand, 1) := dk_126 (dk_at dksX0_isSafe_4 21 rfl rfl)
theorem dX0_isSafe_117 : decode cX0_isSafe 117 = .ok (.istore_n 3, 1) := dk_62 (dk_at dksX0_isSafe_4 22 rfl rfl)
theorem dX0_isSafe_118 : decode cX0_isSafe 118 = .ok (.iinc 4 1, 3) := dk_132 4 1 (dk_at dksX0_isSafe_5 0 rfl rfl)
theorem dX0_isSafe_121 : decode cX0_isSafe 121 = .ok (.goto (-44), 3) := dk_167 255 212 (dk_at dksX0_isSafe_5 3 rfl rfl)
theorem dX0_isSafe_124 : decode cX0_isSafe 124 = .ok (.iconst 0, 1) := dk_3 (dk_at dksX0_isSafe_5 6 rfl rfl)
theorem dX0_isSafe_125 : decode cX0_isSafe 125 = .ok (.istore 4, 2) := dk_54 4 (dk_at dksX0_isSafe_5 7 rfl rfl)
theorem dX0_isSafe_127 : decode cX0_isSafe 127 = .ok (.iload 4, 2) := dk_21 4 (dk_at dksX0_isSafe_5 9 rfl rfl)
theorem dX0_isSafe_129 : decode cX0_isSafe 129 = .ok (.bipush 16, 2) := dk_16 16 (dk_at dksX0_isSafe_5 11 rfl rfl)
theorem dX0_isSafe_131 : decode cX0_isSafe 131 = .ok (.if_icmp .ge 17, 3) := dk_162 0 17 (dk_at dksX0_isSafe_5 13 rfl rfl)
theorem dX0_isSafe_134 : decode cX0_isSafe 134 = .ok (.aload_n 0, 1) := dk_42 (dk_at dksX0_isSafe_5 16 rfl rfl)
theorem dX0_isSafe_135 : decode cX0_isSafe 135 = .ok (.getfield 72, 3) := dk_180 0 72 (dk_at dksX0_isSafe_5 17 rfl rfl)
theorem dX0_isSafe_138 : decode cX0_isSafe 138 = .ok (.iload 4, 2) := dk_21 4 (dk_at dksX0_isSafe_5 20 rfl rfl)
theorem dX0_isSafe_140 : decode cX0_isSafe 140 = .ok (.iconst 0, 1) := dk_3 (dk_at dksX0_isSafe_5 22 rfl rfl)
theorem dX0_isSafe_141 : decode cX0_isSafe 141 = .ok (.iastore, 1) := dk_79 (dk_at dksX0_isSafe_5 23 rfl rfl)
theorem dX0_isSafe_142 : decode cX0_isSafe 142 = .ok (.iinc 4 1, 3) := dk_132 4 1 (dk_at dksX0_isSafe_6 0 rfl rfl)
theorem dX0_isSafe_145 : decode cX0_isSafe 145 = .ok (.goto (-18), 3) := dk_167 255 238 (dk_at dksX0_isSafe_6 3 rfl rfl)
theorem dX0_isSafe_148 : decode cX0_isSafe 148 = .ok (.iload_n 3, 1) := dk_29 (dk_at dksX0_isSafe_6 6 rfl rfl)
theorem dX0_isSafe_149 : decode cX0_isSafe 149 = .ok (.ireturn, 1) := dk_172 (dk_at dksX0_isSafe_6 7 rfl rfl)
abbrev cX0_thinks : ByteArray := prog_1_method_82_code
def yX0_thinks : MethodName := ⟨RX0, "thinks", "(III)I"⟩
def dkwX0_thinks_4 : List UInt8 := [42, 28, 29, 42, 180, 0, 21, 28, 46, 100, 182, 1, 228, 153, 0, 7, 4, 167, 0, 4, 3, 172]
abbrev dktX0_thinks_4 : List UInt8 := dkwX0_thinks_4 ++ []
def dkwX0_thinks_3 : List UInt8 := [16, 254, 172, 42, 27, 182, 0, 148, 42, 180, 0, 21, 28, 46, 18, 147, 160, 0, 8, 16, 252, 167, 0, 24]
abbrev dktX0_thinks_3 : List UInt8 := dkwX0_thinks_3 ++ dktX0_thinks_4
def dkwX0_thinks_2 : List UInt8 := [16, 244, 172, 27, 28, 159, 0, 21, 42, 27, 182, 0, 156, 180, 0, 160, 28, 122, 4, 126, 154, 0, 6]
abbrev dktX0_thinks_2 : List UInt8 := dkwX0_thinks_2 ++ dktX0_thinks_3
def dkwX0_thinks_1 : List UInt8 := [184, 0, 97, 154, 0, 5, 2, 172, 42, 27, 182, 0, 156, 198, 0, 11, 42, 28, 182, 0, 156, 199, 0, 6]
abbrev dktX0_thinks_1 : List UInt8 := dkwX0_thinks_1 ++ dktX0_thinks_2
def dkwX0_thinks_0 : List UInt8 := [42, 27, 182, 0, 143, 153, 0, 23, 42, 28, 182, 0, 143, 153, 0, 15, 29, 3, 42, 180, 0, 169]
abbrev dktX0_thinks_0 : List UInt8 := dkwX0_thinks_0 ++ dktX0_thinks_1
theorem dksX0_thinks_0 : cX0_thinks.data.toList.drop 0 = dktX0_thinks_0 := by decide +kernel
theorem dksX0_thinks_1 : cX0_thinks.data.toList.drop 22 = dktX0_thinks_1 := dk_seg dksX0_thinks_0 22 rfl rfl
theorem dksX0_thinks_2 : cX0_thinks.data.toList.drop 46 = dktX0_thinks_2 := dk_seg dksX0_thinks_1 24 rfl rfl
theorem dksX0_thinks_3 : cX0_thinks.data.toList.drop 69 = dktX0_thinks_3 := dk_seg dksX0_thinks_2 23 rfl rfl
theorem dksX0_thinks_4 : cX0_thinks.data.toList.drop 93 = dktX0_thinks_4 := dk_seg dksX0_thinks_3 24 rfl rfl
theorem dX0_thinks_0 : decode cX0_thinks 0 = .ok (.aload_n 0, 1) := dk_42 (dk_at dksX0_thinks_0 0 rfl rfl)
theorem dX0_thinks_1 : decode cX0_thinks 1 = .ok (.iload_n 1, 1) := dk_27 (dk_at dksX0_thinks_0 1 rfl rfl)
theorem dX0_thinks_2 : decode cX0_thinks 2 = .ok (.invokevirtual 143, 3) := dk_182 0 143 (dk_at dksX0_thinks_0 2 rfl rfl)
theorem dX0_thinks_5 : decode cX0_thinks 5 = .ok (.ifCond .eq 23, 3) := dk_153 0 23 (dk_at dksX0_thinks_0 5 rfl rfl)
theorem dX0_thinks_8 : decode cX0_thinks 8 = .ok (.aload_n 0, 1) := dk_42 (dk_at dksX0_thinks_0 8 rfl rfl)
theorem dX0_thinks_9 : decode cX0_thinks 9 = .ok (.iload_n 2, 1) := dk_28 (dk_at dksX0_thinks_0 9 rfl rfl)
theorem dX0_thinks_10 : decode cX0_thinks 10 = .ok (.invokevirtual 143, 3) := dk_182 0 143 (dk_at dksX0_thinks_0 10 rfl rfl)
theorem dX0_thinks_13 : decode cX0_thinks 13 = .ok (.ifCond .eq 15, 3) := dk_153 0 15 (dk_at dksX0_thinks_0 13 rfl rfl)
theorem dX0_thinks_16 : decode cX0_thinks 16 = .ok (.iload_n 3, 1) := dk_29 (dk_at dksX0_thinks_0 16 rfl rfl)
theorem dX0_thinks_17 : decode cX0_thinks 17 = .ok (.iconst 0, 1) := dk_3 (dk_at dksX0_thinks_0 17 rfl rfl)
theorem dX0_thinks_18 : decode cX0_thinks 18 = .ok (.aload_n 0, 1) := dk_42 (dk_at dksX0_thinks_0 18 rfl rfl)
theorem dX0_thinks_19 : decode cX0_thinks 19 = .ok (.getfield 169, 3) := dk_180 0 169 (dk_at dksX0_thinks_0 19 rfl rfl)
theorem dX0_thinks_22 : decode cX0_thinks 22 = .ok (.invokestatic 97, 3) := dk_184 0 97 (dk_at dksX0_thinks_1 0 rfl rfl)
theorem dX0_thinks_25 : decode cX0_thinks 25 = .ok (.ifCond .ne 5, 3) := dk_154 0 5 (dk_at dksX0_thinks_1 3 rfl rfl)
theorem dX0_thinks_28 : decode cX0_thinks 28 = .ok (.iconst (-1), 1) := dk_2 (dk_at dksX0_thinks_1 6 rfl rfl)
theorem dX0_thinks_29 : decode cX0_thinks 29 = .ok (.ireturn, 1) := dk_172 (dk_at dksX0_thinks_1 7 rfl rfl)
theorem dX0_thinks_30 : decode cX0_thinks 30 = .ok (.aload_n 0, 1) := dk_42 (dk_at dksX0_thinks_1 8 rfl rfl)
theorem dX0_thinks_31 : decode cX0_thinks 31 = .ok (.iload_n 1, 1) := dk_27 (dk_at dksX0_thinks_1 9 rfl rfl)
theorem dX0_thinks_32 : decode cX0_thinks 32 = .ok (.invokevirtual 156, 3) := dk_182 0 156 (dk_at dksX0_thinks_1 10 rfl rfl)
theorem dX0_thinks_35 : decode cX0_thinks 35 = .ok (.ifnull 11, 3) := dk_198 0 11 (dk_at dksX0_thinks_1 13 rfl rfl)
theorem dX0_thinks_38 : decode cX0_thinks 38 = .ok (.aload_n 0, 1) := dk_42 (dk_at dksX0_thinks_1 16 rfl rfl)
theorem dX0_thinks_39 : decode cX0_thinks 39 = .ok (.iload_n 2, 1) := dk_28 (dk_at dksX0_thinks_1 17 rfl rfl)
theorem dX0_thinks_40 : decode cX0_thinks 40 = .ok (.invokevirtual 156, 3) := dk_182 0 156 (dk_at dksX0_thinks_1 18 rfl rfl)
theorem dX0_thinks_43 : decode cX0_thinks 43 = .ok (.ifnonnull 6, 3) := dk_199 0 6 (dk_at dksX0_thinks_1 21 rfl rfl)
theorem dX0_thinks_46 : decode cX0_thinks 46 = .ok (.bipush (-12), 2) := dk_16 244 (dk_at dksX0_thinks_2 0 rfl rfl)
theorem dX0_thinks_48 : decode cX0_thinks 48 = .ok (.ireturn, 1) := dk_172 (dk_at dksX0_thinks_2 2 rfl rfl)
theorem dX0_thinks_49 : decode cX0_thinks 49 = .ok (.iload_n 1, 1) := dk_27 (dk_at dksX0_thinks_2 3 rfl rfl)
theorem dX0_thinks_50 : decode cX0_thinks 50 = .ok (.iload_n 2, 1) := dk_28 (dk_at dksX0_thinks_2 4 rfl rfl)
theorem dX0_thinks_51 : decode cX0_thinks 51 = .ok (.if_icmp .eq 21, 3) := dk_159 0 21 (dk_at dksX0_thinks_2 5 rfl rfl)
theorem dX0_thinks_54 : decode cX0_thinks 54 = .ok (.aload_n 0, 1) := dk_42 (dk_at dksX0_thinks_2 8 rfl rfl)
theorem dX0_thinks_55 : decode cX0_thinks 55 = .ok (.iload_n 1, 1) := dk_27 (dk_at dksX0_thinks_2 9 rfl rfl)
theorem dX0_thinks_56 : decode cX0_thinks 56 = .ok (.invokevirtual 156, 3) := dk_182 0 156 (dk_at dksX0_thinks_2 10 rfl rfl)
theorem dX0_thinks_59 : decode cX0_thinks 59 = .ok (.getfield 160, 3) := dk_180 0 160 (dk_at dksX0_thinks_2 13 rfl rfl)
theorem dX0_thinks_62 : decode cX0_thinks 62 = .ok (.iload_n 2, 1) := dk_28 (dk_at dksX0_thinks_2 16 rfl rfl)
theorem dX0_thinks_63 : decode cX0_thinks 63 = .ok (.ishr, 1) := dk_122 (dk_at dksX0_thinks_2 17 rfl rfl)
theorem dX0_thinks_64 : decode cX0_thinks 64 = .ok (.iconst 1, 1) := dk_4 (dk_at dksX0_thinks_2 18 rfl rfl)
theorem dX0_thinks_65 : decode cX0_thinks 65 = .ok (.iand, 1) := dk_126 (dk_at dksX0_thinks_2 19 rfl rfl)
theorem dX0_thinks_66 : decode cX0_thinks 66 = .ok (.ifCond .ne 6, 3) := dk_154 0 6 (dk_at dksX0_thinks_2 20 rfl rfl)
theorem dX0_thinks_69 : decode cX0_thinks 69 = .ok (.bipush (-2), 2) := dk_16 254 (dk_at dksX0_thinks_3 0 rfl rfl)
theorem dX0_thinks_71 : decode cX0_thinks 71 = .ok (.ireturn, 1) := dk_172 (dk_at dksX0_thinks_3 2 rfl rfl)
theorem dX0_thinks_72 : decode cX0_thinks 72 = .ok (.aload_n 0, 1) := dk_42 (dk_at dksX0_thinks_3 3 rfl rfl)
theorem dX0_thinks_73 : decode cX0_thinks 73 = .ok (.iload_n 1, 1) := dk_27 (dk_at dksX0_thinks_3 4 rfl rfl)
theorem dX0_thinks_74 : decode cX0_thinks 74 = .ok (.invokevirtual 148, 3) := dk_182 0 148 (dk_at dksX0_thinks_3 5 rfl rfl)
theorem dX0_thinks_77 : decode cX0_thinks 77 = .ok (.aload_n 0, 1) := dk_42 (dk_at dksX0_thinks_3 8 rfl rfl)
theorem dX0_thinks_78 : decode cX0_thinks 78 = .ok (.getfield 21, 3) := dk_180 0 21 (dk_at dksX0_thinks_3 9 rfl rfl)
theorem dX0_thinks_81 : decode cX0_thinks 81 = .ok (.iload_n 2, 1) := dk_28 (dk_at dksX0_thinks_3 12 rfl rfl)
theorem dX0_thinks_82 : decode cX0_thinks 82 = .ok (.iaload, 1) := dk_46 (dk_at dksX0_thinks_3 13 rfl rfl)
theorem dX0_thinks_83 : decode cX0_thinks 83 = .ok (.ldc 147, 2) := dk_18 147 (dk_at dksX0_thinks_3 14 rfl rfl)
theorem dX0_thinks_85 : decode cX0_thinks 85 = .ok (.if_icmp .ne 8, 3) := dk_160 0 8 (dk_at dksX0_thinks_3 16 rfl rfl)
theorem dX0_thinks_88 : decode cX0_thinks 88 = .ok (.bipush (-4), 2) := dk_16 252 (dk_at dksX0_thinks_3 19 rfl rfl)
theorem dX0_thinks_90 : decode cX0_thinks 90 = .ok (.goto 24, 3) := dk_167 0 24 (dk_at dksX0_thinks_3 21 rfl rfl)
theorem dX0_thinks_93 : decode cX0_thinks 93 = .ok (.aload_n 0, 1) := dk_42 (dk_at dksX0_thinks_4 0 rfl rfl)
theorem dX0_thinks_94 : decode cX0_thinks 94 = .ok (.iload_n 2, 1) := dk_28 (dk_at dksX0_thinks_4 1 rfl rfl)
theorem dX0_thinks_95 : decode cX0_thinks 95 = .ok (.iload_n 3, 1) := dk_29 (dk_at dksX0_thinks_4 2 rfl rfl)
theorem dX0_thinks_96 : decode cX0_thinks 96 = .ok (.aload_n 0, 1) := dk_42 (dk_at dksX0_thinks_4 3 rfl rfl)
theorem dX0_thinks_97 : decode cX0_thinks 97 = .ok (.getfield 21, 3) := dk_180 0 21 (dk_at dksX0_thinks_4 4 rfl rfl)
theorem dX0_thinks_100 : decode cX0_thinks 100 = .ok (.iload_n 2, 1) := dk_28 (dk_at dksX0_thinks_4 7 rfl rfl)
theorem dX0_thinks_101 : decode cX0_thinks 101 = .ok (.iaload, 1) := dk_46 (dk_at dksX0_thinks_4 8 rfl rfl)
theorem dX0_thinks_102 : decode cX0_thinks 102 = .ok (.isub, 1) := dk_100 (dk_at dksX0_thinks_4 9 rfl rfl)
theorem dX0_thinks_103 : decode cX0_thinks 103 = .ok (.invokevirtual 484, 3) := dk_182 1 228 (dk_at dksX0_thinks_4 10 rfl rfl)
theorem dX0_thinks_106 : decode cX0_thinks 106 = .ok (.ifCond .eq 7, 3) := dk_153 0 7 (dk_at dksX0_thinks_4 13 rfl rfl)
theorem dX0_thinks_109 : decode cX0_thinks 109 = .ok (.iconst 1, 1) := dk_4 (dk_at dksX0_thinks_4 16 rfl rfl)
theorem dX0_thinks_110 : decode cX0_thinks 110 = .ok (.goto 4, 3) := dk_167 0 4 (dk_at dksX0_thinks_4 17 rfl rfl)
theorem dX0_thinks_113 : decode cX0_thinks 113 = .ok (.iconst 0, 1) := dk_3 (dk_at dksX0_thinks_4 20 rfl rfl)
theorem dX0_thinks_114 : decode cX0_thinks 114 = .ok (.ireturn, 1) := dk_172 (dk_at dksX0_thinks_4 21 rfl rfl)
abbrev cX0_wasLit : ByteArray := prog_1_method_81_code
def yX0_wasLit : MethodName := ⟨RX0, "wasLit", "(II)Z"⟩
def dkwX0_wasLit_3 : List UInt8 := [172]
abbrev dktX0_wasLit_3 : List UInt8 := dkwX0_wasLit_3 ++ []
def dkwX0_wasLit_2 : List UInt8 := [180, 1, 224, 28, 163, 0, 11, 25, 5, 180, 1, 225, 167, 0, 4, 29, 62, 132, 4, 1, 167, 255, 195, 29]
abbrev dktX0_wasLit_2 : List UInt8 := dkwX0_wasLit_2 ++ dktX0_wasLit_3
def dkwX0_wasLit_1 : List UInt8 := [21, 4, 185, 0, 152, 2, 0, 192, 0, 167, 58, 5, 25, 5, 180, 1, 221, 27, 160, 0, 20, 25, 5]
abbrev dktX0_wasLit_1 : List UInt8 := dkwX0_wasLit_1 ++ dktX0_wasLit_2
def dkwX0_wasLit_0 : List UInt8 := [4, 62, 3, 54, 4, 21, 4, 42, 180, 0, 25, 185, 0, 91, 1, 0, 162, 0, 53, 42, 180, 0, 25]
abbrev dktX0_wasLit_0 : List UInt8 := dkwX0_wasLit_0 ++ dktX0_wasLit_1
theorem dksX0_wasLit_0 : cX0_wasLit.data.toList.drop 0 = dktX0_wasLit_0 := by decide +kernel
theorem dksX0_wasLit_1 : cX0_wasLit.data.toList.drop 23 = dktX0_wasLit_1 := dk_seg dksX0_wasLit_0 23 rfl rfl
theorem dksX0_wasLit_2 : cX0_wasLit.data.toList.drop 46 = dktX0_wasLit_2 := dk_seg dksX0_wasLit_1 23 rfl rfl
theorem dksX0_wasLit_3 : cX0_wasLit.data.toList.drop 70 = dktX0_wasLit_3 := dk_seg dksX0_wasLit_2 24 rfl rfl
theorem dX0_wasLit_0 : decode cX0_wasLit 0 = .ok (.iconst 1, 1) := dk_4 (dk_at dksX0_wasLit_0 0 rfl rfl)
theorem dX0_wasLit_1 : decode cX0_wasLit 1 = .ok (.istore_n 3, 1) := dk_62 (dk_at dksX0_wasLit_0 1 rfl rfl)
theorem dX0_wasLit_2 : decode cX0_wasLit 2 = .ok (.iconst 0, 1) := dk_3 (dk_at dksX0_wasLit_0 2 rfl rfl)
theorem dX0_wasLit_3 : decode cX0_wasLit 3 = .ok (.istore 4, 2) := dk_54 4 (dk_at dksX0_wasLit_0 3 rfl rfl)
theorem dX0_wasLit_5 : decode cX0_wasLit 5 = .ok (.iload 4, 2) := dk_21 4 (dk_at dksX0_wasLit_0 5 rfl rfl)
theorem dX0_wasLit_7 : decode cX0_wasLit 7 = .ok (.aload_n 0, 1) := dk_42 (dk_at dksX0_wasLit_0 7 rfl rfl)
theorem dX0_wasLit_8 : decode cX0_wasLit 8 = .ok (.getfield 25, 3) := dk_180 0 25 (dk_at dksX0_wasLit_0 8 rfl rfl)
theorem dX0_wasLit_11 : decode cX0_wasLit 11 = .ok (.invokeinterface 91 1, 5) := by decide +kernel
theorem dX0_wasLit_16 : decode cX0_wasLit 16 = .ok (.if_icmp .ge 53, 3) := dk_162 0 53 (dk_at dksX0_wasLit_0 16 rfl rfl)
theorem dX0_wasLit_19 : decode cX0_wasLit 19 = .ok (.aload_n 0, 1) := dk_42 (dk_at dksX0_wasLit_0 19 rfl rfl)
theorem dX0_wasLit_20 : decode cX0_wasLit 20 = .ok (.getfield 25, 3) := dk_180 0 25 (dk_at dksX0_wasLit_0 20 rfl rfl)
theorem dX0_wasLit_23 : decode cX0_wasLit 23 = .ok (.iload 4, 2) := dk_21 4 (dk_at dksX0_wasLit_1 0 rfl rfl)
theorem dX0_wasLit_25 : decode cX0_wasLit 25 = .ok (.invokeinterface 152 2, 5) := by decide +kernel
theorem dX0_wasLit_30 : decode cX0_wasLit 30 = .ok (.checkcast 167, 3) := dk_192 0 167 (dk_at dksX0_wasLit_1 7 rfl rfl)
theorem dX0_wasLit_33 : decode cX0_wasLit 33 = .ok (.astore 5, 2) := dk_58 5 (dk_at dksX0_wasLit_1 10 rfl rfl)
theorem dX0_wasLit_35 : decode cX0_wasLit 35 = .ok (.aload 5, 2) := dk_25 5 (dk_at dksX0_wasLit_1 12 rfl rfl)
theorem dX0_wasLit_37 : decode cX0_wasLit 37 = .ok (.getfield 477, 3) := dk_180 1 221 (dk_at dksX0_wasLit_1 14 rfl rfl)
theorem dX0_wasLit_40 : decode cX0_wasLit 40 = .ok (.iload_n 1, 1) := dk_27 (dk_at dksX0_wasLit_1 17 rfl rfl)
theorem dX0_wasLit_41 : decode cX0_wasLit 41 = .ok (.if_icmp .ne 20, 3) := dk_160 0 20 (dk_at dksX0_wasLit_1 18 rfl rfl)
theorem dX0_wasLit_44 : decode cX0_wasLit 44 = .ok (.aload 5, 2) := dk_25 5 (dk_at dksX0_wasLit_1 21 rfl rfl)
theorem dX0_wasLit_46 : decode cX0_wasLit 46 = .ok (.getfield 480, 3) := dk_180 1 224 (dk_at dksX0_wasLit_2 0 rfl rfl)
theorem dX0_wasLit_49 : decode cX0_wasLit 49 = .ok (.iload_n 2, 1) := dk_28 (dk_at dksX0_wasLit_2 3 rfl rfl)
theorem dX0_wasLit_50 : decode cX0_wasLit 50 = .ok (.if_icmp .gt 11, 3) := dk_163 0 11 (dk_at dksX0_wasLit_2 4 rfl rfl)
theorem dX0_wasLit_53 : decode cX0_wasLit 53 = .ok (.aload 5, 2) := dk_25 5 (dk_at dksX0_wasLit_2 7 rfl rfl)
theorem dX0_wasLit_55 : decode cX0_wasLit 55 = .ok (.getfield 481, 3) := dk_180 1 225 (dk_at dksX0_wasLit_2 9 rfl rfl)
theorem dX0_wasLit_58 : decode cX0_wasLit 58 = .ok (.goto 4, 3) := dk_167 0 4 (dk_at dksX0_wasLit_2 12 rfl rfl)
theorem dX0_wasLit_61 : decode cX0_wasLit 61 = .ok (.iload_n 3, 1) := dk_29 (dk_at dksX0_wasLit_2 15 rfl rfl)
theorem dX0_wasLit_62 : decode cX0_wasLit 62 = .ok (.istore_n 3, 1) := dk_62 (dk_at dksX0_wasLit_2 16 rfl rfl)
theorem dX0_wasLit_63 : decode cX0_wasLit 63 = .ok (.iinc 4 1, 3) := dk_132 4 1 (dk_at dksX0_wasLit_2 17 rfl rfl)
theorem dX0_wasLit_66 : decode cX0_wasLit 66 = .ok (.goto (-61), 3) := dk_167 255 195 (dk_at dksX0_wasLit_2 20 rfl rfl)
theorem dX0_wasLit_69 : decode cX0_wasLit 69 = .ok (.iload_n 3, 1) := dk_29 (dk_at dksX0_wasLit_2 23 rfl rfl)
theorem dX0_wasLit_70 : decode cX0_wasLit 70 = .ok (.ireturn, 1) := dk_172 (dk_at dksX0_wasLit_3 0 rfl rfl)
abbrev cX0_count : ByteArray := prog_1_method_83_code
def yX0_count : MethodName := ⟨RX0, "count", "(I)I"⟩
def dkwX0_count_7 : List UInt8 := [172, 42, 180, 0, 40, 185, 0, 91, 1, 0, 172, 42, 180, 0, 169, 172, 2, 172]
abbrev dktX0_count_7 : List UInt8 := dkwX0_count_7 ++ []
def dkwX0_count_6 : List UInt8 := [167, 255, 186, 28, 172, 42, 180, 0, 34, 185, 0, 91, 1, 0, 172, 42, 180, 0, 37, 185, 0, 91, 1, 0]
abbrev dktX0_count_6 : List UInt8 := dkwX0_count_6 ++ dktX0_count_7
def dkwX0_count_5 : List UInt8 := [185, 0, 152, 2, 0, 192, 0, 203, 180, 1, 32, 153, 0, 7, 4, 167, 0, 4, 3, 96, 61, 132, 3, 1]
abbrev dktX0_count_5 : List UInt8 := dkwX0_count_5 ++ dktX0_count_6
def dkwX0_count_4 : List UInt8 := [185, 0, 152, 2, 0, 192, 0, 203, 180, 0, 251, 153, 0, 29, 167, 0, 22, 42, 180, 0, 28, 29]
abbrev dktX0_count_4 : List UInt8 := dkwX0_count_4 ++ dktX0_count_5
def dkwX0_count_3 : List UInt8 := [180, 0, 28, 185, 0, 91, 1, 0, 162, 0, 63, 28, 27, 5, 160, 0, 25, 42, 180, 0, 28, 29]
abbrev dktX0_count_3 : List UInt8 := dkwX0_count_3 ++ dktX0_count_4
def dkwX0_count_2 : List UInt8 := [42, 180, 0, 12, 185, 0, 91, 1, 0, 172, 42, 180, 0, 28, 185, 0, 91, 1, 0, 172, 3, 62, 29, 42]
abbrev dktX0_count_2 : List UInt8 := dkwX0_count_2 ++ dktX0_count_3
def dkwX0_count_1 : List UInt8 := [170, 0, 0, 0, 177, 0, 0, 0, 0, 0, 0, 0, 7, 0, 0, 0, 45, 0, 0, 0, 55, 0, 0, 0, 65, 0, 0, 0, 65, 0, 0, 0, 142, 0, 0, 0, 152, 0, 0, 0, 162, 0, 0, 0, 172]
abbrev dktX0_count_1 : List UInt8 := dkwX0_count_1 ++ dktX0_count_2
def dkwX0_count_0 : List UInt8 := [3, 61, 27]
abbrev dktX0_count_0 : List UInt8 := dkwX0_count_0 ++ dktX0_count_1
theorem dksX0_count_0 : cX0_count.data.toList.drop 0 = dktX0_count_0 := by decide +kernel
theorem dksX0_count_1 : cX0_count.data.toList.drop 3 = dktX0_count_1 := dk_seg dksX0_count_0 3 rfl rfl
theorem dksX0_count_2 : cX0_count.data.toList.drop 48 = dktX0_count_2 := dk_seg dksX0_count_1 45 rfl rfl
theorem dksX0_count_3 : cX0_count.data.toList.drop 72 = dktX0_count_3 := dk_seg dksX0_count_2 24 rfl rfl
theorem dksX0_count_4 : cX0_count.data.toList.drop 94 = dktX0_count_4 := dk_seg dksX0_count_3 22 rfl rfl
theorem dksX0_count_5 : cX0_count.data.toList.drop 116 = dktX0_count_5 := dk_seg dksX0_count_4 22 rfl rfl
theorem dksX0_count_6 : cX0_count.data.toList.drop 140 = dktX0_count_6 := dk_seg dksX0_count_5 24 rfl rfl
theorem dksX0_count_7 : cX0_count.data.toList.drop 164 = dktX0_count_7 := dk_seg dksX0_count_6 24 rfl rfl
theorem dX0_count_0 : decode cX0_count 0 = .ok (.iconst 0, 1) := dk_3 (dk_at dksX0_count_0 0 rfl rfl)
theorem dX0_count_1 : decode cX0_count 1 = .ok (.istore_n 2, 1) := dk_61 (dk_at dksX0_count_0 1 rfl rfl)
theorem dX0_count_2 : decode cX0_count 2 = .ok (.iload_n 1, 1) := dk_27 (dk_at dksX0_count_0 2 rfl rfl)
theorem dX0_count_3 : decode cX0_count 3 = .ok (.tableswitch 177 0 7 #[45, 55, 65, 65, 142, 152, 162, 172], 45) := by decide +kernel
theorem dX0_count_48 : decode cX0_count 48 = .ok (.aload_n 0, 1) := dk_42 (dk_at dksX0_count_2 0 rfl rfl)
theorem dX0_count_49 : decode cX0_count 49 = .ok (.getfield 12, 3) := dk_180 0 12 (dk_at dksX0_count_2 1 rfl rfl)
theorem dX0_count_52 : decode cX0_count 52 = .ok (.invokeinterface 91 1, 5) := by decide +kernel
theorem dX0_count_57 : decode cX0_count 57 = .ok (.ireturn, 1) := dk_172 (dk_at dksX0_count_2 9 rfl rfl)
theorem dX0_count_58 : decode cX0_count 58 = .ok (.aload_n 0, 1) := dk_42 (dk_at dksX0_count_2 10 rfl rfl)
theorem dX0_count_59 : decode cX0_count 59 = .ok (.getfield 28, 3) := dk_180 0 28 (dk_at dksX0_count_2 11 rfl rfl)
theorem dX0_count_62 : decode cX0_count 62 = .ok (.invokeinterface 91 1, 5) := by decide +kernel
theorem dX0_count_67 : decode cX0_count 67 = .ok (.ireturn, 1) := dk_172 (dk_at dksX0_count_2 19 rfl rfl)
theorem dX0_count_68 : decode cX0_count 68 = .ok (.iconst 0, 1) := dk_3 (dk_at dksX0_count_2 20 rfl rfl)
theorem dX0_count_69 : decode cX0_count 69 = .ok (.istore_n 3, 1) := dk_62 (dk_at dksX0_count_2 21 rfl rfl)
theorem dX0_count_70 : decode cX0_count 70 = .ok (.iload_n 3, 1) := dk_29 (dk_at dksX0_count_2 22 rfl rfl)
theorem dX0_count_71 : decode cX0_count 71 = .ok (.aload_n 0, 1) := dk_42 (dk_at dksX0_count_2 23 rfl rfl)
theorem dX0_count_72 : decode cX0_count 72 = .ok (.getfield 28, 3) := dk_180 0 28 (dk_at dksX0_count_3 0 rfl rfl)
theorem dX0_count_75 : decode cX0_count 75 = .ok (.invokeinterface 91 1, 5) := by decide +kernel
theorem dX0_count_80 : decode cX0_count 80 = .ok (.if_icmp .ge 63, 3) := dk_162 0 63 (dk_at dksX0_count_3 8 rfl rfl)
theorem dX0_count_83 : decode cX0_count 83 = .ok (.iload_n 2, 1) := dk_28 (dk_at dksX0_count_3 11 rfl rfl)
theorem dX0_count_84 : decode cX0_count 84 = .ok (.iload_n 1, 1) := dk_27 (dk_at dksX0_count_3 12 rfl rfl)
theorem dX0_count_85 : decode cX0_count 85 = .ok (.iconst 2, 1) := dk_5 (dk_at dksX0_count_3 13 rfl rfl)
theorem dX0_count_86 : decode cX0_count 86 = .ok (.if_icmp .ne 25, 3) := dk_160 0 25 (dk_at dksX0_count_3 14 rfl rfl)
theorem dX0_count_89 : decode cX0_count 89 = .ok (.aload_n 0, 1) := dk_42 (dk_at dksX0_count_3 17 rfl rfl)
theorem dX0_count_90 : decode cX0_count 90 = .ok (.getfield 28, 3) := dk_180 0 28 (dk_at dksX0_count_3 18 rfl rfl)
theorem dX0_count_93 : decode cX0_count 93 = .ok (.iload_n 3, 1) := dk_29 (dk_at dksX0_count_3 21 rfl rfl)
theorem dX0_count_94 : decode cX0_count 94 = .ok (.invokeinterface 152 2, 5) := by decide +kernel
theorem dX0_count_99 : decode cX0_count 99 = .ok (.checkcast 203, 3) := dk_192 0 203 (dk_at dksX0_count_4 5 rfl rfl)
theorem dX0_count_102 : decode cX0_count 102 = .ok (.getfield 251, 3) := dk_180 0 251 (dk_at dksX0_count_4 8 rfl rfl)
theorem dX0_count_105 : decode cX0_count 105 = .ok (.ifCond .eq 29, 3) := dk_153 0 29 (dk_at dksX0_count_4 11 rfl rfl)
theorem dX0_count_108 : decode cX0_count 108 = .ok (.goto 22, 3) := dk_167 0 22 (dk_at dksX0_count_4 14 rfl rfl)
theorem dX0_count_111 : decode cX0_count 111 = .ok (.aload_n 0, 1) := dk_42 (dk_at dksX0_count_4 17 rfl rfl)
theorem dX0_count_112 : decode cX0_count 112 = .ok (.getfield 28, 3) := dk_180 0 28 (dk_at dksX0_count_4 18 rfl rfl)
theorem dX0_count_115 : decode cX0_count 115 = .ok (.iload_n 3, 1) := dk_29 (dk_at dksX0_count_4 21 rfl rfl)
theorem dX0_count_116 : decode cX0_count 116 = .ok (.invokeinterface 152 2, 5) := by decide +kernel
theorem dX0_count_121 : decode cX0_count 121 = .ok (.checkcast 203, 3) := dk_192 0 203 (dk_at dksX0_count_5 5 rfl rfl)
theorem dX0_count_124 : decode cX0_count 124 = .ok (.getfield 288, 3) := dk_180 1 32 (dk_at dksX0_count_5 8 rfl rfl)
theorem dX0_count_127 : decode cX0_count 127 = .ok (.ifCond .eq 7, 3) := dk_153 0 7 (dk_at dksX0_count_5 11 rfl rfl)
theorem dX0_count_130 : decode cX0_count 130 = .ok (.iconst 1, 1) := dk_4 (dk_at dksX0_count_5 14 rfl rfl)
theorem dX0_count_131 : decode cX0_count 131 = .ok (.goto 4, 3) := dk_167 0 4 (dk_at dksX0_count_5 15 rfl rfl)
theorem dX0_count_134 : decode cX0_count 134 = .ok (.iconst 0, 1) := dk_3 (dk_at dksX0_count_5 18 rfl rfl)
theorem dX0_count_135 : decode cX0_count 135 = .ok (.iadd, 1) := dk_96 (dk_at dksX0_count_5 19 rfl rfl)
theorem dX0_count_136 : decode cX0_count 136 = .ok (.istore_n 2, 1) := dk_61 (dk_at dksX0_count_5 20 rfl rfl)
theorem dX0_count_137 : decode cX0_count 137 = .ok (.iinc 3 1, 3) := dk_132 3 1 (dk_at dksX0_count_5 21 rfl rfl)
theorem dX0_count_140 : decode cX0_count 140 = .ok (.goto (-70), 3) := dk_167 255 186 (dk_at dksX0_count_6 0 rfl rfl)
theorem dX0_count_143 : decode cX0_count 143 = .ok (.iload_n 2, 1) := dk_28 (dk_at dksX0_count_6 3 rfl rfl)
theorem dX0_count_144 : decode cX0_count 144 = .ok (.ireturn, 1) := dk_172 (dk_at dksX0_count_6 4 rfl rfl)
theorem dX0_count_145 : decode cX0_count 145 = .ok (.aload_n 0, 1) := dk_42 (dk_at dksX0_count_6 5 rfl rfl)
theorem dX0_count_146 : decode cX0_count 146 = .ok (.getfield 34, 3) := dk_180 0 34 (dk_at dksX0_count_6 6 rfl rfl)
theorem dX0_count_149 : decode cX0_count 149 = .ok (.invokeinterface 91 1, 5) := by decide +kernel
theorem dX0_count_154 : decode cX0_count 154 = .ok (.ireturn, 1) := dk_172 (dk_at dksX0_count_6 14 rfl rfl)
theorem dX0_count_155 : decode cX0_count 155 = .ok (.aload_n 0, 1) := dk_42 (dk_at dksX0_count_6 15 rfl rfl)
theorem dX0_count_156 : decode cX0_count 156 = .ok (.getfield 37, 3) := dk_180 0 37 (dk_at dksX0_count_6 16 rfl rfl)
theorem dX0_count_159 : decode cX0_count 159 = .ok (.invokeinterface 91 1, 5) := by decide +kernel
theorem dX0_count_164 : decode cX0_count 164 = .ok (.ireturn, 1) := dk_172 (dk_at dksX0_count_7 0 rfl rfl)
theorem dX0_count_165 : decode cX0_count 165 = .ok (.aload_n 0, 1) := dk_42 (dk_at dksX0_count_7 1 rfl rfl)
theorem dX0_count_166 : decode cX0_count 166 = .ok (.getfield 40, 3) := dk_180 0 40 (dk_at dksX0_count_7 2 rfl rfl)
theorem dX0_count_169 : decode cX0_count 169 = .ok (.invokeinterface 91 1, 5) := by decide +kernel
theorem dX0_count_174 : decode cX0_count 174 = .ok (.ireturn, 1) := dk_172 (dk_at dksX0_count_7 10 rfl rfl)
theorem dX0_count_175 : decode cX0_count 175 = .ok (.aload_n 0, 1) := dk_42 (dk_at dksX0_count_7 11 rfl rfl)
theorem dX0_count_176 : decode cX0_count 176 = .ok (.getfield 169, 3) := dk_180 0 169 (dk_at dksX0_count_7 12 rfl rfl)
theorem dX0_count_179 : decode cX0_count 179 = .ok (.ireturn, 1) := dk_172 (dk_at dksX0_count_7 15 rfl rfl)
theorem dX0_count_180 : decode cX0_count 180 = .ok (.iconst (-1), 1) := dk_2 (dk_at dksX0_count_7 16 rfl rfl)
theorem dX0_count_181 : decode cX0_count 181 = .ok (.ireturn, 1) := dk_172 (dk_at dksX0_count_7 17 rfl rfl)
abbrev cX0_sheet : ByteArray := prog_1_method_86_code
def yX0_sheet : MethodName := ⟨RX0, "sheet", "(III)I"⟩
def dkwX0_sheet_2 : List UInt8 := [167, 0, 6, 29, 188, 10, 181, 0, 191, 167, 0, 8, 58, 4, 16, 242, 172, 29, 172]
abbrev dktX0_sheet_2 : List UInt8 := dkwX0_sheet_2 ++ []
def dkwX0_sheet_1 : List UInt8 := [180, 0, 86, 27, 50, 28, 154, 0, 9, 29, 188, 4, 167, 0, 17, 28, 4, 160, 0, 9, 29, 188, 9]
abbrev dktX0_sheet_1 : List UInt8 := dkwX0_sheet_1 ++ dktX0_sheet_2
def dkwX0_sheet_0 : List UInt8 := [27, 184, 0, 182, 153, 0, 16, 28, 184, 1, 231, 153, 0, 9, 29, 16, 50, 164, 0, 5, 2, 172, 42]
abbrev dktX0_sheet_0 : List UInt8 := dkwX0_sheet_0 ++ dktX0_sheet_1
theorem dksX0_sheet_0 : cX0_sheet.data.toList.drop 0 = dktX0_sheet_0 := by decide +kernel
theorem dksX0_sheet_1 : cX0_sheet.data.toList.drop 23 = dktX0_sheet_1 := dk_seg dksX0_sheet_0 23 rfl rfl
theorem dksX0_sheet_2 : cX0_sheet.data.toList.drop 46 = dktX0_sheet_2 := dk_seg dksX0_sheet_1 23 rfl rfl
theorem dX0_sheet_0 : decode cX0_sheet 0 = .ok (.iload_n 1, 1) := dk_27 (dk_at dksX0_sheet_0 0 rfl rfl)
theorem dX0_sheet_1 : decode cX0_sheet 1 = .ok (.invokestatic 182, 3) := dk_184 0 182 (dk_at dksX0_sheet_0 1 rfl rfl)
theorem dX0_sheet_4 : decode cX0_sheet 4 = .ok (.ifCond .eq 16, 3) := dk_153 0 16 (dk_at dksX0_sheet_0 4 rfl rfl)
theorem dX0_sheet_7 : decode cX0_sheet 7 = .ok (.iload_n 2, 1) := dk_28 (dk_at dksX0_sheet_0 7 rfl rfl)
theorem dX0_sheet_8 : decode cX0_sheet 8 = .ok (.invokestatic 487, 3) := dk_184 1 231 (dk_at dksX0_sheet_0 8 rfl rfl)
theorem dX0_sheet_11 : decode cX0_sheet 11 = .ok (.ifCond .eq 9, 3) := dk_153 0 9 (dk_at dksX0_sheet_0 11 rfl rfl)
theorem dX0_sheet_14 : decode cX0_sheet 14 = .ok (.iload_n 3, 1) := dk_29 (dk_at dksX0_sheet_0 14 rfl rfl)
theorem dX0_sheet_15 : decode cX0_sheet 15 = .ok (.bipush 50, 2) := dk_16 50 (dk_at dksX0_sheet_0 15 rfl rfl)
theorem dX0_sheet_17 : decode cX0_sheet 17 = .ok (.if_icmp .le 5, 3) := dk_164 0 5 (dk_at dksX0_sheet_0 17 rfl rfl)
theorem dX0_sheet_20 : decode cX0_sheet 20 = .ok (.iconst (-1), 1) := dk_2 (dk_at dksX0_sheet_0 20 rfl rfl)
theorem dX0_sheet_21 : decode cX0_sheet 21 = .ok (.ireturn, 1) := dk_172 (dk_at dksX0_sheet_0 21 rfl rfl)
theorem dX0_sheet_22 : decode cX0_sheet 22 = .ok (.aload_n 0, 1) := dk_42 (dk_at dksX0_sheet_0 22 rfl rfl)
theorem dX0_sheet_23 : decode cX0_sheet 23 = .ok (.getfield 86, 3) := dk_180 0 86 (dk_at dksX0_sheet_1 0 rfl rfl)
theorem dX0_sheet_26 : decode cX0_sheet 26 = .ok (.iload_n 1, 1) := dk_27 (dk_at dksX0_sheet_1 3 rfl rfl)
theorem dX0_sheet_27 : decode cX0_sheet 27 = .ok (.aaload, 1) := dk_50 (dk_at dksX0_sheet_1 4 rfl rfl)
theorem dX0_sheet_28 : decode cX0_sheet 28 = .ok (.iload_n 2, 1) := dk_28 (dk_at dksX0_sheet_1 5 rfl rfl)
theorem dX0_sheet_29 : decode cX0_sheet 29 = .ok (.ifCond .ne 9, 3) := dk_154 0 9 (dk_at dksX0_sheet_1 6 rfl rfl)
theorem dX0_sheet_32 : decode cX0_sheet 32 = .ok (.iload_n 3, 1) := dk_29 (dk_at dksX0_sheet_1 9 rfl rfl)
theorem dX0_sheet_33 : decode cX0_sheet 33 = .ok (.newarray .boolean, 2) := dk_188_4 (dk_at dksX0_sheet_1 10 rfl rfl)
theorem dX0_sheet_35 : decode cX0_sheet 35 = .ok (.goto 17, 3) := dk_167 0 17 (dk_at dksX0_sheet_1 12 rfl rfl)
theorem dX0_sheet_38 : decode cX0_sheet 38 = .ok (.iload_n 2, 1) := dk_28 (dk_at dksX0_sheet_1 15 rfl rfl)
theorem dX0_sheet_39 : decode cX0_sheet 39 = .ok (.iconst 1, 1) := dk_4 (dk_at dksX0_sheet_1 16 rfl rfl)
theorem dX0_sheet_40 : decode cX0_sheet 40 = .ok (.if_icmp .ne 9, 3) := dk_160 0 9 (dk_at dksX0_sheet_1 17 rfl rfl)
theorem dX0_sheet_43 : decode cX0_sheet 43 = .ok (.iload_n 3, 1) := dk_29 (dk_at dksX0_sheet_1 20 rfl rfl)
theorem dX0_sheet_44 : decode cX0_sheet 44 = .ok (.newarray .short, 2) := dk_188_9 (dk_at dksX0_sheet_1 21 rfl rfl)
theorem dX0_sheet_46 : decode cX0_sheet 46 = .ok (.goto 6, 3) := dk_167 0 6 (dk_at dksX0_sheet_2 0 rfl rfl)
theorem dX0_sheet_49 : decode cX0_sheet 49 = .ok (.iload_n 3, 1) := dk_29 (dk_at dksX0_sheet_2 3 rfl rfl)
theorem dX0_sheet_50 : decode cX0_sheet 50 = .ok (.newarray .int, 2) := dk_188_10 (dk_at dksX0_sheet_2 4 rfl rfl)
theorem dX0_sheet_52 : decode cX0_sheet 52 = .ok (.putfield 191, 3) := dk_181 0 191 (dk_at dksX0_sheet_2 6 rfl rfl)
theorem dX0_sheet_55 : decode cX0_sheet 55 = .ok (.goto 8, 3) := dk_167 0 8 (dk_at dksX0_sheet_2 9 rfl rfl)
theorem dX0_sheet_58 : decode cX0_sheet 58 = .ok (.astore 4, 2) := dk_58 4 (dk_at dksX0_sheet_2 12 rfl rfl)
theorem dX0_sheet_60 : decode cX0_sheet 60 = .ok (.bipush (-14), 2) := dk_16 242 (dk_at dksX0_sheet_2 14 rfl rfl)
theorem dX0_sheet_62 : decode cX0_sheet 62 = .ok (.ireturn, 1) := dk_172 (dk_at dksX0_sheet_2 16 rfl rfl)
theorem dX0_sheet_63 : decode cX0_sheet 63 = .ok (.iload_n 3, 1) := dk_29 (dk_at dksX0_sheet_2 17 rfl rfl)
theorem dX0_sheet_64 : decode cX0_sheet 64 = .ok (.ireturn, 1) := dk_172 (dk_at dksX0_sheet_2 18 rfl rfl)
abbrev cX0_isLane : ByteArray := prog_1_method_85_code
def yX0_isLane : MethodName := ⟨RX0, "isLane", "(I)Z"⟩
def dkwX0_isLane_0 : List UInt8 := [26, 3, 5, 184, 0, 97, 172]
abbrev dktX0_isLane_0 : List UInt8 := dkwX0_isLane_0 ++ []
theorem dksX0_isLane_0 : cX0_isLane.data.toList.drop 0 = dktX0_isLane_0 := by decide +kernel
theorem dX0_isLane_0 : decode cX0_isLane 0 = .ok (.iload_n 0, 1) := dk_26 (dk_at dksX0_isLane_0 0 rfl rfl)
theorem dX0_isLane_1 : decode cX0_isLane 1 = .ok (.iconst 0, 1) := dk_3 (dk_at dksX0_isLane_0 1 rfl rfl)
theorem dX0_isLane_2 : decode cX0_isLane 2 = .ok (.iconst 2, 1) := dk_5 (dk_at dksX0_isLane_0 2 rfl rfl)
theorem dX0_isLane_3 : decode cX0_isLane 3 = .ok (.invokestatic 97, 3) := dk_184 0 97 (dk_at dksX0_isLane_0 3 rfl rfl)
theorem dX0_isLane_6 : decode cX0_isLane 6 = .ok (.ireturn, 1) := dk_172 (dk_at dksX0_isLane_0 6 rfl rfl)
abbrev cX0_drop : ByteArray := prog_1_method_87_code
def yX0_drop : MethodName := ⟨RX0, "drop", "(I)I"⟩
def dkwX0_drop_1 : List UInt8 := [42, 180, 0, 86, 27, 50, 182, 1, 236, 61, 42, 180, 0, 86, 27, 50, 1, 181, 0, 191, 28, 172]
abbrev dktX0_drop_1 : List UInt8 := dkwX0_drop_1 ++ []
def dkwX0_drop_0 : List UInt8 := [27, 184, 0, 182, 154, 0, 5, 2, 172, 42, 180, 0, 86, 27, 50, 180, 0, 191, 199, 0, 6, 16, 245, 172]
abbrev dktX0_drop_0 : List UInt8 := dkwX0_drop_0 ++ dktX0_drop_1
theorem dksX0_drop_0 : cX0_drop.data.toList.drop 0 = dktX0_drop_0 := by decide +kernel
theorem dksX0_drop_1 : cX0_drop.data.toList.drop 24 = dktX0_drop_1 := dk_seg dksX0_drop_0 24 rfl rfl
theorem dX0_drop_0 : decode cX0_drop 0 = .ok (.iload_n 1, 1) := dk_27 (dk_at dksX0_drop_0 0 rfl rfl)
theorem dX0_drop_1 : decode cX0_drop 1 = .ok (.invokestatic 182, 3) := dk_184 0 182 (dk_at dksX0_drop_0 1 rfl rfl)
theorem dX0_drop_4 : decode cX0_drop 4 = .ok (.ifCond .ne 5, 3) := dk_154 0 5 (dk_at dksX0_drop_0 4 rfl rfl)
theorem dX0_drop_7 : decode cX0_drop 7 = .ok (.iconst (-1), 1) := dk_2 (dk_at dksX0_drop_0 7 rfl rfl)
theorem dX0_drop_8 : decode cX0_drop 8 = .ok (.ireturn, 1) := dk_172 (dk_at dksX0_drop_0 8 rfl rfl)
theorem dX0_drop_9 : decode cX0_drop 9 = .ok (.aload_n 0, 1) := dk_42 (dk_at dksX0_drop_0 9 rfl rfl)
theorem dX0_drop_10 : decode cX0_drop 10 = .ok (.getfield 86, 3) := dk_180 0 86 (dk_at dksX0_drop_0 10 rfl rfl)
theorem dX0_drop_13 : decode cX0_drop 13 = .ok (.iload_n 1, 1) := dk_27 (dk_at dksX0_drop_0 13 rfl rfl)
theorem dX0_drop_14 : decode cX0_drop 14 = .ok (.aaload, 1) := dk_50 (dk_at dksX0_drop_0 14 rfl rfl)
theorem dX0_drop_15 : decode cX0_drop 15 = .ok (.getfield 191, 3) := dk_180 0 191 (dk_at dksX0_drop_0 15 rfl rfl)
theorem dX0_drop_18 : decode cX0_drop 18 = .ok (.ifnonnull 6, 3) := dk_199 0 6 (dk_at dksX0_drop_0 18 rfl rfl)
theorem dX0_drop_21 : decode cX0_drop 21 = .ok (.bipush (-11), 2) := dk_16 245 (dk_at dksX0_drop_0 21 rfl rfl)
theorem dX0_drop_23 : decode cX0_drop 23 = .ok (.ireturn, 1) := dk_172 (dk_at dksX0_drop_0 23 rfl rfl)
theorem dX0_drop_24 : decode cX0_drop 24 = .ok (.aload_n 0, 1) := dk_42 (dk_at dksX0_drop_1 0 rfl rfl)
theorem dX0_drop_25 : decode cX0_drop 25 = .ok (.getfield 86, 3) := dk_180 0 86 (dk_at dksX0_drop_1 1 rfl rfl)
theorem dX0_drop_28 : decode cX0_drop 28 = .ok (.iload_n 1, 1) := dk_27 (dk_at dksX0_drop_1 4 rfl rfl)
theorem dX0_drop_29 : decode cX0_drop 29 = .ok (.aaload, 1) := dk_50 (dk_at dksX0_drop_1 5 rfl rfl)
theorem dX0_drop_30 : decode cX0_drop 30 = .ok (.invokevirtual 492, 3) := dk_182 1 236 (dk_at dksX0_drop_1 6 rfl rfl)
theorem dX0_drop_33 : decode cX0_drop 33 = .ok (.istore_n 2, 1) := dk_61 (dk_at dksX0_drop_1 9 rfl rfl)
theorem dX0_drop_34 : decode cX0_drop 34 = .ok (.aload_n 0, 1) := dk_42 (dk_at dksX0_drop_1 10 rfl rfl)
theorem dX0_drop_35 : decode cX0_drop 35 = .ok (.getfield 86, 3) := dk_180 0 86 (dk_at dksX0_drop_1 11 rfl rfl)
theorem dX0_drop_38 : decode cX0_drop 38 = .ok (.iload_n 1, 1) := dk_27 (dk_at dksX0_drop_1 14 rfl rfl)
theorem dX0_drop_39 : decode cX0_drop 39 = .ok (.aaload, 1) := dk_50 (dk_at dksX0_drop_1 15 rfl rfl)
theorem dX0_drop_40 : decode cX0_drop 40 = .ok (.aconst_null, 1) := dk_1 (dk_at dksX0_drop_1 16 rfl rfl)
theorem dX0_drop_41 : decode cX0_drop 41 = .ok (.putfield 191, 3) := dk_181 0 191 (dk_at dksX0_drop_1 17 rfl rfl)
theorem dX0_drop_44 : decode cX0_drop 44 = .ok (.iload_n 2, 1) := dk_28 (dk_at dksX0_drop_1 20 rfl rfl)
theorem dX0_drop_45 : decode cX0_drop 45 = .ok (.ireturn, 1) := dk_172 (dk_at dksX0_drop_1 21 rfl rfl)
abbrev cX0_item : ByteArray := prog_1_method_88_code
def yX0_item : MethodName := ⟨RX0, "item", "(IIII)I"⟩
def dkwX0_item_5 : List UInt8 := [58, 5, 16, 244, 172, 58, 5, 16, 243, 172, 4, 172]
abbrev dktX0_item_5 : List UInt8 := dkwX0_item_5 ++ []
def dkwX0_item_4 : List UInt8 := [180, 0, 86, 27, 50, 180, 0, 191, 192, 1, 239, 29, 21, 4, 79, 167, 0, 18, 58, 5, 16, 245, 172]
abbrev dktX0_item_4 : List UInt8 := dkwX0_item_4 ++ dktX0_item_5
def dkwX0_item_3 : List UInt8 := [167, 0, 39, 42, 180, 0, 86, 27, 50, 180, 0, 191, 192, 1, 237, 29, 21, 4, 147, 86, 167, 0, 19, 42]
abbrev dktX0_item_3 : List UInt8 := dkwX0_item_3 ++ dktX0_item_4
def dkwX0_item_2 : List UInt8 := [42, 180, 0, 86, 27, 50, 180, 0, 191, 192, 0, 195, 29, 21, 4, 153, 0, 7, 4, 167, 0, 4, 3, 84]
abbrev dktX0_item_2 : List UInt8 := dkwX0_item_2 ++ dktX0_item_3
def dkwX0_item_1 : List UInt8 := [171, 0, 0, 0, 0, 0, 74, 0, 0, 0, 2, 0, 0, 0, 0, 0, 0, 0, 27, 0, 0, 0, 1, 0, 0, 0, 54]
abbrev dktX0_item_1 : List UInt8 := dkwX0_item_1 ++ dktX0_item_2
def dkwX0_item_0 : List UInt8 := [27, 184, 0, 182, 153, 0, 10, 28, 184, 1, 231, 154, 0, 5, 2, 172, 28]
abbrev dktX0_item_0 : List UInt8 := dkwX0_item_0 ++ dktX0_item_1
theorem dksX0_item_0 : cX0_item.data.toList.drop 0 = dktX0_item_0 := by decide +kernel
theorem dksX0_item_1 : cX0_item.data.toList.drop 17 = dktX0_item_1 := dk_seg dksX0_item_0 17 rfl rfl
theorem dksX0_item_2 : cX0_item.data.toList.drop 44 = dktX0_item_2 := dk_seg dksX0_item_1 27 rfl rfl
theorem dksX0_item_3 : cX0_item.data.toList.drop 68 = dktX0_item_3 := dk_seg dksX0_item_2 24 rfl rfl
theorem dksX0_item_4 : cX0_item.data.toList.drop 92 = dktX0_item_4 := dk_seg dksX0_item_3 24 rfl rfl
theorem dksX0_item_5 : cX0_item.data.toList.drop 115 = dktX0_item_5 := dk_seg dksX0_item_4 23 rfl rfl
theorem dX0_item_0 : decode cX0_item 0 = .ok (.iload_n 1, 1) := dk_27 (dk_at dksX0_item_0 0 rfl rfl)
theorem dX0_item_1 : decode cX0_item 1 = .ok (.invokestatic 182, 3) := dk_184 0 182 (dk_at dksX0_item_0 1 rfl rfl)
theorem dX0_item_4 : decode cX0_item 4 = .ok (.ifCond .eq 10, 3) := dk_153 0 10 (dk_at dksX0_item_0 4 rfl rfl)
theorem dX0_item_7 : decode cX0_item 7 = .ok (.iload_n 2, 1) := dk_28 (dk_at dksX0_item_0 7 rfl rfl)
theorem dX0_item_8 : decode cX0_item 8 = .ok (.invokestatic 487, 3) := dk_184 1 231 (dk_at dksX0_item_0 8 rfl rfl)
theorem dX0_item_11 : decode cX0_item 11 = .ok (.ifCond .ne 5, 3) := dk_154 0 5 (dk_at dksX0_item_0 11 rfl rfl)
theorem dX0_item_14 : decode cX0_item 14 = .ok (.iconst (-1), 1) := dk_2 (dk_at dksX0_item_0 14 rfl rfl)
theorem dX0_item_15 : decode cX0_item 15 = .ok (.ireturn, 1) := dk_172 (dk_at dksX0_item_0 15 rfl rfl)
theorem dX0_item_16 : decode cX0_item 16 = .ok (.iload_n 2, 1) := dk_28 (dk_at dksX0_item_0 16 rfl rfl)
theorem dX0_item_17 : decode cX0_item 17 = .ok (.lookupswitch 74 #[(0, 27), (1, 54)], 27) := by decide +kernel
theorem dX0_item_44 : decode cX0_item 44 = .ok (.aload_n 0, 1) := dk_42 (dk_at dksX0_item_2 0 rfl rfl)
theorem dX0_item_45 : decode cX0_item 45 = .ok (.getfield 86, 3) := dk_180 0 86 (dk_at dksX0_item_2 1 rfl rfl)
theorem dX0_item_48 : decode cX0_item 48 = .ok (.iload_n 1, 1) := dk_27 (dk_at dksX0_item_2 4 rfl rfl)
theorem dX0_item_49 : decode cX0_item 49 = .ok (.aaload, 1) := dk_50 (dk_at dksX0_item_2 5 rfl rfl)
theorem dX0_item_50 : decode cX0_item 50 = .ok (.getfield 191, 3) := dk_180 0 191 (dk_at dksX0_item_2 6 rfl rfl)
theorem dX0_item_53 : decode cX0_item 53 = .ok (.checkcast 195, 3) := dk_192 0 195 (dk_at dksX0_item_2 9 rfl rfl)
theorem dX0_item_56 : decode cX0_item 56 = .ok (.iload_n 3, 1) := dk_29 (dk_at dksX0_item_2 12 rfl rfl)
theorem dX0_item_57 : decode cX0_item 57 = .ok (.iload 4, 2) := dk_21 4 (dk_at dksX0_item_2 13 rfl rfl)
theorem dX0_item_59 : decode cX0_item 59 = .ok (.ifCond .eq 7, 3) := dk_153 0 7 (dk_at dksX0_item_2 15 rfl rfl)
theorem dX0_item_62 : decode cX0_item 62 = .ok (.iconst 1, 1) := dk_4 (dk_at dksX0_item_2 18 rfl rfl)
theorem dX0_item_63 : decode cX0_item 63 = .ok (.goto 4, 3) := dk_167 0 4 (dk_at dksX0_item_2 19 rfl rfl)
theorem dX0_item_66 : decode cX0_item 66 = .ok (.iconst 0, 1) := dk_3 (dk_at dksX0_item_2 22 rfl rfl)
theorem dX0_item_67 : decode cX0_item 67 = .ok (.bastore, 1) := dk_84 (dk_at dksX0_item_2 23 rfl rfl)
theorem dX0_item_68 : decode cX0_item 68 = .ok (.goto 39, 3) := dk_167 0 39 (dk_at dksX0_item_3 0 rfl rfl)
theorem dX0_item_71 : decode cX0_item 71 = .ok (.aload_n 0, 1) := dk_42 (dk_at dksX0_item_3 3 rfl rfl)
theorem dX0_item_72 : decode cX0_item 72 = .ok (.getfield 86, 3) := dk_180 0 86 (dk_at dksX0_item_3 4 rfl rfl)
theorem dX0_item_75 : decode cX0_item 75 = .ok (.iload_n 1, 1) := dk_27 (dk_at dksX0_item_3 7 rfl rfl)
theorem dX0_item_76 : decode cX0_item 76 = .ok (.aaload, 1) := dk_50 (dk_at dksX0_item_3 8 rfl rfl)
theorem dX0_item_77 : decode cX0_item 77 = .ok (.getfield 191, 3) := dk_180 0 191 (dk_at dksX0_item_3 9 rfl rfl)
theorem dX0_item_80 : decode cX0_item 80 = .ok (.checkcast 493, 3) := dk_192 1 237 (dk_at dksX0_item_3 12 rfl rfl)
theorem dX0_item_83 : decode cX0_item 83 = .ok (.iload_n 3, 1) := dk_29 (dk_at dksX0_item_3 15 rfl rfl)
theorem dX0_item_84 : decode cX0_item 84 = .ok (.iload 4, 2) := dk_21 4 (dk_at dksX0_item_3 16 rfl rfl)
theorem dX0_item_86 : decode cX0_item 86 = .ok (.i2s, 1) := dk_147 (dk_at dksX0_item_3 18 rfl rfl)
theorem dX0_item_87 : decode cX0_item 87 = .ok (.sastore, 1) := dk_86 (dk_at dksX0_item_3 19 rfl rfl)
theorem dX0_item_88 : decode cX0_item 88 = .ok (.goto 19, 3) := dk_167 0 19 (dk_at dksX0_item_3 20 rfl rfl)
theorem dX0_item_91 : decode cX0_item 91 = .ok (.aload_n 0, 1) := dk_42 (dk_at dksX0_item_3 23 rfl rfl)
theorem dX0_item_92 : decode cX0_item 92 = .ok (.getfield 86, 3) := dk_180 0 86 (dk_at dksX0_item_4 0 rfl rfl)
theorem dX0_item_95 : decode cX0_item 95 = .ok (.iload_n 1, 1) := dk_27 (dk_at dksX0_item_4 3 rfl rfl)
theorem dX0_item_96 : decode cX0_item 96 = .ok (.aaload, 1) := dk_50 (dk_at dksX0_item_4 4 rfl rfl)
theorem dX0_item_97 : decode cX0_item 97 = .ok (.getfield 191, 3) := dk_180 0 191 (dk_at dksX0_item_4 5 rfl rfl)
theorem dX0_item_100 : decode cX0_item 100 = .ok (.checkcast 495, 3) := dk_192 1 239 (dk_at dksX0_item_4 8 rfl rfl)
theorem dX0_item_103 : decode cX0_item 103 = .ok (.iload_n 3, 1) := dk_29 (dk_at dksX0_item_4 11 rfl rfl)
theorem dX0_item_104 : decode cX0_item 104 = .ok (.iload 4, 2) := dk_21 4 (dk_at dksX0_item_4 12 rfl rfl)
theorem dX0_item_106 : decode cX0_item 106 = .ok (.iastore, 1) := dk_79 (dk_at dksX0_item_4 14 rfl rfl)
theorem dX0_item_107 : decode cX0_item 107 = .ok (.goto 18, 3) := dk_167 0 18 (dk_at dksX0_item_4 15 rfl rfl)
theorem dX0_item_110 : decode cX0_item 110 = .ok (.astore 5, 2) := dk_58 5 (dk_at dksX0_item_4 18 rfl rfl)
theorem dX0_item_112 : decode cX0_item 112 = .ok (.bipush (-11), 2) := dk_16 245 (dk_at dksX0_item_4 20 rfl rfl)
theorem dX0_item_114 : decode cX0_item 114 = .ok (.ireturn, 1) := dk_172 (dk_at dksX0_item_4 22 rfl rfl)
theorem dX0_item_115 : decode cX0_item 115 = .ok (.astore 5, 2) := dk_58 5 (dk_at dksX0_item_5 0 rfl rfl)
theorem dX0_item_117 : decode cX0_item 117 = .ok (.bipush (-12), 2) := dk_16 244 (dk_at dksX0_item_5 2 rfl rfl)
theorem dX0_item_119 : decode cX0_item 119 = .ok (.ireturn, 1) := dk_172 (dk_at dksX0_item_5 4 rfl rfl)
theorem dX0_item_120 : decode cX0_item 120 = .ok (.astore 5, 2) := dk_58 5 (dk_at dksX0_item_5 5 rfl rfl)
theorem dX0_item_122 : decode cX0_item 122 = .ok (.bipush (-13), 2) := dk_16 243 (dk_at dksX0_item_5 7 rfl rfl)
theorem dX0_item_124 : decode cX0_item 124 = .ok (.ireturn, 1) := dk_172 (dk_at dksX0_item_5 9 rfl rfl)
theorem dX0_item_125 : decode cX0_item 125 = .ok (.iconst 1, 1) := dk_4 (dk_at dksX0_item_5 10 rfl rfl)
theorem dX0_item_126 : decode cX0_item 126 = .ok (.ireturn, 1) := dk_172 (dk_at dksX0_item_5 11 rfl rfl)
abbrev cX0_copy : ByteArray := prog_1_method_89_code
def yX0_copy : MethodName := ⟨RX0, "copy", "(IIIII)I"⟩
def dkwX0_copy_2 : List UInt8 := [58, 6, 16, 245, 172, 58, 6, 16, 244, 172, 58, 6, 16, 243, 172, 21, 5, 172]
abbrev dktX0_copy_2 : List UInt8 := dkwX0_copy_2 ++ []
def dkwX0_copy_1 : List UInt8 := [180, 0, 191, 28, 42, 180, 0, 86, 29, 50, 180, 0, 191, 21, 4, 21, 5, 184, 1, 246, 167, 0, 18]
abbrev dktX0_copy_1 : List UInt8 := dkwX0_copy_1 ++ dktX0_copy_2
def dkwX0_copy_0 : List UInt8 := [27, 184, 0, 182, 153, 0, 10, 29, 184, 0, 182, 154, 0, 5, 2, 172, 42, 180, 0, 86, 27, 50]
abbrev dktX0_copy_0 : List UInt8 := dkwX0_copy_0 ++ dktX0_copy_1
theorem dksX0_copy_0 : cX0_copy.data.toList.drop 0 = dktX0_copy_0 := by decide +kernel
theorem dksX0_copy_1 : cX0_copy.data.toList.drop 22 = dktX0_copy_1 := dk_seg dksX0_copy_0 22 rfl rfl
theorem dksX0_copy_2 : cX0_copy.data.toList.drop 45 = dktX0_copy_2 := dk_seg dksX0_copy_1 23 rfl rfl
theorem dX0_copy_0 : decode cX0_copy 0 = .ok (.iload_n 1, 1) := dk_27 (dk_at dksX0_copy_0 0 rfl rfl)
theorem dX0_copy_1 : decode cX0_copy 1 = .ok (.invokestatic 182, 3) := dk_184 0 182 (dk_at dksX0_copy_0 1 rfl rfl)
theorem dX0_copy_4 : decode cX0_copy 4 = .ok (.ifCond .eq 10, 3) := dk_153 0 10 (dk_at dksX0_copy_0 4 rfl rfl)
theorem dX0_copy_7 : decode cX0_copy 7 = .ok (.iload_n 3, 1) := dk_29 (dk_at dksX0_copy_0 7 rfl rfl)
theorem dX0_copy_8 : decode cX0_copy 8 = .ok (.invokestatic 182, 3) := dk_184 0 182 (dk_at dksX0_copy_0 8 rfl rfl)
theorem dX0_copy_11 : decode cX0_copy 11 = .ok (.ifCond .ne 5, 3) := dk_154 0 5 (dk_at dksX0_copy_0 11 rfl rfl)
theorem dX0_copy_14 : decode cX0_copy 14 = .ok (.iconst (-1), 1) := dk_2 (dk_at dksX0_copy_0 14 rfl rfl)
theorem dX0_copy_15 : decode cX0_copy 15 = .ok (.ireturn, 1) := dk_172 (dk_at dksX0_copy_0 15 rfl rfl)
theorem dX0_copy_16 : decode cX0_copy 16 = .ok (.aload_n 0, 1) := dk_42 (dk_at dksX0_copy_0 16 rfl rfl)
theorem dX0_copy_17 : decode cX0_copy 17 = .ok (.getfield 86, 3) := dk_180 0 86 (dk_at dksX0_copy_0 17 rfl rfl)
theorem dX0_copy_20 : decode cX0_copy 20 = .ok (.iload_n 1, 1) := dk_27 (dk_at dksX0_copy_0 20 rfl rfl)
theorem dX0_copy_21 : decode cX0_copy 21 = .ok (.aaload, 1) := dk_50 (dk_at dksX0_copy_0 21 rfl rfl)
theorem dX0_copy_22 : decode cX0_copy 22 = .ok (.getfield 191, 3) := dk_180 0 191 (dk_at dksX0_copy_1 0 rfl rfl)
theorem dX0_copy_25 : decode cX0_copy 25 = .ok (.iload_n 2, 1) := dk_28 (dk_at dksX0_copy_1 3 rfl rfl)
theorem dX0_copy_26 : decode cX0_copy 26 = .ok (.aload_n 0, 1) := dk_42 (dk_at dksX0_copy_1 4 rfl rfl)
theorem dX0_copy_27 : decode cX0_copy 27 = .ok (.getfield 86, 3) := dk_180 0 86 (dk_at dksX0_copy_1 5 rfl rfl)
theorem dX0_copy_30 : decode cX0_copy 30 = .ok (.iload_n 3, 1) := dk_29 (dk_at dksX0_copy_1 8 rfl rfl)
theorem dX0_copy_31 : decode cX0_copy 31 = .ok (.aaload, 1) := dk_50 (dk_at dksX0_copy_1 9 rfl rfl)
theorem dX0_copy_32 : decode cX0_copy 32 = .ok (.getfield 191, 3) := dk_180 0 191 (dk_at dksX0_copy_1 10 rfl rfl)
theorem dX0_copy_35 : decode cX0_copy 35 = .ok (.iload 4, 2) := dk_21 4 (dk_at dksX0_copy_1 13 rfl rfl)
theorem dX0_copy_37 : decode cX0_copy 37 = .ok (.iload 5, 2) := dk_21 5 (dk_at dksX0_copy_1 15 rfl rfl)
theorem dX0_copy_39 : decode cX0_copy 39 = .ok (.invokestatic 502, 3) := dk_184 1 246 (dk_at dksX0_copy_1 17 rfl rfl)
theorem dX0_copy_42 : decode cX0_copy 42 = .ok (.goto 18, 3) := dk_167 0 18 (dk_at dksX0_copy_1 20 rfl rfl)
theorem dX0_copy_45 : decode cX0_copy 45 = .ok (.astore 6, 2) := dk_58 6 (dk_at dksX0_copy_2 0 rfl rfl)
theorem dX0_copy_47 : decode cX0_copy 47 = .ok (.bipush (-11), 2) := dk_16 245 (dk_at dksX0_copy_2 2 rfl rfl)
theorem dX0_copy_49 : decode cX0_copy 49 = .ok (.ireturn, 1) := dk_172 (dk_at dksX0_copy_2 4 rfl rfl)
theorem dX0_copy_50 : decode cX0_copy 50 = .ok (.astore 6, 2) := dk_58 6 (dk_at dksX0_copy_2 5 rfl rfl)
theorem dX0_copy_52 : decode cX0_copy 52 = .ok (.bipush (-12), 2) := dk_16 244 (dk_at dksX0_copy_2 7 rfl rfl)
theorem dX0_copy_54 : decode cX0_copy 54 = .ok (.ireturn, 1) := dk_172 (dk_at dksX0_copy_2 9 rfl rfl)
theorem dX0_copy_55 : decode cX0_copy 55 = .ok (.astore 6, 2) := dk_58 6 (dk_at dksX0_copy_2 10 rfl rfl)
theorem dX0_copy_57 : decode cX0_copy 57 = .ok (.bipush (-13), 2) := dk_16 243 (dk_at dksX0_copy_2 12 rfl rfl)
theorem dX0_copy_59 : decode cX0_copy 59 = .ok (.ireturn, 1) := dk_172 (dk_at dksX0_copy_2 14 rfl rfl)
theorem dX0_copy_60 : decode cX0_copy 60 = .ok (.iload 5, 2) := dk_21 5 (dk_at dksX0_copy_2 15 rfl rfl)
theorem dX0_copy_62 : decode cX0_copy 62 = .ok (.ireturn, 1) := dk_172 (dk_at dksX0_copy_2 17 rfl rfl)
theorem q82 : (Jvm.Cond.initialized "RoadHouses") ∈ lw_all := lw_g (lw_at lw_m1 1 rfl) rfl
theorem q124 : (Jvm.Cond.instantiable "RoadHouses" (27 : Nat)) ∈ lw_all := lw_g (lw_at lw_m1 43 rfl) rfl
theorem q126 : (Jvm.Cond.instanceMethod ({ cls := "RoadHouses", name := "<init>", desc := "()V" } : Jvm.MethodName)) ∈ lw_all := lw_g (lw_at lw_m1 45 rfl) rfl
theorem q127 : (Jvm.Cond.code ({ cls := "RoadHouses", name := "<init>", desc := "()V" } : Jvm.MethodName) prog_1_method_4_code (2 : Nat) (Option.none : Option Jvm.ClassFile.FieldType)) ∈ lw_all := lw_g (lw_at lw_m1 46 rfl) rfl
theorem q128 : (Jvm.Cond.methodLink "RoadHouses" (3 : Nat) ({ cls := "java/lang/Object", name := "<init>", desc := "()V" } : Jvm.MethodName)) ∈ lw_all := lw_g (lw_at lw_m1 47 rfl) rfl
theorem q131 : (Jvm.Cond.classLink "RoadHouses" (9 : Nat) "java/util/ArrayList") ∈ lw_all := lw_g (lw_at lw_m1 50 rfl) rfl
theorem q133 : (Jvm.Cond.methodLink "RoadHouses" (11 : Nat) ({ cls := "java/util/ArrayList", name := "<init>", desc := "()V" } : Jvm.MethodName)) ∈ lw_all := lw_g (lw_at lw_m1 52 rfl) rfl
theorem q157 : (Jvm.Cond.classLink "RoadHouses" (16 : Nat) "[[I") ∈ lw_all := lw_g (lw_at lw_m1 76 rfl) rfl
theorem q159 : (Jvm.Cond.classLink "RoadHouses" (43 : Nat) "RoadHouses$Fault") ∈ lw_all := lw_g (lw_at lw_m1 78 rfl) rfl
theorem q214 : (Jvm.Cond.methodLink "RoadHouses" (45 : Nat) ({ cls := "RoadHouses$Fault", name := "<init>", desc := "()V" } : Jvm.MethodName)) ∈ lw_all := lw_g (lw_at lw_m1 133 rfl) rfl
theorem q223 : (Jvm.Cond.fieldLinkNest "RoadHouses" (334 : Nat) "RoadHouses$Fault" "place" "I" "RoadHouses") ∈ lw_tbl := lw_at lw_m1 142 rfl
theorem q240 : (Jvm.Cond.classLink "RoadHouses" (84 : Nat) "RoadHouses$Sheet") ∈ lw_all := lw_g (lw_at lw_m1 159 rfl) rfl
theorem q243 : (Jvm.Cond.methodLinkNest "RoadHouses" (90 : Nat) ({ cls := "RoadHouses$Sheet", name := "<init>", desc := "()V" } : Jvm.MethodName) "RoadHouses") ∈ lw_tbl := lw_at lw_m1 162 rfl
theorem q248 : (Jvm.Cond.fieldLinkNest "RoadHouses" (191 : Nat) "RoadHouses$Sheet" "row" "Ljava/lang/Object;" "RoadHouses") ∈ lw_tbl := lw_at lw_m1 167 rfl
theorem q253 : (Jvm.Cond.fieldLink "RoadHouses" (169 : Nat) "RoadHouses" "now" "I") ∈ lw_all := lw_g (lw_at lw_m1 172 rfl) rfl
theorem q254 : (Jvm.Cond.fieldLink "RoadHouses" (12 : Nat) "RoadHouses" "places" "Ljava/util/List;") ∈ lw_all := lw_g (lw_at lw_m1 173 rfl) rfl
theorem q255 : (Jvm.Cond.fieldLink "RoadHouses" (18 : Nat) "RoadHouses" "ways" "[[I") ∈ lw_all := lw_g (lw_at lw_m1 174 rfl) rfl
theorem q256 : (Jvm.Cond.fieldLink "RoadHouses" (21 : Nat) "RoadHouses" "fars" "[I") ∈ lw_all := lw_g (lw_at lw_m1 175 rfl) rfl
theorem q257 : (Jvm.Cond.fieldLink "RoadHouses" (25 : Nat) "RoadHouses" "changes" "Ljava/util/List;") ∈ lw_all := lw_g (lw_at lw_m1 176 rfl) rfl
theorem q258 : (Jvm.Cond.fieldLink "RoadHouses" (28 : Nat) "RoadHouses" "persons" "Ljava/util/List;") ∈ lw_all := lw_g (lw_at lw_m1 177 rfl) rfl
theorem q259 : (Jvm.Cond.fieldLink "RoadHouses" (31 : Nat) "RoadHouses" "party" "Ljava/util/List;") ∈ lw_all := lw_g (lw_at lw_m1 178 rfl) rfl
theorem q260 : (Jvm.Cond.fieldLink "RoadHouses" (34 : Nat) "RoadHouses" "hunters" "Ljava/util/List;") ∈ lw_all := lw_g (lw_at lw_m1 179 rfl) rfl
theorem q261 : (Jvm.Cond.fieldLink "RoadHouses" (37 : Nat) "RoadHouses" "raids" "Ljava/util/List;") ∈ lw_all := lw_g (lw_at lw_m1 180 rfl) rfl
theorem q262 : (Jvm.Cond.fieldLink "RoadHouses" (40 : Nat) "RoadHouses" "laws" "Ljava/util/List;") ∈ lw_all := lw_g (lw_at lw_m1 181 rfl) rfl
theorem q263 : (Jvm.Cond.fieldLink "RoadHouses" (46 : Nat) "RoadHouses" "fault" "LRoadHouses$Fault;") ∈ lw_all := lw_g (lw_at lw_m1 182 rfl) rfl
theorem q264 : (Jvm.Cond.fieldLink "RoadHouses" (50 : Nat) "RoadHouses" "tape" "[B") ∈ lw_all := lw_g (lw_at lw_m1 183 rfl) rfl
theorem q265 : (Jvm.Cond.fieldLink "RoadHouses" (328 : Nat) "RoadHouses" "taped" "I") ∈ lw_all := lw_g (lw_at lw_m1 184 rfl) rfl
theorem q266 : (Jvm.Cond.fieldLink "RoadHouses" (331 : Nat) "RoadHouses" "at" "I") ∈ lw_all := lw_g (lw_at lw_m1 185 rfl) rfl
theorem q267 : (Jvm.Cond.fieldLink "RoadHouses" (350 : Nat) "RoadHouses" "open" "I") ∈ lw_all := lw_g (lw_at lw_m1 186 rfl) rfl
theorem q268 : (Jvm.Cond.fieldLink "RoadHouses" (54 : Nat) "RoadHouses" "names" "[I") ∈ lw_all := lw_g (lw_at lw_m1 187 rfl) rfl
theorem q269 : (Jvm.Cond.fieldLink "RoadHouses" (57 : Nat) "RoadHouses" "band" "Ljava/util/List;") ∈ lw_all := lw_g (lw_at lw_m1 188 rfl) rfl
theorem q270 : (Jvm.Cond.fieldLink "RoadHouses" (60 : Nat) "RoadHouses" "units" "[I") ∈ lw_all := lw_g (lw_at lw_m1 189 rfl) rfl
theorem q271 : (Jvm.Cond.fieldLink "RoadHouses" (63 : Nat) "RoadHouses" "unitMany" "[I") ∈ lw_all := lw_g (lw_at lw_m1 190 rfl) rfl
theorem q272 : (Jvm.Cond.fieldLink "RoadHouses" (66 : Nat) "RoadHouses" "unitStrength" "[I") ∈ lw_all := lw_g (lw_at lw_m1 191 rfl) rfl
theorem q273 : (Jvm.Cond.fieldLink "RoadHouses" (69 : Nat) "RoadHouses" "steps" "[I") ∈ lw_all := lw_g (lw_at lw_m1 192 rfl) rfl
theorem q274 : (Jvm.Cond.fieldLink "RoadHouses" (72 : Nat) "RoadHouses" "cuts" "[I") ∈ lw_all := lw_g (lw_at lw_m1 193 rfl) rfl
theorem q275 : (Jvm.Cond.fieldLink "RoadHouses" (75 : Nat) "RoadHouses" "warned" "[I") ∈ lw_all := lw_g (lw_at lw_m1 194 rfl) rfl
theorem q276 : (Jvm.Cond.fieldLink "RoadHouses" (78 : Nat) "RoadHouses" "tieFrom" "[I") ∈ lw_all := lw_g (lw_at lw_m1 195 rfl) rfl
theorem q277 : (Jvm.Cond.fieldLink "RoadHouses" (81 : Nat) "RoadHouses" "tieTo" "[I") ∈ lw_all := lw_g (lw_at lw_m1 196 rfl) rfl
theorem q278 : (Jvm.Cond.fieldLink "RoadHouses" (471 : Nat) "RoadHouses" "ties" "I") ∈ lw_all := lw_g (lw_at lw_m1 197 rfl) rfl
theorem q279 : (Jvm.Cond.fieldLink "RoadHouses" (86 : Nat) "RoadHouses" "sheets" "[LRoadHouses$Sheet;") ∈ lw_all := lw_g (lw_at lw_m1 198 rfl) rfl
theorem q280 : (Jvm.Cond.lays "RoadHouses" "RoadHouses" "now" "I") ∈ lw_all := lw_g (lw_at lw_m1 199 rfl) rfl
theorem q281 : (Jvm.Cond.soleField "RoadHouses" "now") ∈ lw_all := lw_g (lw_at lw_m1 200 rfl) rfl
theorem q282 : (Jvm.Cond.laysFinal "RoadHouses" "RoadHouses" "places" "Ljava/util/List;") ∈ lw_all := lw_g (lw_at lw_m1 201 rfl) rfl
theorem q283 : (Jvm.Cond.soleField "RoadHouses" "places") ∈ lw_all := lw_g (lw_at lw_m1 202 rfl) rfl
theorem q284 : (Jvm.Cond.laysFinal "RoadHouses" "RoadHouses" "ways" "[[I") ∈ lw_all := lw_g (lw_at lw_m1 203 rfl) rfl
theorem q285 : (Jvm.Cond.soleField "RoadHouses" "ways") ∈ lw_all := lw_g (lw_at lw_m1 204 rfl) rfl
theorem q286 : (Jvm.Cond.laysFinal "RoadHouses" "RoadHouses" "fars" "[I") ∈ lw_all := lw_g (lw_at lw_m1 205 rfl) rfl
theorem q287 : (Jvm.Cond.soleField "RoadHouses" "fars") ∈ lw_all := lw_g (lw_at lw_m1 206 rfl) rfl
theorem q288 : (Jvm.Cond.laysFinal "RoadHouses" "RoadHouses" "changes" "Ljava/util/List;") ∈ lw_all := lw_g (lw_at lw_m1 207 rfl) rfl
theorem q289 : (Jvm.Cond.soleField "RoadHouses" "changes") ∈ lw_all := lw_g (lw_at lw_m1 208 rfl) rfl
theorem q290 : (Jvm.Cond.laysFinal "RoadHouses" "RoadHouses" "persons" "Ljava/util/List;") ∈ lw_all := lw_g (lw_at lw_m1 209 rfl) rfl
theorem q291 : (Jvm.Cond.soleField "RoadHouses" "persons") ∈ lw_all := lw_g (lw_at lw_m1 210 rfl) rfl
theorem q292 : (Jvm.Cond.laysFinal "RoadHouses" "RoadHouses" "party" "Ljava/util/List;") ∈ lw_all := lw_g (lw_at lw_m1 211 rfl) rfl
theorem q293 : (Jvm.Cond.soleField "RoadHouses" "party") ∈ lw_all := lw_g (lw_at lw_m1 212 rfl) rfl
theorem q294 : (Jvm.Cond.laysFinal "RoadHouses" "RoadHouses" "hunters" "Ljava/util/List;") ∈ lw_all := lw_g (lw_at lw_m1 213 rfl) rfl
theorem q295 : (Jvm.Cond.soleField "RoadHouses" "hunters") ∈ lw_all := lw_g (lw_at lw_m1 214 rfl) rfl
theorem q296 : (Jvm.Cond.laysFinal "RoadHouses" "RoadHouses" "raids" "Ljava/util/List;") ∈ lw_all := lw_g (lw_at lw_m1 215 rfl) rfl
theorem q297 : (Jvm.Cond.soleField "RoadHouses" "raids") ∈ lw_all := lw_g (lw_at lw_m1 216 rfl) rfl
theorem q298 : (Jvm.Cond.laysFinal "RoadHouses" "RoadHouses" "laws" "Ljava/util/List;") ∈ lw_all := lw_g (lw_at lw_m1 217 rfl) rfl
theorem q299 : (Jvm.Cond.soleField "RoadHouses" "laws") ∈ lw_all := lw_g (lw_at lw_m1 218 rfl) rfl
theorem q300 : (Jvm.Cond.laysFinal "RoadHouses" "RoadHouses" "fault" "LRoadHouses$Fault;") ∈ lw_all := lw_g (lw_at lw_m1 219 rfl) rfl
theorem q301 : (Jvm.Cond.soleField "RoadHouses" "fault") ∈ lw_all := lw_g (lw_at lw_m1 220 rfl) rfl
theorem q302 : (Jvm.Cond.laysFinal "RoadHouses" "RoadHouses" "tape" "[B") ∈ lw_all := lw_g (lw_at lw_m1 221 rfl) rfl
theorem q303 : (Jvm.Cond.soleField "RoadHouses" "tape") ∈ lw_all := lw_g (lw_at lw_m1 222 rfl) rfl
theorem q304 : (Jvm.Cond.lays "RoadHouses" "RoadHouses" "taped" "I") ∈ lw_all := lw_g (lw_at lw_m1 223 rfl) rfl
theorem q305 : (Jvm.Cond.soleField "RoadHouses" "taped") ∈ lw_all := lw_g (lw_at lw_m1 224 rfl) rfl
theorem q306 : (Jvm.Cond.lays "RoadHouses" "RoadHouses" "at" "I") ∈ lw_all := lw_g (lw_at lw_m1 225 rfl) rfl
theorem q307 : (Jvm.Cond.soleField "RoadHouses" "at") ∈ lw_all := lw_g (lw_at lw_m1 226 rfl) rfl
theorem q308 : (Jvm.Cond.lays "RoadHouses" "RoadHouses" "open" "I") ∈ lw_all := lw_g (lw_at lw_m1 227 rfl) rfl
theorem q309 : (Jvm.Cond.soleField "RoadHouses" "open") ∈ lw_all := lw_g (lw_at lw_m1 228 rfl) rfl
theorem q310 : (Jvm.Cond.laysFinal "RoadHouses" "RoadHouses" "names" "[I") ∈ lw_all := lw_g (lw_at lw_m1 229 rfl) rfl
theorem q311 : (Jvm.Cond.soleField "RoadHouses" "names") ∈ lw_all := lw_g (lw_at lw_m1 230 rfl) rfl
theorem q312 : (Jvm.Cond.laysFinal "RoadHouses" "RoadHouses" "band" "Ljava/util/List;") ∈ lw_all := lw_g (lw_at lw_m1 231 rfl) rfl
theorem q313 : (Jvm.Cond.soleField "RoadHouses" "band") ∈ lw_all := lw_g (lw_at lw_m1 232 rfl) rfl
theorem q314 : (Jvm.Cond.laysFinal "RoadHouses" "RoadHouses" "units" "[I") ∈ lw_all := lw_g (lw_at lw_m1 233 rfl) rfl
theorem q315 : (Jvm.Cond.soleField "RoadHouses" "units") ∈ lw_all := lw_g (lw_at lw_m1 234 rfl) rfl
theorem q316 : (Jvm.Cond.laysFinal "RoadHouses" "RoadHouses" "unitMany" "[I") ∈ lw_all := lw_g (lw_at lw_m1 235 rfl) rfl
theorem q317 : (Jvm.Cond.soleField "RoadHouses" "unitMany") ∈ lw_all := lw_g (lw_at lw_m1 236 rfl) rfl
theorem q318 : (Jvm.Cond.laysFinal "RoadHouses" "RoadHouses" "unitStrength" "[I") ∈ lw_all := lw_g (lw_at lw_m1 237 rfl) rfl
theorem q319 : (Jvm.Cond.soleField "RoadHouses" "unitStrength") ∈ lw_all := lw_g (lw_at lw_m1 238 rfl) rfl
theorem q320 : (Jvm.Cond.laysFinal "RoadHouses" "RoadHouses" "steps" "[I") ∈ lw_all := lw_g (lw_at lw_m1 239 rfl) rfl
theorem q321 : (Jvm.Cond.soleField "RoadHouses" "steps") ∈ lw_all := lw_g (lw_at lw_m2 0 rfl) rfl
theorem q322 : (Jvm.Cond.laysFinal "RoadHouses" "RoadHouses" "cuts" "[I") ∈ lw_all := lw_g (lw_at lw_m2 1 rfl) rfl
theorem q323 : (Jvm.Cond.soleField "RoadHouses" "cuts") ∈ lw_all := lw_g (lw_at lw_m2 2 rfl) rfl
theorem q324 : (Jvm.Cond.laysFinal "RoadHouses" "RoadHouses" "warned" "[I") ∈ lw_all := lw_g (lw_at lw_m2 3 rfl) rfl
theorem q325 : (Jvm.Cond.soleField "RoadHouses" "warned") ∈ lw_all := lw_g (lw_at lw_m2 4 rfl) rfl
theorem q326 : (Jvm.Cond.laysFinal "RoadHouses" "RoadHouses" "tieFrom" "[I") ∈ lw_all := lw_g (lw_at lw_m2 5 rfl) rfl
theorem q327 : (Jvm.Cond.soleField "RoadHouses" "tieFrom") ∈ lw_all := lw_g (lw_at lw_m2 6 rfl) rfl
theorem q328 : (Jvm.Cond.laysFinal "RoadHouses" "RoadHouses" "tieTo" "[I") ∈ lw_all := lw_g (lw_at lw_m2 7 rfl) rfl
theorem q329 : (Jvm.Cond.soleField "RoadHouses" "tieTo") ∈ lw_all := lw_g (lw_at lw_m2 8 rfl) rfl
theorem q330 : (Jvm.Cond.lays "RoadHouses" "RoadHouses" "ties" "I") ∈ lw_all := lw_g (lw_at lw_m2 9 rfl) rfl
theorem q331 : (Jvm.Cond.soleField "RoadHouses" "ties") ∈ lw_all := lw_g (lw_at lw_m2 10 rfl) rfl
theorem q332 : (Jvm.Cond.laysFinal "RoadHouses" "RoadHouses" "sheets" "[LRoadHouses$Sheet;") ∈ lw_all := lw_g (lw_at lw_m2 11 rfl) rfl
theorem q333 : (Jvm.Cond.soleField "RoadHouses" "sheets") ∈ lw_all := lw_g (lw_at lw_m2 12 rfl) rfl
theorem q334 : (Jvm.Cond.superclass "RoadHouses" "java/lang/Object") ∈ lw_all := lw_g (lw_at lw_m2 13 rfl) rfl
theorem q336 : (Jvm.Cond.instanceMethod ({ cls := "RoadHouses", name := "open", desc := "(I)I" } : Jvm.MethodName)) ∈ lw_all := lw_g (lw_at lw_m2 15 rfl) rfl
theorem q337 : (Jvm.Cond.selects "RoadHouses" ({ cls := "RoadHouses", name := "open", desc := "(I)I" } : Jvm.MethodName) ({ cls := "RoadHouses", name := "open", desc := "(I)I" } : Jvm.MethodName)) ∈ lw_all := lw_g (lw_at lw_m2 16 rfl) rfl
theorem q338 : (Jvm.Cond.code ({ cls := "RoadHouses", name := "open", desc := "(I)I" } : Jvm.MethodName) prog_1_method_9_code (2 : Nat) (Option.some Jvm.ClassFile.FieldType.int)) ∈ lw_all := lw_g (lw_at lw_m2 17 rfl) rfl
theorem q339 : (Jvm.Cond.methodLink "RoadHouses" (97 : Nat) ({ cls := "RoadHouses", name := "isIn", desc := "(III)Z" } : Jvm.MethodName)) ∈ lw_all := lw_g (lw_at lw_m2 18 rfl) rfl
theorem q340 : (Jvm.Cond.static ({ cls := "RoadHouses", name := "isIn", desc := "(III)Z" } : Jvm.MethodName)) ∈ lw_all := lw_g (lw_at lw_m2 19 rfl) rfl
theorem q341 : (Jvm.Cond.code ({ cls := "RoadHouses", name := "isIn", desc := "(III)Z" } : Jvm.MethodName) prog_1_method_1_code (3 : Nat) (Option.some Jvm.ClassFile.FieldType.boolean)) ∈ lw_all := lw_g (lw_at lw_m2 20 rfl) rfl
theorem q342 : (Jvm.Cond.methodLink "RoadHouses" (111 : Nat) ({ cls := "RoadHouses", name := "isFull", desc := "()Z" } : Jvm.MethodName)) ∈ lw_all := lw_g (lw_at lw_m2 21 rfl) rfl
theorem q343 : (Jvm.Cond.privateMethod ({ cls := "RoadHouses", name := "isFull", desc := "()Z" } : Jvm.MethodName)) ∈ lw_tbl := lw_at lw_m2 22 rfl
theorem q344 : (Jvm.Cond.instanceMethod ({ cls := "RoadHouses", name := "isFull", desc := "()Z" } : Jvm.MethodName)) ∈ lw_all := lw_g (lw_at lw_m2 23 rfl) rfl
theorem q345 : (Jvm.Cond.code ({ cls := "RoadHouses", name := "isFull", desc := "()Z" } : Jvm.MethodName) prog_1_method_8_code (1 : Nat) (Option.some Jvm.ClassFile.FieldType.boolean)) ∈ lw_all := lw_g (lw_at lw_m2 24 rfl) rfl
theorem q346 : (Jvm.Cond.interfaceEntry "RoadHouses" (91 : Nat)) ∈ lw_tbl := lw_at lw_m2 25 rfl
theorem q347 : (Jvm.Cond.methodLink "RoadHouses" (91 : Nat) ({ cls := "java/util/List", name := "size", desc := "()I" } : Jvm.MethodName)) ∈ lw_all := lw_g (lw_at lw_m2 26 rfl) rfl
theorem q356 : (Jvm.Cond.classLink "RoadHouses" (106 : Nat) "RoadHouses$Place") ∈ lw_all := lw_g (lw_at lw_m2 35 rfl) rfl
theorem q358 : (Jvm.Cond.methodLink "RoadHouses" (115 : Nat) ({ cls := "RoadHouses$Place", name := "<init>", desc := "(II)V" } : Jvm.MethodName)) ∈ lw_all := lw_g (lw_at lw_m2 37 rfl) rfl
theorem q363 : (Jvm.Cond.fieldLink "RoadHouses" (105 : Nat) "RoadHouses$Place" "number" "I") ∈ lw_all := lw_g (lw_at lw_m2 42 rfl) rfl
theorem q364 : (Jvm.Cond.fieldLink "RoadHouses" (435 : Nat) "RoadHouses$House" "number" "I") ∈ lw_all := lw_g (lw_at lw_m2 43 rfl) rfl
theorem q367 : (Jvm.Cond.fieldLinkNest "RoadHouses" (225 : Nat) "RoadHouses$Place" "land" "I" "RoadHouses") ∈ lw_tbl := lw_at lw_m2 46 rfl
theorem q373 : (Jvm.Cond.methodLink "RoadHouses" (118 : Nat) ({ cls := "RoadHouses", name := "add", desc := "(LRoadHouses$Place;)I" } : Jvm.MethodName)) ∈ lw_all := lw_g (lw_at lw_m2 52 rfl) rfl
theorem q374 : (Jvm.Cond.privateMethod ({ cls := "RoadHouses", name := "add", desc := "(LRoadHouses$Place;)I" } : Jvm.MethodName)) ∈ lw_tbl := lw_at lw_m2 53 rfl
theorem q375 : (Jvm.Cond.instanceMethod ({ cls := "RoadHouses", name := "add", desc := "(LRoadHouses$Place;)I" } : Jvm.MethodName)) ∈ lw_all := lw_g (lw_at lw_m2 54 rfl) rfl
theorem q376 : (Jvm.Cond.code ({ cls := "RoadHouses", name := "add", desc := "(LRoadHouses$Place;)I" } : Jvm.MethodName) prog_1_method_6_code (2 : Nat) (Option.some Jvm.ClassFile.FieldType.int)) ∈ lw_all := lw_g (lw_at lw_m2 55 rfl) rfl
theorem q377 : (Jvm.Cond.interfaceEntry "RoadHouses" (101 : Nat)) ∈ lw_tbl := lw_at lw_m2 56 rfl
theorem q378 : (Jvm.Cond.methodLink "RoadHouses" (101 : Nat) ({ cls := "java/util/List", name := "add", desc := "(Ljava/lang/Object;)Z" } : Jvm.MethodName)) ∈ lw_all := lw_g (lw_at lw_m2 57 rfl) rfl
theorem q414 : (Jvm.Cond.selects "RoadHouses" ({ cls := "java/lang/Object", name := "getClass", desc := "()Ljava/lang/Class;" } : Jvm.MethodName) ({ cls := "java/lang/Object", name := "getClass", desc := "()Ljava/lang/Class;" } : Jvm.MethodName)) ∈ lw_all := lw_g (lw_at lw_m2 93 rfl) rfl
theorem q453 : (Jvm.Cond.instanceMethod ({ cls := "RoadHouses", name := "house", desc := "(II)I" } : Jvm.MethodName)) ∈ lw_all := lw_g (lw_at lw_m2 132 rfl) rfl
theorem q454 : (Jvm.Cond.selects "RoadHouses" ({ cls := "RoadHouses", name := "house", desc := "(II)I" } : Jvm.MethodName) ({ cls := "RoadHouses", name := "house", desc := "(II)I" } : Jvm.MethodName)) ∈ lw_all := lw_g (lw_at lw_m2 133 rfl) rfl
theorem q455 : (Jvm.Cond.code ({ cls := "RoadHouses", name := "house", desc := "(II)I" } : Jvm.MethodName) prog_1_method_10_code (3 : Nat) (Option.some Jvm.ClassFile.FieldType.int)) ∈ lw_all := lw_g (lw_at lw_m2 134 rfl) rfl
theorem q456 : (Jvm.Cond.methodLink "RoadHouses" (121 : Nat) ({ cls := "RoadHouses", name := "isHouse", desc := "(II)Z" } : Jvm.MethodName)) ∈ lw_all := lw_g (lw_at lw_m2 135 rfl) rfl
theorem q457 : (Jvm.Cond.static ({ cls := "RoadHouses", name := "isHouse", desc := "(II)Z" } : Jvm.MethodName)) ∈ lw_all := lw_g (lw_at lw_m2 136 rfl) rfl
theorem q458 : (Jvm.Cond.code ({ cls := "RoadHouses", name := "isHouse", desc := "(II)Z" } : Jvm.MethodName) prog_1_method_7_code (2 : Nat) (Option.some Jvm.ClassFile.FieldType.boolean)) ∈ lw_all := lw_g (lw_at lw_m2 137 rfl) rfl
theorem q459 : (Jvm.Cond.classLink "RoadHouses" (125 : Nat) "RoadHouses$House") ∈ lw_all := lw_g (lw_at lw_m2 138 rfl) rfl
theorem q461 : (Jvm.Cond.methodLink "RoadHouses" (127 : Nat) ({ cls := "RoadHouses$House", name := "<init>", desc := "(III)V" } : Jvm.MethodName)) ∈ lw_all := lw_g (lw_at lw_m2 140 rfl) rfl
theorem q466 : (Jvm.Cond.fieldLink "RoadHouses" (160 : Nat) "RoadHouses$House" "known" "I") ∈ lw_all := lw_g (lw_at lw_m2 145 rfl) rfl
theorem q467 : (Jvm.Cond.fieldLinkNest "RoadHouses" (163 : Nat) "RoadHouses$House" "isDim" "Z" "RoadHouses") ∈ lw_tbl := lw_at lw_m2 146 rfl
theorem q468 : (Jvm.Cond.fieldLinkNest "RoadHouses" (175 : Nat) "RoadHouses$House" "isWatched" "Z" "RoadHouses") ∈ lw_tbl := lw_at lw_m2 147 rfl
theorem q481 : (Jvm.Cond.instanceMethod ({ cls := "RoadHouses", name := "store", desc := "(IIII)I" } : Jvm.MethodName)) ∈ lw_all := lw_g (lw_at lw_m2 160 rfl) rfl
theorem q482 : (Jvm.Cond.selects "RoadHouses" ({ cls := "RoadHouses", name := "store", desc := "(IIII)I" } : Jvm.MethodName) ({ cls := "RoadHouses", name := "store", desc := "(IIII)I" } : Jvm.MethodName)) ∈ lw_all := lw_g (lw_at lw_m2 161 rfl) rfl
theorem q483 : (Jvm.Cond.code ({ cls := "RoadHouses", name := "store", desc := "(IIII)I" } : Jvm.MethodName) prog_1_method_11_code (5 : Nat) (Option.some Jvm.ClassFile.FieldType.int)) ∈ lw_all := lw_g (lw_at lw_m2 162 rfl) rfl
theorem q484 : (Jvm.Cond.classLink "RoadHouses" (130 : Nat) "RoadHouses$Store") ∈ lw_all := lw_g (lw_at lw_m2 163 rfl) rfl
theorem q486 : (Jvm.Cond.methodLink "RoadHouses" (132 : Nat) ({ cls := "RoadHouses$Store", name := "<init>", desc := "(IIIII)V" } : Jvm.MethodName)) ∈ lw_all := lw_g (lw_at lw_m2 165 rfl) rfl
theorem q491 : (Jvm.Cond.fieldLinkNest "RoadHouses" (285 : Nat) "RoadHouses$Store" "wall" "I" "RoadHouses") ∈ lw_tbl := lw_at lw_m2 170 rfl
theorem q493 : (Jvm.Cond.fieldLinkNest "RoadHouses" (311 : Nat) "RoadHouses$Store" "depth" "I" "RoadHouses") ∈ lw_tbl := lw_at lw_m2 172 rfl
theorem q506 : (Jvm.Cond.instanceMethod ({ cls := "RoadHouses", name := "crossing", desc := "(II)I" } : Jvm.MethodName)) ∈ lw_all := lw_g (lw_at lw_m2 185 rfl) rfl
theorem q507 : (Jvm.Cond.selects "RoadHouses" ({ cls := "RoadHouses", name := "crossing", desc := "(II)I" } : Jvm.MethodName) ({ cls := "RoadHouses", name := "crossing", desc := "(II)I" } : Jvm.MethodName)) ∈ lw_all := lw_g (lw_at lw_m2 186 rfl) rfl
theorem q508 : (Jvm.Cond.code ({ cls := "RoadHouses", name := "crossing", desc := "(II)I" } : Jvm.MethodName) prog_1_method_12_code (3 : Nat) (Option.some Jvm.ClassFile.FieldType.int)) ∈ lw_all := lw_g (lw_at lw_m2 187 rfl) rfl
theorem q509 : (Jvm.Cond.classLink "RoadHouses" (135 : Nat) "RoadHouses$Crossing") ∈ lw_all := lw_g (lw_at lw_m2 188 rfl) rfl
theorem q511 : (Jvm.Cond.methodLink "RoadHouses" (137 : Nat) ({ cls := "RoadHouses$Crossing", name := "<init>", desc := "(III)V" } : Jvm.MethodName)) ∈ lw_all := lw_g (lw_at lw_m2 190 rfl) rfl
theorem q516 : (Jvm.Cond.fieldLinkNest "RoadHouses" (178 : Nat) "RoadHouses$Crossing" "shut" "[Z" "RoadHouses") ∈ lw_tbl := lw_at lw_m2 195 rfl
theorem q528 : (Jvm.Cond.instanceMethod ({ cls := "RoadHouses", name := "town", desc := "(III)I" } : Jvm.MethodName)) ∈ lw_all := lw_g (lw_at lw_m2 207 rfl) rfl
theorem q529 : (Jvm.Cond.selects "RoadHouses" ({ cls := "RoadHouses", name := "town", desc := "(III)I" } : Jvm.MethodName) ({ cls := "RoadHouses", name := "town", desc := "(III)I" } : Jvm.MethodName)) ∈ lw_all := lw_g (lw_at lw_m2 208 rfl) rfl
theorem q530 : (Jvm.Cond.code ({ cls := "RoadHouses", name := "town", desc := "(III)I" } : Jvm.MethodName) prog_1_method_13_code (4 : Nat) (Option.some Jvm.ClassFile.FieldType.int)) ∈ lw_all := lw_g (lw_at lw_m2 209 rfl) rfl
theorem q531 : (Jvm.Cond.classLink "RoadHouses" (138 : Nat) "RoadHouses$Town") ∈ lw_all := lw_g (lw_at lw_m2 210 rfl) rfl
theorem q533 : (Jvm.Cond.methodLink "RoadHouses" (140 : Nat) ({ cls := "RoadHouses$Town", name := "<init>", desc := "(IIII)V" } : Jvm.MethodName)) ∈ lw_all := lw_g (lw_at lw_m2 212 rfl) rfl
theorem q548 : (Jvm.Cond.instanceMethod ({ cls := "RoadHouses", name := "way", desc := "(III)I" } : Jvm.MethodName)) ∈ lw_all := lw_g (lw_at lw_m2 227 rfl) rfl
theorem q549 : (Jvm.Cond.selects "RoadHouses" ({ cls := "RoadHouses", name := "way", desc := "(III)I" } : Jvm.MethodName) ({ cls := "RoadHouses", name := "way", desc := "(III)I" } : Jvm.MethodName)) ∈ lw_all := lw_g (lw_at lw_m2 228 rfl) rfl
theorem q550 : (Jvm.Cond.code ({ cls := "RoadHouses", name := "way", desc := "(III)I" } : Jvm.MethodName) prog_1_method_14_code (5 : Nat) (Option.some Jvm.ClassFile.FieldType.int)) ∈ lw_all := lw_g (lw_at lw_m2 229 rfl) rfl
theorem q551 : (Jvm.Cond.methodLink "RoadHouses" (143 : Nat) ({ cls := "RoadHouses", name := "isPlace", desc := "(I)Z" } : Jvm.MethodName)) ∈ lw_all := lw_g (lw_at lw_m2 230 rfl) rfl
theorem q552 : (Jvm.Cond.privateMethod ({ cls := "RoadHouses", name := "isPlace", desc := "(I)Z" } : Jvm.MethodName)) ∈ lw_tbl := lw_at lw_m2 231 rfl
theorem q553 : (Jvm.Cond.instanceMethod ({ cls := "RoadHouses", name := "isPlace", desc := "(I)Z" } : Jvm.MethodName)) ∈ lw_all := lw_g (lw_at lw_m2 232 rfl) rfl
theorem q554 : (Jvm.Cond.code ({ cls := "RoadHouses", name := "isPlace", desc := "(I)Z" } : Jvm.MethodName) prog_1_method_5_code (2 : Nat) (Option.some Jvm.ClassFile.FieldType.boolean)) ∈ lw_all := lw_g (lw_at lw_m2 233 rfl) rfl
theorem q556 : (Jvm.Cond.instanceMethod ({ cls := "RoadHouses", name := "far", desc := "(II)I" } : Jvm.MethodName)) ∈ lw_all := lw_g (lw_at lw_m2 235 rfl) rfl
theorem q557 : (Jvm.Cond.selects "RoadHouses" ({ cls := "RoadHouses", name := "far", desc := "(II)I" } : Jvm.MethodName) ({ cls := "RoadHouses", name := "far", desc := "(II)I" } : Jvm.MethodName)) ∈ lw_all := lw_g (lw_at lw_m2 236 rfl) rfl
theorem q558 : (Jvm.Cond.code ({ cls := "RoadHouses", name := "far", desc := "(II)I" } : Jvm.MethodName) prog_1_method_16_code (3 : Nat) (Option.some Jvm.ClassFile.FieldType.int)) ∈ lw_all := lw_g (lw_at lw_m2 237 rfl) rfl
theorem q559 : (Jvm.Cond.methodLink "RoadHouses" (148 : Nat) ({ cls := "RoadHouses", name := "findFar", desc := "(I)V" } : Jvm.MethodName)) ∈ lw_all := lw_g (lw_at lw_m2 238 rfl) rfl
theorem q560 : (Jvm.Cond.privateMethod ({ cls := "RoadHouses", name := "findFar", desc := "(I)V" } : Jvm.MethodName)) ∈ lw_tbl := lw_at lw_m2 239 rfl
theorem q561 : (Jvm.Cond.instanceMethod ({ cls := "RoadHouses", name := "findFar", desc := "(I)V" } : Jvm.MethodName)) ∈ lw_all := lw_g (lw_at lw_m3 0 rfl) rfl
theorem q562 : (Jvm.Cond.code ({ cls := "RoadHouses", name := "findFar", desc := "(I)V" } : Jvm.MethodName) prog_1_method_15_code (5 : Nat) (Option.none : Option Jvm.ClassFile.FieldType)) ∈ lw_all := lw_g (lw_at lw_m3 1 rfl) rfl
theorem q563 : (Jvm.Cond.constant "RoadHouses" (147 : Nat) (1000000 : Int32)) ∈ lw_all := lw_g (lw_at lw_m3 2 rfl) rfl
theorem q565 : (Jvm.Cond.instanceMethod ({ cls := "RoadHouses", name := "knows", desc := "(IIZ)I" } : Jvm.MethodName)) ∈ lw_all := lw_g (lw_at lw_m3 4 rfl) rfl
theorem q566 : (Jvm.Cond.selects "RoadHouses" ({ cls := "RoadHouses", name := "knows", desc := "(IIZ)I" } : Jvm.MethodName) ({ cls := "RoadHouses", name := "knows", desc := "(IIZ)I" } : Jvm.MethodName)) ∈ lw_all := lw_g (lw_at lw_m3 5 rfl) rfl
theorem q567 : (Jvm.Cond.code ({ cls := "RoadHouses", name := "knows", desc := "(IIZ)I" } : Jvm.MethodName) prog_1_method_18_code (6 : Nat) (Option.some Jvm.ClassFile.FieldType.int)) ∈ lw_all := lw_g (lw_at lw_m3 6 rfl) rfl
theorem q568 : (Jvm.Cond.methodLink "RoadHouses" (156 : Nat) ({ cls := "RoadHouses", name := "houseAt", desc := "(I)LRoadHouses$House;" } : Jvm.MethodName)) ∈ lw_all := lw_g (lw_at lw_m3 7 rfl) rfl
theorem q569 : (Jvm.Cond.privateMethod ({ cls := "RoadHouses", name := "houseAt", desc := "(I)LRoadHouses$House;" } : Jvm.MethodName)) ∈ lw_tbl := lw_at lw_m3 8 rfl
theorem q570 : (Jvm.Cond.instanceMethod ({ cls := "RoadHouses", name := "houseAt", desc := "(I)LRoadHouses$House;" } : Jvm.MethodName)) ∈ lw_all := lw_g (lw_at lw_m3 9 rfl) rfl
theorem q571 : (Jvm.Cond.code ({ cls := "RoadHouses", name := "houseAt", desc := "(I)LRoadHouses$House;" } : Jvm.MethodName) prog_1_method_17_code (4 : Nat) (Option.some (Jvm.ClassFile.FieldType.object "RoadHouses$House"))) ∈ lw_all := lw_g (lw_at lw_m3 10 rfl) rfl
theorem q572 : (Jvm.Cond.interfaceEntry "RoadHouses" (152 : Nat)) ∈ lw_tbl := lw_at lw_m3 11 rfl
theorem q573 : (Jvm.Cond.methodLink "RoadHouses" (152 : Nat) ({ cls := "java/util/List", name := "get", desc := "(I)Ljava/lang/Object;" } : Jvm.MethodName)) ∈ lw_all := lw_g (lw_at lw_m3 12 rfl) rfl
theorem q592 : (Jvm.Cond.instanceMethod ({ cls := "RoadHouses", name := "lamp", desc := "(IZ)I" } : Jvm.MethodName)) ∈ lw_all := lw_g (lw_at lw_m3 31 rfl) rfl
theorem q593 : (Jvm.Cond.selects "RoadHouses" ({ cls := "RoadHouses", name := "lamp", desc := "(IZ)I" } : Jvm.MethodName) ({ cls := "RoadHouses", name := "lamp", desc := "(IZ)I" } : Jvm.MethodName)) ∈ lw_all := lw_g (lw_at lw_m3 32 rfl) rfl
theorem q594 : (Jvm.Cond.code ({ cls := "RoadHouses", name := "lamp", desc := "(IZ)I" } : Jvm.MethodName) prog_1_method_19_code (5 : Nat) (Option.some Jvm.ClassFile.FieldType.int)) ∈ lw_all := lw_g (lw_at lw_m3 33 rfl) rfl
theorem q595 : (Jvm.Cond.classLink "RoadHouses" (167 : Nat) "RoadHouses$Change") ∈ lw_all := lw_g (lw_at lw_m3 34 rfl) rfl
theorem q597 : (Jvm.Cond.methodLink "RoadHouses" (172 : Nat) ({ cls := "RoadHouses$Change", name := "<init>", desc := "(IIZ)V" } : Jvm.MethodName)) ∈ lw_all := lw_g (lw_at lw_m3 36 rfl) rfl
theorem q602 : (Jvm.Cond.fieldLinkNest "RoadHouses" (477 : Nat) "RoadHouses$Change" "house" "I" "RoadHouses") ∈ lw_tbl := lw_at lw_m3 41 rfl
theorem q604 : (Jvm.Cond.fieldLinkNest "RoadHouses" (480 : Nat) "RoadHouses$Change" "hour" "I" "RoadHouses") ∈ lw_tbl := lw_at lw_m3 43 rfl
theorem q606 : (Jvm.Cond.fieldLinkNest "RoadHouses" (481 : Nat) "RoadHouses$Change" "isLit" "Z" "RoadHouses") ∈ lw_tbl := lw_at lw_m3 45 rfl
theorem q615 : (Jvm.Cond.instanceMethod ({ cls := "RoadHouses", name := "watch", desc := "(IZ)I" } : Jvm.MethodName)) ∈ lw_all := lw_g (lw_at lw_m3 54 rfl) rfl
theorem q616 : (Jvm.Cond.selects "RoadHouses" ({ cls := "RoadHouses", name := "watch", desc := "(IZ)I" } : Jvm.MethodName) ({ cls := "RoadHouses", name := "watch", desc := "(IZ)I" } : Jvm.MethodName)) ∈ lw_all := lw_g (lw_at lw_m3 55 rfl) rfl
theorem q617 : (Jvm.Cond.code ({ cls := "RoadHouses", name := "watch", desc := "(IZ)I" } : Jvm.MethodName) prog_1_method_20_code (5 : Nat) (Option.some Jvm.ClassFile.FieldType.int)) ∈ lw_all := lw_g (lw_at lw_m3 56 rfl) rfl
theorem q619 : (Jvm.Cond.instanceMethod ({ cls := "RoadHouses", name := "bears", desc := "(IIZ)I" } : Jvm.MethodName)) ∈ lw_all := lw_g (lw_at lw_m3 58 rfl) rfl
theorem q620 : (Jvm.Cond.selects "RoadHouses" ({ cls := "RoadHouses", name := "bears", desc := "(IIZ)I" } : Jvm.MethodName) ({ cls := "RoadHouses", name := "bears", desc := "(IIZ)I" } : Jvm.MethodName)) ∈ lw_all := lw_g (lw_at lw_m3 59 rfl) rfl
theorem q621 : (Jvm.Cond.code ({ cls := "RoadHouses", name := "bears", desc := "(IIZ)I" } : Jvm.MethodName) prog_1_method_21_code (6 : Nat) (Option.some Jvm.ClassFile.FieldType.int)) ∈ lw_all := lw_g (lw_at lw_m3 60 rfl) rfl
theorem q623 : (Jvm.Cond.instanceMethod ({ cls := "RoadHouses", name := "ice", desc := "(IIIII)I" } : Jvm.MethodName)) ∈ lw_all := lw_g (lw_at lw_m3 62 rfl) rfl
theorem q624 : (Jvm.Cond.selects "RoadHouses" ({ cls := "RoadHouses", name := "ice", desc := "(IIIII)I" } : Jvm.MethodName) ({ cls := "RoadHouses", name := "ice", desc := "(IIIII)I" } : Jvm.MethodName)) ∈ lw_all := lw_g (lw_at lw_m3 63 rfl) rfl
theorem q625 : (Jvm.Cond.code ({ cls := "RoadHouses", name := "ice", desc := "(IIIII)I" } : Jvm.MethodName) prog_1_method_22_code (9 : Nat) (Option.some Jvm.ClassFile.FieldType.int)) ∈ lw_all := lw_g (lw_at lw_m3 64 rfl) rfl
theorem q626 : (Jvm.Cond.methodLink "RoadHouses" (182 : Nat) ({ cls := "RoadHouses", name := "isSheet", desc := "(I)Z" } : Jvm.MethodName)) ∈ lw_all := lw_g (lw_at lw_m3 65 rfl) rfl
theorem q627 : (Jvm.Cond.static ({ cls := "RoadHouses", name := "isSheet", desc := "(I)Z" } : Jvm.MethodName)) ∈ lw_all := lw_g (lw_at lw_m3 66 rfl) rfl
theorem q628 : (Jvm.Cond.code ({ cls := "RoadHouses", name := "isSheet", desc := "(I)Z" } : Jvm.MethodName) prog_1_method_84_code (1 : Nat) (Option.some Jvm.ClassFile.FieldType.boolean)) ∈ lw_all := lw_g (lw_at lw_m3 67 rfl) rfl
theorem q629 : (Jvm.Cond.methodLink "RoadHouses" (185 : Nat) ({ cls := "java/lang/Math", name := "min", desc := "(II)I" } : Jvm.MethodName)) ∈ lw_all := lw_g (lw_at lw_m3 68 rfl) rfl
theorem q630 : (Jvm.Cond.classLink "RoadHouses" (195 : Nat) "[Z") ∈ lw_all := lw_g (lw_at lw_m3 69 rfl) rfl
theorem q632 : (Jvm.Cond.instanceMethod ({ cls := "RoadHouses", name := "last", desc := "(I)I" } : Jvm.MethodName)) ∈ lw_all := lw_g (lw_at lw_m3 71 rfl) rfl
theorem q633 : (Jvm.Cond.selects "RoadHouses" ({ cls := "RoadHouses", name := "last", desc := "(I)I" } : Jvm.MethodName) ({ cls := "RoadHouses", name := "last", desc := "(I)I" } : Jvm.MethodName)) ∈ lw_all := lw_g (lw_at lw_m3 72 rfl) rfl
theorem q634 : (Jvm.Cond.code ({ cls := "RoadHouses", name := "last", desc := "(I)I" } : Jvm.MethodName) prog_1_method_23_code (4 : Nat) (Option.some Jvm.ClassFile.FieldType.int)) ∈ lw_all := lw_g (lw_at lw_m3 73 rfl) rfl
theorem q635 : (Jvm.Cond.methodLink "RoadHouses" (196 : Nat) ({ cls := "RoadHouses", name := "weekOf", desc := "(I)I" } : Jvm.MethodName)) ∈ lw_all := lw_g (lw_at lw_m3 74 rfl) rfl
theorem q636 : (Jvm.Cond.static ({ cls := "RoadHouses", name := "weekOf", desc := "(I)I" } : Jvm.MethodName)) ∈ lw_all := lw_g (lw_at lw_m3 75 rfl) rfl
theorem q637 : (Jvm.Cond.code ({ cls := "RoadHouses", name := "weekOf", desc := "(I)I" } : Jvm.MethodName) prog_1_method_2_code (1 : Nat) (Option.some Jvm.ClassFile.FieldType.int)) ∈ lw_all := lw_g (lw_at lw_m3 76 rfl) rfl
theorem q638 : (Jvm.Cond.methodLink "RoadHouses" (200 : Nat) ({ cls := "RoadHouses$Crossing", name := "bears", desc := "(I)Z" } : Jvm.MethodName)) ∈ lw_all := lw_g (lw_at lw_m3 77 rfl) rfl
theorem q648 : (Jvm.Cond.instanceMethod ({ cls := "RoadHouses", name := "place", desc := "(II)I" } : Jvm.MethodName)) ∈ lw_all := lw_g (lw_at lw_m3 87 rfl) rfl
theorem q649 : (Jvm.Cond.selects "RoadHouses" ({ cls := "RoadHouses", name := "place", desc := "(II)I" } : Jvm.MethodName) ({ cls := "RoadHouses", name := "place", desc := "(II)I" } : Jvm.MethodName)) ∈ lw_all := lw_g (lw_at lw_m3 88 rfl) rfl
theorem q650 : (Jvm.Cond.code ({ cls := "RoadHouses", name := "place", desc := "(II)I" } : Jvm.MethodName) prog_1_method_28_code (5 : Nat) (Option.some Jvm.ClassFile.FieldType.int)) ∈ lw_all := lw_g (lw_at lw_m3 89 rfl) rfl
theorem q651 : (Jvm.Cond.methodLink "RoadHouses" (215 : Nat) ({ cls := "RoadHouses$Place", name := "kind", desc := "()I" } : Jvm.MethodName)) ∈ lw_all := lw_g (lw_at lw_m3 90 rfl) rfl
theorem q668 : (Jvm.Cond.methodLink "RoadHouses" (218 : Nat) ({ cls := "RoadHouses$Place", name := "beds", desc := "()I" } : Jvm.MethodName)) ∈ lw_all := lw_g (lw_at lw_m3 107 rfl) rfl
theorem q679 : (Jvm.Cond.methodLink "RoadHouses" (221 : Nat) ({ cls := "RoadHouses", name := "manyAt", desc := "(LRoadHouses$Place;I)I" } : Jvm.MethodName)) ∈ lw_all := lw_g (lw_at lw_m3 118 rfl) rfl
theorem q680 : (Jvm.Cond.privateMethod ({ cls := "RoadHouses", name := "manyAt", desc := "(LRoadHouses$Place;I)I" } : Jvm.MethodName)) ∈ lw_tbl := lw_at lw_m3 119 rfl
theorem q681 : (Jvm.Cond.instanceMethod ({ cls := "RoadHouses", name := "manyAt", desc := "(LRoadHouses$Place;I)I" } : Jvm.MethodName)) ∈ lw_all := lw_g (lw_at lw_m3 120 rfl) rfl
theorem q682 : (Jvm.Cond.code ({ cls := "RoadHouses", name := "manyAt", desc := "(LRoadHouses$Place;I)I" } : Jvm.MethodName) prog_1_method_26_code (6 : Nat) (Option.some Jvm.ClassFile.FieldType.int)) ∈ lw_all := lw_g (lw_at lw_m3 121 rfl) rfl
theorem q683 : (Jvm.Cond.classLink "RoadHouses" (203 : Nat) "RoadHouses$Person") ∈ lw_all := lw_g (lw_at lw_m3 122 rfl) rfl
theorem q685 : (Jvm.Cond.instanceMethod ({ cls := "RoadHouses", name := "person", desc := "(II)I" } : Jvm.MethodName)) ∈ lw_all := lw_g (lw_at lw_m3 124 rfl) rfl
theorem q686 : (Jvm.Cond.selects "RoadHouses" ({ cls := "RoadHouses", name := "person", desc := "(II)I" } : Jvm.MethodName) ({ cls := "RoadHouses", name := "person", desc := "(II)I" } : Jvm.MethodName)) ∈ lw_all := lw_g (lw_at lw_m3 125 rfl) rfl
theorem q687 : (Jvm.Cond.code ({ cls := "RoadHouses", name := "person", desc := "(II)I" } : Jvm.MethodName) prog_1_method_31_code (3 : Nat) (Option.some Jvm.ClassFile.FieldType.int)) ∈ lw_all := lw_g (lw_at lw_m3 126 rfl) rfl
theorem q688 : (Jvm.Cond.methodLink "RoadHouses" (242 : Nat) ({ cls := "RoadHouses", name := "newPerson", desc := "(ILRoadHouses$Person;LRoadHouses$Place;)I" } : Jvm.MethodName)) ∈ lw_all := lw_g (lw_at lw_m3 127 rfl) rfl
theorem q689 : (Jvm.Cond.privateMethod ({ cls := "RoadHouses", name := "newPerson", desc := "(ILRoadHouses$Person;LRoadHouses$Place;)I" } : Jvm.MethodName)) ∈ lw_tbl := lw_at lw_m3 128 rfl
theorem q690 : (Jvm.Cond.instanceMethod ({ cls := "RoadHouses", name := "newPerson", desc := "(ILRoadHouses$Person;LRoadHouses$Place;)I" } : Jvm.MethodName)) ∈ lw_all := lw_g (lw_at lw_m3 129 rfl) rfl
theorem q691 : (Jvm.Cond.code ({ cls := "RoadHouses", name := "newPerson", desc := "(ILRoadHouses$Person;LRoadHouses$Place;)I" } : Jvm.MethodName) prog_1_method_30_code (4 : Nat) (Option.some Jvm.ClassFile.FieldType.int)) ∈ lw_all := lw_g (lw_at lw_m3 130 rfl) rfl
theorem q692 : (Jvm.Cond.methodLink "RoadHouses" (235 : Nat) ({ cls := "RoadHouses", name := "bedsLeft", desc := "(LRoadHouses$Place;)I" } : Jvm.MethodName)) ∈ lw_all := lw_g (lw_at lw_m3 131 rfl) rfl
theorem q693 : (Jvm.Cond.privateMethod ({ cls := "RoadHouses", name := "bedsLeft", desc := "(LRoadHouses$Place;)I" } : Jvm.MethodName)) ∈ lw_tbl := lw_at lw_m3 132 rfl
theorem q694 : (Jvm.Cond.instanceMethod ({ cls := "RoadHouses", name := "bedsLeft", desc := "(LRoadHouses$Place;)I" } : Jvm.MethodName)) ∈ lw_all := lw_g (lw_at lw_m3 133 rfl) rfl
theorem q695 : (Jvm.Cond.code ({ cls := "RoadHouses", name := "bedsLeft", desc := "(LRoadHouses$Place;)I" } : Jvm.MethodName) prog_1_method_27_code (2 : Nat) (Option.some Jvm.ClassFile.FieldType.int)) ∈ lw_all := lw_g (lw_at lw_m3 134 rfl) rfl
theorem q696 : (Jvm.Cond.methodLink "RoadHouses" (238 : Nat) ({ cls := "RoadHouses", name := "addPerson", desc := "(ILRoadHouses$Person;LRoadHouses$Place;)I" } : Jvm.MethodName)) ∈ lw_all := lw_g (lw_at lw_m3 135 rfl) rfl
theorem q697 : (Jvm.Cond.privateMethod ({ cls := "RoadHouses", name := "addPerson", desc := "(ILRoadHouses$Person;LRoadHouses$Place;)I" } : Jvm.MethodName)) ∈ lw_tbl := lw_at lw_m3 136 rfl
theorem q698 : (Jvm.Cond.instanceMethod ({ cls := "RoadHouses", name := "addPerson", desc := "(ILRoadHouses$Person;LRoadHouses$Place;)I" } : Jvm.MethodName)) ∈ lw_all := lw_g (lw_at lw_m3 137 rfl) rfl
theorem q699 : (Jvm.Cond.code ({ cls := "RoadHouses", name := "addPerson", desc := "(ILRoadHouses$Person;LRoadHouses$Place;)I" } : Jvm.MethodName) prog_1_method_29_code (5 : Nat) (Option.some Jvm.ClassFile.FieldType.int)) ∈ lw_all := lw_g (lw_at lw_m3 138 rfl) rfl
theorem q701 : (Jvm.Cond.methodLink "RoadHouses" (228 : Nat) ({ cls := "RoadHouses$Person", name := "<init>", desc := "(IILRoadHouses$Person;)V" } : Jvm.MethodName)) ∈ lw_all := lw_g (lw_at lw_m3 140 rfl) rfl
theorem q708 : (Jvm.Cond.fieldLinkNest "RoadHouses" (234 : Nat) "RoadHouses$Person" "number" "I" "RoadHouses") ∈ lw_tbl := lw_at lw_m3 147 rfl
theorem q710 : (Jvm.Cond.fieldLinkNest "RoadHouses" (254 : Nat) "RoadHouses$Person" "strength" "I" "RoadHouses") ∈ lw_tbl := lw_at lw_m3 149 rfl
theorem q712 : (Jvm.Cond.fieldLinkNest "RoadHouses" (257 : Nat) "RoadHouses$Person" "of" "LRoadHouses$Person;" "RoadHouses") ∈ lw_tbl := lw_at lw_m3 151 rfl
theorem q714 : (Jvm.Cond.fieldLinkNest "RoadHouses" (231 : Nat) "RoadHouses$Person" "children" "Ljava/util/List;" "RoadHouses") ∈ lw_tbl := lw_at lw_m3 153 rfl
theorem q715 : (Jvm.Cond.fieldLinkNest "RoadHouses" (209 : Nat) "RoadHouses$Person" "place" "LRoadHouses$Place;" "RoadHouses") ∈ lw_tbl := lw_at lw_m3 154 rfl
theorem q716 : (Jvm.Cond.fieldLinkNest "RoadHouses" (205 : Nat) "RoadHouses$Person" "toward" "LRoadHouses$Place;" "RoadHouses") ∈ lw_tbl := lw_at lw_m3 155 rfl
theorem q717 : (Jvm.Cond.fieldLinkNest "RoadHouses" (261 : Nat) "RoadHouses$Person" "comes" "I" "RoadHouses") ∈ lw_tbl := lw_at lw_m3 156 rfl
theorem q718 : (Jvm.Cond.fieldLinkNest "RoadHouses" (212 : Nat) "RoadHouses$Person" "isHidden" "Z" "RoadHouses") ∈ lw_tbl := lw_at lw_m3 157 rfl
theorem q719 : (Jvm.Cond.fieldLinkNest "RoadHouses" (251 : Nat) "RoadHouses$Person" "isTaken" "Z" "RoadHouses") ∈ lw_tbl := lw_at lw_m3 158 rfl
theorem q720 : (Jvm.Cond.fieldLinkNest "RoadHouses" (288 : Nat) "RoadHouses$Person" "isOver" "Z" "RoadHouses") ∈ lw_tbl := lw_at lw_m3 159 rfl
theorem q722 : (Jvm.Cond.fieldLinkNest "RoadHouses" (276 : Nat) "RoadHouses$Person" "scentAt" "LRoadHouses$Place;" "RoadHouses") ∈ lw_tbl := lw_at lw_m3 161 rfl
theorem q723 : (Jvm.Cond.fieldLinkNest "RoadHouses" (279 : Nat) "RoadHouses$Person" "scentTo" "LRoadHouses$Place;" "RoadHouses") ∈ lw_tbl := lw_at lw_m3 162 rfl
theorem q725 : (Jvm.Cond.fieldLinkNest "RoadHouses" (282 : Nat) "RoadHouses$Person" "scentHour" "I" "RoadHouses") ∈ lw_tbl := lw_at lw_m3 164 rfl
theorem q754 : (Jvm.Cond.instanceMethod ({ cls := "RoadHouses", name := "child", desc := "(II)I" } : Jvm.MethodName)) ∈ lw_all := lw_g (lw_at lw_m3 193 rfl) rfl
theorem q755 : (Jvm.Cond.selects "RoadHouses" ({ cls := "RoadHouses", name := "child", desc := "(II)I" } : Jvm.MethodName) ({ cls := "RoadHouses", name := "child", desc := "(II)I" } : Jvm.MethodName)) ∈ lw_all := lw_g (lw_at lw_m3 194 rfl) rfl
theorem q756 : (Jvm.Cond.code ({ cls := "RoadHouses", name := "child", desc := "(II)I" } : Jvm.MethodName) prog_1_method_32_code (4 : Nat) (Option.some Jvm.ClassFile.FieldType.int)) ∈ lw_all := lw_g (lw_at lw_m3 195 rfl) rfl
theorem q757 : (Jvm.Cond.methodLink "RoadHouses" (245 : Nat) ({ cls := "RoadHouses", name := "isPerson", desc := "(I)Z" } : Jvm.MethodName)) ∈ lw_all := lw_g (lw_at lw_m3 196 rfl) rfl
theorem q758 : (Jvm.Cond.privateMethod ({ cls := "RoadHouses", name := "isPerson", desc := "(I)Z" } : Jvm.MethodName)) ∈ lw_tbl := lw_at lw_m3 197 rfl
theorem q759 : (Jvm.Cond.instanceMethod ({ cls := "RoadHouses", name := "isPerson", desc := "(I)Z" } : Jvm.MethodName)) ∈ lw_all := lw_g (lw_at lw_m3 198 rfl) rfl
theorem q760 : (Jvm.Cond.code ({ cls := "RoadHouses", name := "isPerson", desc := "(I)Z" } : Jvm.MethodName) prog_1_method_24_code (2 : Nat) (Option.some Jvm.ClassFile.FieldType.boolean)) ∈ lw_all := lw_g (lw_at lw_m3 199 rfl) rfl
theorem q761 : (Jvm.Cond.methodLink "RoadHouses" (248 : Nat) ({ cls := "RoadHouses$Person", name := "isChild", desc := "()Z" } : Jvm.MethodName)) ∈ lw_all := lw_g (lw_at lw_m3 200 rfl) rfl
theorem q766 : (Jvm.Cond.instanceMethod ({ cls := "RoadHouses", name := "where", desc := "(I)I" } : Jvm.MethodName)) ∈ lw_all := lw_g (lw_at lw_m3 205 rfl) rfl
theorem q767 : (Jvm.Cond.selects "RoadHouses" ({ cls := "RoadHouses", name := "where", desc := "(I)I" } : Jvm.MethodName) ({ cls := "RoadHouses", name := "where", desc := "(I)I" } : Jvm.MethodName)) ∈ lw_all := lw_g (lw_at lw_m3 206 rfl) rfl
theorem q768 : (Jvm.Cond.code ({ cls := "RoadHouses", name := "where", desc := "(I)I" } : Jvm.MethodName) prog_1_method_33_code (3 : Nat) (Option.some Jvm.ClassFile.FieldType.int)) ∈ lw_all := lw_g (lw_at lw_m3 207 rfl) rfl
theorem q770 : (Jvm.Cond.instanceMethod ({ cls := "RoadHouses", name := "told", desc := "(II)I" } : Jvm.MethodName)) ∈ lw_all := lw_g (lw_at lw_m3 209 rfl) rfl
theorem q771 : (Jvm.Cond.selects "RoadHouses" ({ cls := "RoadHouses", name := "told", desc := "(II)I" } : Jvm.MethodName) ({ cls := "RoadHouses", name := "told", desc := "(II)I" } : Jvm.MethodName)) ∈ lw_all := lw_g (lw_at lw_m3 210 rfl) rfl
theorem q772 : (Jvm.Cond.code ({ cls := "RoadHouses", name := "told", desc := "(II)I" } : Jvm.MethodName) prog_1_method_34_code (4 : Nat) (Option.some Jvm.ClassFile.FieldType.int)) ∈ lw_all := lw_g (lw_at lw_m3 211 rfl) rfl
theorem q774 : (Jvm.Cond.instanceMethod ({ cls := "RoadHouses", name := "go", desc := "(II)I" } : Jvm.MethodName)) ∈ lw_all := lw_g (lw_at lw_m3 213 rfl) rfl
theorem q775 : (Jvm.Cond.selects "RoadHouses" ({ cls := "RoadHouses", name := "go", desc := "(II)I" } : Jvm.MethodName) ({ cls := "RoadHouses", name := "go", desc := "(II)I" } : Jvm.MethodName)) ∈ lw_all := lw_g (lw_at lw_m3 214 rfl) rfl
theorem q776 : (Jvm.Cond.code ({ cls := "RoadHouses", name := "go", desc := "(II)I" } : Jvm.MethodName) prog_1_method_37_code (9 : Nat) (Option.some Jvm.ClassFile.FieldType.int)) ∈ lw_all := lw_g (lw_at lw_m3 215 rfl) rfl
theorem q777 : (Jvm.Cond.methodLink "RoadHouses" (268 : Nat) ({ cls := "RoadHouses", name := "canPass", desc := "(LRoadHouses$Place;LRoadHouses$Place;)Z" } : Jvm.MethodName)) ∈ lw_all := lw_g (lw_at lw_m3 216 rfl) rfl
theorem q778 : (Jvm.Cond.privateMethod ({ cls := "RoadHouses", name := "canPass", desc := "(LRoadHouses$Place;LRoadHouses$Place;)Z" } : Jvm.MethodName)) ∈ lw_tbl := lw_at lw_m3 217 rfl
theorem q779 : (Jvm.Cond.instanceMethod ({ cls := "RoadHouses", name := "canPass", desc := "(LRoadHouses$Place;LRoadHouses$Place;)Z" } : Jvm.MethodName)) ∈ lw_all := lw_g (lw_at lw_m3 218 rfl) rfl
theorem q780 : (Jvm.Cond.code ({ cls := "RoadHouses", name := "canPass", desc := "(LRoadHouses$Place;LRoadHouses$Place;)Z" } : Jvm.MethodName) prog_1_method_36_code (3 : Nat) (Option.some Jvm.ClassFile.FieldType.boolean)) ∈ lw_all := lw_g (lw_at lw_m3 219 rfl) rfl
theorem q781 : (Jvm.Cond.methodLink "RoadHouses" (267 : Nat) ({ cls := "RoadHouses$Place", name := "bears", desc := "(I)Z" } : Jvm.MethodName)) ∈ lw_all := lw_g (lw_at lw_m3 220 rfl) rfl
theorem q782 : (Jvm.Cond.methodLink "RoadHouses" (272 : Nat) ({ cls := "RoadHouses", name := "findParty", desc := "(LRoadHouses$Person;)I" } : Jvm.MethodName)) ∈ lw_all := lw_g (lw_at lw_m3 221 rfl) rfl
theorem q783 : (Jvm.Cond.privateMethod ({ cls := "RoadHouses", name := "findParty", desc := "(LRoadHouses$Person;)I" } : Jvm.MethodName)) ∈ lw_tbl := lw_at lw_m3 222 rfl
theorem q784 : (Jvm.Cond.instanceMethod ({ cls := "RoadHouses", name := "findParty", desc := "(LRoadHouses$Person;)I" } : Jvm.MethodName)) ∈ lw_all := lw_g (lw_at lw_m3 223 rfl) rfl
theorem q785 : (Jvm.Cond.code ({ cls := "RoadHouses", name := "findParty", desc := "(LRoadHouses$Person;)I" } : Jvm.MethodName) prog_1_method_35_code (5 : Nat) (Option.some Jvm.ClassFile.FieldType.int)) ∈ lw_all := lw_g (lw_at lw_m3 224 rfl) rfl
theorem q786 : (Jvm.Cond.interfaceEntry "RoadHouses" (264 : Nat)) ∈ lw_tbl := lw_at lw_m3 225 rfl
theorem q787 : (Jvm.Cond.methodLink "RoadHouses" (264 : Nat) ({ cls := "java/util/List", name := "clear", desc := "()V" } : Jvm.MethodName)) ∈ lw_all := lw_g (lw_at lw_m3 226 rfl) rfl
theorem q796 : (Jvm.Cond.instanceMethod ({ cls := "RoadHouses", name := "hide", desc := "(IZ)I" } : Jvm.MethodName)) ∈ lw_all := lw_g (lw_at lw_m3 235 rfl) rfl
theorem q797 : (Jvm.Cond.selects "RoadHouses" ({ cls := "RoadHouses", name := "hide", desc := "(IZ)I" } : Jvm.MethodName) ({ cls := "RoadHouses", name := "hide", desc := "(IZ)I" } : Jvm.MethodName)) ∈ lw_all := lw_g (lw_at lw_m3 236 rfl) rfl
theorem q798 : (Jvm.Cond.code ({ cls := "RoadHouses", name := "hide", desc := "(IZ)I" } : Jvm.MethodName) prog_1_method_38_code (7 : Nat) (Option.some Jvm.ClassFile.FieldType.int)) ∈ lw_all := lw_g (lw_at lw_m3 237 rfl) rfl
theorem q800 : (Jvm.Cond.instanceMethod ({ cls := "RoadHouses", name := "over", desc := "(I)I" } : Jvm.MethodName)) ∈ lw_all := lw_g (lw_at lw_m3 239 rfl) rfl
theorem q801 : (Jvm.Cond.selects "RoadHouses" ({ cls := "RoadHouses", name := "over", desc := "(I)I" } : Jvm.MethodName) ({ cls := "RoadHouses", name := "over", desc := "(I)I" } : Jvm.MethodName)) ∈ lw_all := lw_g (lw_at lw_m4 0 rfl) rfl
theorem q802 : (Jvm.Cond.code ({ cls := "RoadHouses", name := "over", desc := "(I)I" } : Jvm.MethodName) prog_1_method_39_code (4 : Nat) (Option.some Jvm.ClassFile.FieldType.int)) ∈ lw_all := lw_g (lw_at lw_m4 1 rfl) rfl
theorem q804 : (Jvm.Cond.instanceMethod ({ cls := "RoadHouses", name := "hour", desc := "(I)I" } : Jvm.MethodName)) ∈ lw_all := lw_g (lw_at lw_m4 3 rfl) rfl
theorem q805 : (Jvm.Cond.selects "RoadHouses" ({ cls := "RoadHouses", name := "hour", desc := "(I)I" } : Jvm.MethodName) ({ cls := "RoadHouses", name := "hour", desc := "(I)I" } : Jvm.MethodName)) ∈ lw_all := lw_g (lw_at lw_m4 4 rfl) rfl
theorem q806 : (Jvm.Cond.code ({ cls := "RoadHouses", name := "hour", desc := "(I)I" } : Jvm.MethodName) prog_1_method_40_code (4 : Nat) (Option.some Jvm.ClassFile.FieldType.int)) ∈ lw_all := lw_g (lw_at lw_m4 5 rfl) rfl
theorem q808 : (Jvm.Cond.instanceMethod ({ cls := "RoadHouses", name := "rain", desc := "()I" } : Jvm.MethodName)) ∈ lw_all := lw_g (lw_at lw_m4 7 rfl) rfl
theorem q809 : (Jvm.Cond.selects "RoadHouses" ({ cls := "RoadHouses", name := "rain", desc := "()I" } : Jvm.MethodName) ({ cls := "RoadHouses", name := "rain", desc := "()I" } : Jvm.MethodName)) ∈ lw_all := lw_g (lw_at lw_m4 8 rfl) rfl
theorem q810 : (Jvm.Cond.code ({ cls := "RoadHouses", name := "rain", desc := "()I" } : Jvm.MethodName) prog_1_method_41_code (3 : Nat) (Option.some Jvm.ClassFile.FieldType.int)) ∈ lw_all := lw_g (lw_at lw_m4 9 rfl) rfl
theorem q811 : (Jvm.Cond.methodLink "RoadHouses" (291 : Nat) ({ cls := "RoadHouses$Person", name := "hasScent", desc := "(I)Z" } : Jvm.MethodName)) ∈ lw_all := lw_g (lw_at lw_m4 10 rfl) rfl
theorem q816 : (Jvm.Cond.instanceMethod ({ cls := "RoadHouses", name := "hunter", desc := "(I)I" } : Jvm.MethodName)) ∈ lw_all := lw_g (lw_at lw_m4 15 rfl) rfl
theorem q817 : (Jvm.Cond.selects "RoadHouses" ({ cls := "RoadHouses", name := "hunter", desc := "(I)I" } : Jvm.MethodName) ({ cls := "RoadHouses", name := "hunter", desc := "(I)I" } : Jvm.MethodName)) ∈ lw_all := lw_g (lw_at lw_m4 16 rfl) rfl
theorem q818 : (Jvm.Cond.code ({ cls := "RoadHouses", name := "hunter", desc := "(I)I" } : Jvm.MethodName) prog_1_method_43_code (3 : Nat) (Option.some Jvm.ClassFile.FieldType.int)) ∈ lw_all := lw_g (lw_at lw_m4 17 rfl) rfl
theorem q819 : (Jvm.Cond.classLink "RoadHouses" (294 : Nat) "RoadHouses$Hunter") ∈ lw_all := lw_g (lw_at lw_m4 18 rfl) rfl
theorem q821 : (Jvm.Cond.methodLinkNest "RoadHouses" (296 : Nat) ({ cls := "RoadHouses$Hunter", name := "<init>", desc := "()V" } : Jvm.MethodName) "RoadHouses") ∈ lw_tbl := lw_at lw_m4 20 rfl
theorem q825 : (Jvm.Cond.fieldLinkNest "RoadHouses" (297 : Nat) "RoadHouses$Hunter" "place" "LRoadHouses$Place;" "RoadHouses") ∈ lw_tbl := lw_at lw_m4 24 rfl
theorem q826 : (Jvm.Cond.fieldLinkNest "RoadHouses" (304 : Nat) "RoadHouses$Hunter" "warrant" "I" "RoadHouses") ∈ lw_tbl := lw_at lw_m4 25 rfl
theorem q833 : (Jvm.Cond.instanceMethod ({ cls := "RoadHouses", name := "ride", desc := "(II)I" } : Jvm.MethodName)) ∈ lw_all := lw_g (lw_at lw_m4 32 rfl) rfl
theorem q834 : (Jvm.Cond.selects "RoadHouses" ({ cls := "RoadHouses", name := "ride", desc := "(II)I" } : Jvm.MethodName) ({ cls := "RoadHouses", name := "ride", desc := "(II)I" } : Jvm.MethodName)) ∈ lw_all := lw_g (lw_at lw_m4 33 rfl) rfl
theorem q835 : (Jvm.Cond.code ({ cls := "RoadHouses", name := "ride", desc := "(II)I" } : Jvm.MethodName) prog_1_method_44_code (4 : Nat) (Option.some Jvm.ClassFile.FieldType.int)) ∈ lw_all := lw_g (lw_at lw_m4 34 rfl) rfl
theorem q836 : (Jvm.Cond.methodLink "RoadHouses" (298 : Nat) ({ cls := "RoadHouses", name := "isHunter", desc := "(I)Z" } : Jvm.MethodName)) ∈ lw_all := lw_g (lw_at lw_m4 35 rfl) rfl
theorem q837 : (Jvm.Cond.privateMethod ({ cls := "RoadHouses", name := "isHunter", desc := "(I)Z" } : Jvm.MethodName)) ∈ lw_tbl := lw_at lw_m4 36 rfl
theorem q838 : (Jvm.Cond.instanceMethod ({ cls := "RoadHouses", name := "isHunter", desc := "(I)Z" } : Jvm.MethodName)) ∈ lw_all := lw_g (lw_at lw_m4 37 rfl) rfl
theorem q839 : (Jvm.Cond.code ({ cls := "RoadHouses", name := "isHunter", desc := "(I)Z" } : Jvm.MethodName) prog_1_method_42_code (2 : Nat) (Option.some Jvm.ClassFile.FieldType.boolean)) ∈ lw_all := lw_g (lw_at lw_m4 38 rfl) rfl
theorem q841 : (Jvm.Cond.instanceMethod ({ cls := "RoadHouses", name := "warrant", desc := "(II)I" } : Jvm.MethodName)) ∈ lw_all := lw_g (lw_at lw_m4 40 rfl) rfl
theorem q842 : (Jvm.Cond.selects "RoadHouses" ({ cls := "RoadHouses", name := "warrant", desc := "(II)I" } : Jvm.MethodName) ({ cls := "RoadHouses", name := "warrant", desc := "(II)I" } : Jvm.MethodName)) ∈ lw_all := lw_g (lw_at lw_m4 41 rfl) rfl
theorem q843 : (Jvm.Cond.code ({ cls := "RoadHouses", name := "warrant", desc := "(II)I" } : Jvm.MethodName) prog_1_method_45_code (4 : Nat) (Option.some Jvm.ClassFile.FieldType.int)) ∈ lw_all := lw_g (lw_at lw_m4 42 rfl) rfl
theorem q844 : (Jvm.Cond.methodLink "RoadHouses" (301 : Nat) ({ cls := "RoadHouses", name := "isPersons", desc := "(I)Z" } : Jvm.MethodName)) ∈ lw_all := lw_g (lw_at lw_m4 43 rfl) rfl
theorem q845 : (Jvm.Cond.privateMethod ({ cls := "RoadHouses", name := "isPersons", desc := "(I)Z" } : Jvm.MethodName)) ∈ lw_tbl := lw_at lw_m4 44 rfl
theorem q846 : (Jvm.Cond.instanceMethod ({ cls := "RoadHouses", name := "isPersons", desc := "(I)Z" } : Jvm.MethodName)) ∈ lw_all := lw_g (lw_at lw_m4 45 rfl) rfl
theorem q847 : (Jvm.Cond.code ({ cls := "RoadHouses", name := "isPersons", desc := "(I)Z" } : Jvm.MethodName) prog_1_method_25_code (2 : Nat) (Option.some Jvm.ClassFile.FieldType.boolean)) ∈ lw_all := lw_g (lw_at lw_m4 46 rfl) rfl
theorem q849 : (Jvm.Cond.instanceMethod ({ cls := "RoadHouses", name := "search", desc := "(II)I" } : Jvm.MethodName)) ∈ lw_all := lw_g (lw_at lw_m4 48 rfl) rfl
theorem q850 : (Jvm.Cond.selects "RoadHouses" ({ cls := "RoadHouses", name := "search", desc := "(II)I" } : Jvm.MethodName) ({ cls := "RoadHouses", name := "search", desc := "(II)I" } : Jvm.MethodName)) ∈ lw_all := lw_g (lw_at lw_m4 49 rfl) rfl
theorem q851 : (Jvm.Cond.code ({ cls := "RoadHouses", name := "search", desc := "(II)I" } : Jvm.MethodName) prog_1_method_47_code (6 : Nat) (Option.some Jvm.ClassFile.FieldType.int)) ∈ lw_all := lw_g (lw_at lw_m4 50 rfl) rfl
theorem q852 : (Jvm.Cond.methodLink "RoadHouses" (317 : Nat) ({ cls := "RoadHouses", name := "isFound", desc := "(LRoadHouses$Person;LRoadHouses$Hunter;I)Z" } : Jvm.MethodName)) ∈ lw_all := lw_g (lw_at lw_m4 51 rfl) rfl
theorem q853 : (Jvm.Cond.privateMethod ({ cls := "RoadHouses", name := "isFound", desc := "(LRoadHouses$Person;LRoadHouses$Hunter;I)Z" } : Jvm.MethodName)) ∈ lw_tbl := lw_at lw_m4 52 rfl
theorem q854 : (Jvm.Cond.instanceMethod ({ cls := "RoadHouses", name := "isFound", desc := "(LRoadHouses$Person;LRoadHouses$Hunter;I)Z" } : Jvm.MethodName)) ∈ lw_all := lw_g (lw_at lw_m4 53 rfl) rfl
theorem q855 : (Jvm.Cond.code ({ cls := "RoadHouses", name := "isFound", desc := "(LRoadHouses$Person;LRoadHouses$Hunter;I)Z" } : Jvm.MethodName) prog_1_method_46_code (7 : Nat) (Option.some Jvm.ClassFile.FieldType.boolean)) ∈ lw_all := lw_g (lw_at lw_m4 54 rfl) rfl
theorem q856 : (Jvm.Cond.methodLink "RoadHouses" (307 : Nat) ({ cls := "RoadHouses", name := "lawFor", desc := "(CLRoadHouses$Person;LRoadHouses$Place;I)I" } : Jvm.MethodName)) ∈ lw_all := lw_g (lw_at lw_m4 55 rfl) rfl
theorem q857 : (Jvm.Cond.privateMethod ({ cls := "RoadHouses", name := "lawFor", desc := "(CLRoadHouses$Person;LRoadHouses$Place;I)I" } : Jvm.MethodName)) ∈ lw_tbl := lw_at lw_m4 56 rfl
theorem q858 : (Jvm.Cond.instanceMethod ({ cls := "RoadHouses", name := "lawFor", desc := "(CLRoadHouses$Person;LRoadHouses$Place;I)I" } : Jvm.MethodName)) ∈ lw_all := lw_g (lw_at lw_m4 57 rfl) rfl
theorem q859 : (Jvm.Cond.code ({ cls := "RoadHouses", name := "lawFor", desc := "(CLRoadHouses$Person;LRoadHouses$Place;I)I" } : Jvm.MethodName) prog_1_method_63_code (8 : Nat) (Option.some Jvm.ClassFile.FieldType.int)) ∈ lw_all := lw_g (lw_at lw_m4 58 rfl) rfl
theorem q860 : (Jvm.Cond.classLink "RoadHouses" (382 : Nat) "RoadHouses$Law") ∈ lw_all := lw_g (lw_at lw_m4 59 rfl) rfl
theorem q861 : (Jvm.Cond.methodLink "RoadHouses" (415 : Nat) ({ cls := "RoadHouses$Law", name := "isInForce", desc := "(I)Z" } : Jvm.MethodName)) ∈ lw_all := lw_g (lw_at lw_m4 60 rfl) rfl
theorem q866 : (Jvm.Cond.methodLink "RoadHouses" (418 : Nat) ({ cls := "RoadHouses$Test", name := "holds", desc := "([I)Z" } : Jvm.MethodName)) ∈ lw_all := lw_g (lw_at lw_m4 65 rfl) rfl
theorem q883 : (Jvm.Cond.methodLink "RoadHouses" (314 : Nat) ({ cls := "RoadHouses$Place", name := "isSeenBy", desc := "(I)Z" } : Jvm.MethodName)) ∈ lw_all := lw_g (lw_at lw_m4 82 rfl) rfl
theorem q897 : (Jvm.Cond.classLink "RoadHouses" (321 : Nat) "RoadHouses$Raid") ∈ lw_all := lw_g (lw_at lw_m4 96 rfl) rfl
theorem q899 : (Jvm.Cond.methodLink "RoadHouses" (323 : Nat) ({ cls := "RoadHouses$Raid", name := "<init>", desc := "(LRoadHouses$Place;I)V" } : Jvm.MethodName)) ∈ lw_all := lw_g (lw_at lw_m4 98 rfl) rfl
theorem q904 : (Jvm.Cond.fieldLinkNest "RoadHouses" (453 : Nat) "RoadHouses$Raid" "place" "LRoadHouses$Place;" "RoadHouses") ∈ lw_tbl := lw_at lw_m4 103 rfl
theorem q906 : (Jvm.Cond.fieldLinkNest "RoadHouses" (450 : Nat) "RoadHouses$Raid" "hour" "I" "RoadHouses") ∈ lw_tbl := lw_at lw_m4 105 rfl
theorem q913 : (Jvm.Cond.instanceMethod ({ cls := "RoadHouses", name := "follow", desc := "(I)I" } : Jvm.MethodName)) ∈ lw_all := lw_g (lw_at lw_m4 112 rfl) rfl
theorem q914 : (Jvm.Cond.selects "RoadHouses" ({ cls := "RoadHouses", name := "follow", desc := "(I)I" } : Jvm.MethodName) ({ cls := "RoadHouses", name := "follow", desc := "(I)I" } : Jvm.MethodName)) ∈ lw_all := lw_g (lw_at lw_m4 113 rfl) rfl
theorem q915 : (Jvm.Cond.code ({ cls := "RoadHouses", name := "follow", desc := "(I)I" } : Jvm.MethodName) prog_1_method_48_code (7 : Nat) (Option.some Jvm.ClassFile.FieldType.int)) ∈ lw_all := lw_g (lw_at lw_m4 114 rfl) rfl
theorem q917 : (Jvm.Cond.instanceMethod ({ cls := "RoadHouses", name := "type", desc := "(JI)I" } : Jvm.MethodName)) ∈ lw_all := lw_g (lw_at lw_m4 116 rfl) rfl
theorem q918 : (Jvm.Cond.selects "RoadHouses" ({ cls := "RoadHouses", name := "type", desc := "(JI)I" } : Jvm.MethodName) ({ cls := "RoadHouses", name := "type", desc := "(JI)I" } : Jvm.MethodName)) ∈ lw_all := lw_g (lw_at lw_m4 117 rfl) rfl
theorem q919 : (Jvm.Cond.code ({ cls := "RoadHouses", name := "type", desc := "(JI)I" } : Jvm.MethodName) prog_1_method_49_code (5 : Nat) (Option.some Jvm.ClassFile.FieldType.int)) ∈ lw_all := lw_g (lw_at lw_m4 118 rfl) rfl
theorem q920 : (Jvm.Cond.constantLong "RoadHouses" (326 : Nat) (255 : Int64)) ∈ lw_all := lw_g (lw_at lw_m4 119 rfl) rfl
theorem q922 : (Jvm.Cond.instanceMethod ({ cls := "RoadHouses", name := "law", desc := "()I" } : Jvm.MethodName)) ∈ lw_all := lw_g (lw_at lw_m4 121 rfl) rfl
theorem q923 : (Jvm.Cond.selects "RoadHouses" ({ cls := "RoadHouses", name := "law", desc := "()I" } : Jvm.MethodName) ({ cls := "RoadHouses", name := "law", desc := "()I" } : Jvm.MethodName)) ∈ lw_all := lw_g (lw_at lw_m4 122 rfl) rfl
theorem q924 : (Jvm.Cond.codeWith ({ cls := "RoadHouses", name := "law", desc := "()I" } : Jvm.MethodName) prog_1_method_58_code (3 : Nat) (Option.some Jvm.ClassFile.FieldType.int) [((0 : Nat), (5 : Nat), (8 : Nat), (43 : Nat))]) ∈ lw_all := lw_g (lw_at lw_m4 123 rfl) rfl
theorem q925 : (Jvm.Cond.methodLink "RoadHouses" (396 : Nat) ({ cls := "RoadHouses", name := "readLaw", desc := "()LRoadHouses$Law;" } : Jvm.MethodName)) ∈ lw_all := lw_g (lw_at lw_m4 124 rfl) rfl
theorem q926 : (Jvm.Cond.privateMethod ({ cls := "RoadHouses", name := "readLaw", desc := "()LRoadHouses$Law;" } : Jvm.MethodName)) ∈ lw_tbl := lw_at lw_m4 125 rfl
theorem q927 : (Jvm.Cond.instanceMethod ({ cls := "RoadHouses", name := "readLaw", desc := "()LRoadHouses$Law;" } : Jvm.MethodName)) ∈ lw_all := lw_g (lw_at lw_m4 126 rfl) rfl
theorem q928 : (Jvm.Cond.code ({ cls := "RoadHouses", name := "readLaw", desc := "()LRoadHouses$Law;" } : Jvm.MethodName) prog_1_method_57_code (3 : Nat) (Option.some (Jvm.ClassFile.FieldType.object "RoadHouses$Law"))) ∈ lw_all := lw_g (lw_at lw_m4 127 rfl) rfl
theorem q930 : (Jvm.Cond.methodLinkNest "RoadHouses" (384 : Nat) ({ cls := "RoadHouses$Law", name := "<init>", desc := "()V" } : Jvm.MethodName) "RoadHouses") ∈ lw_tbl := lw_at lw_m4 129 rfl
theorem q934 : (Jvm.Cond.fieldLinkNest "RoadHouses" (385 : Nat) "RoadHouses$Law" "kind" "I" "RoadHouses") ∈ lw_tbl := lw_at lw_m4 133 rfl
theorem q935 : (Jvm.Cond.fieldLinkNest "RoadHouses" (389 : Nat) "RoadHouses$Law" "lands" "I" "RoadHouses") ∈ lw_tbl := lw_at lw_m4 134 rfl
theorem q936 : (Jvm.Cond.fieldLinkNest "RoadHouses" (392 : Nat) "RoadHouses$Law" "test" "LRoadHouses$Test;" "RoadHouses") ∈ lw_tbl := lw_at lw_m4 135 rfl
theorem q938 : (Jvm.Cond.fieldLinkNest "RoadHouses" (406 : Nat) "RoadHouses$Law" "from" "I" "RoadHouses") ∈ lw_tbl := lw_at lw_m4 137 rfl
theorem q940 : (Jvm.Cond.fieldLinkNest "RoadHouses" (409 : Nat) "RoadHouses$Law" "to" "I" "RoadHouses") ∈ lw_tbl := lw_at lw_m4 139 rfl
theorem q942 : (Jvm.Cond.fieldLinkNest "RoadHouses" (412 : Nat) "RoadHouses$Law" "struck" "I" "RoadHouses") ∈ lw_tbl := lw_at lw_m4 141 rfl
theorem q956 : (Jvm.Cond.methodLink "RoadHouses" (336 : Nat) ({ cls := "RoadHouses", name := "next", desc := "()I" } : Jvm.MethodName)) ∈ lw_all := lw_g (lw_at lw_m4 155 rfl) rfl
theorem q957 : (Jvm.Cond.privateMethod ({ cls := "RoadHouses", name := "next", desc := "()I" } : Jvm.MethodName)) ∈ lw_tbl := lw_at lw_m4 156 rfl
theorem q958 : (Jvm.Cond.instanceMethod ({ cls := "RoadHouses", name := "next", desc := "()I" } : Jvm.MethodName)) ∈ lw_all := lw_g (lw_at lw_m4 157 rfl) rfl
theorem q959 : (Jvm.Cond.code ({ cls := "RoadHouses", name := "next", desc := "()I" } : Jvm.MethodName) prog_1_method_50_code (1 : Nat) (Option.some Jvm.ClassFile.FieldType.int)) ∈ lw_all := lw_g (lw_at lw_m4 158 rfl) rfl
theorem q960 : (Jvm.Cond.stringRef "RoadHouses" (387 : Nat) "trc") ∈ lw_tbl := lw_at lw_m4 159 rfl
theorem q961 : (Jvm.Cond.methodLink "RoadHouses" (345 : Nat) ({ cls := "java/lang/String", name := "indexOf", desc := "(I)I" } : Jvm.MethodName)) ∈ lw_all := lw_g (lw_at lw_m4 160 rfl) rfl
theorem q1043 : (Jvm.Cond.methodLink "RoadHouses" (339 : Nat) ({ cls := "RoadHouses", name := "wrong", desc := "(I)LRoadHouses$Fault;" } : Jvm.MethodName)) ∈ lw_all := lw_g (lw_at lw_m5 2 rfl) rfl
theorem q1044 : (Jvm.Cond.privateMethod ({ cls := "RoadHouses", name := "wrong", desc := "(I)LRoadHouses$Fault;" } : Jvm.MethodName)) ∈ lw_tbl := lw_at lw_m5 3 rfl
theorem q1045 : (Jvm.Cond.instanceMethod ({ cls := "RoadHouses", name := "wrong", desc := "(I)LRoadHouses$Fault;" } : Jvm.MethodName)) ∈ lw_all := lw_g (lw_at lw_m5 4 rfl) rfl
theorem q1046 : (Jvm.Cond.code ({ cls := "RoadHouses", name := "wrong", desc := "(I)LRoadHouses$Fault;" } : Jvm.MethodName) prog_1_method_51_code (2 : Nat) (Option.some (Jvm.ClassFile.FieldType.object "RoadHouses$Fault"))) ∈ lw_all := lw_g (lw_at lw_m5 5 rfl) rfl
theorem q1047 : (Jvm.Cond.methodLink "RoadHouses" (357 : Nat) ({ cls := "RoadHouses", name := "take", desc := "(I)V" } : Jvm.MethodName)) ∈ lw_all := lw_g (lw_at lw_m5 6 rfl) rfl
theorem q1048 : (Jvm.Cond.privateMethod ({ cls := "RoadHouses", name := "take", desc := "(I)V" } : Jvm.MethodName)) ∈ lw_tbl := lw_at lw_m5 7 rfl
theorem q1049 : (Jvm.Cond.instanceMethod ({ cls := "RoadHouses", name := "take", desc := "(I)V" } : Jvm.MethodName)) ∈ lw_all := lw_g (lw_at lw_m5 8 rfl) rfl
theorem q1050 : (Jvm.Cond.code ({ cls := "RoadHouses", name := "take", desc := "(I)V" } : Jvm.MethodName) prog_1_method_52_code (2 : Nat) (Option.none : Option Jvm.ClassFile.FieldType)) ∈ lw_all := lw_g (lw_at lw_m5 9 rfl) rfl
theorem q1051 : (Jvm.Cond.methodLink "RoadHouses" (353 : Nat) ({ cls := "RoadHouses", name := "readTest", desc := "()LRoadHouses$Test;" } : Jvm.MethodName)) ∈ lw_all := lw_g (lw_at lw_m5 10 rfl) rfl
theorem q1052 : (Jvm.Cond.privateMethod ({ cls := "RoadHouses", name := "readTest", desc := "()LRoadHouses$Test;" } : Jvm.MethodName)) ∈ lw_tbl := lw_at lw_m5 11 rfl
theorem q1053 : (Jvm.Cond.instanceMethod ({ cls := "RoadHouses", name := "readTest", desc := "()LRoadHouses$Test;" } : Jvm.MethodName)) ∈ lw_all := lw_g (lw_at lw_m5 12 rfl) rfl
theorem q1054 : (Jvm.Cond.code ({ cls := "RoadHouses", name := "readTest", desc := "()LRoadHouses$Test;" } : Jvm.MethodName) prog_1_method_56_code (2 : Nat) (Option.some (Jvm.ClassFile.FieldType.object "RoadHouses$Test"))) ∈ lw_all := lw_g (lw_at lw_m5 13 rfl) rfl
theorem q1055 : (Jvm.Cond.methodLink "RoadHouses" (379 : Nat) ({ cls := "RoadHouses", name := "readCase", desc := "()LRoadHouses$Test;" } : Jvm.MethodName)) ∈ lw_all := lw_g (lw_at lw_m5 14 rfl) rfl
theorem q1056 : (Jvm.Cond.privateMethod ({ cls := "RoadHouses", name := "readCase", desc := "()LRoadHouses$Test;" } : Jvm.MethodName)) ∈ lw_tbl := lw_at lw_m5 15 rfl
theorem q1057 : (Jvm.Cond.instanceMethod ({ cls := "RoadHouses", name := "readCase", desc := "()LRoadHouses$Test;" } : Jvm.MethodName)) ∈ lw_all := lw_g (lw_at lw_m5 16 rfl) rfl
theorem q1058 : (Jvm.Cond.code ({ cls := "RoadHouses", name := "readCase", desc := "()LRoadHouses$Test;" } : Jvm.MethodName) prog_1_method_55_code (2 : Nat) (Option.some (Jvm.ClassFile.FieldType.object "RoadHouses$Test"))) ∈ lw_all := lw_g (lw_at lw_m5 17 rfl) rfl
theorem q1059 : (Jvm.Cond.methodLink "RoadHouses" (371 : Nat) ({ cls := "RoadHouses", name := "readClaim", desc := "()LRoadHouses$Test;" } : Jvm.MethodName)) ∈ lw_all := lw_g (lw_at lw_m5 18 rfl) rfl
theorem q1060 : (Jvm.Cond.privateMethod ({ cls := "RoadHouses", name := "readClaim", desc := "()LRoadHouses$Test;" } : Jvm.MethodName)) ∈ lw_tbl := lw_at lw_m5 19 rfl
theorem q1061 : (Jvm.Cond.instanceMethod ({ cls := "RoadHouses", name := "readClaim", desc := "()LRoadHouses$Test;" } : Jvm.MethodName)) ∈ lw_all := lw_g (lw_at lw_m5 20 rfl) rfl
theorem q1062 : (Jvm.Cond.code ({ cls := "RoadHouses", name := "readClaim", desc := "()LRoadHouses$Test;" } : Jvm.MethodName) prog_1_method_54_code (5 : Nat) (Option.some (Jvm.ClassFile.FieldType.object "RoadHouses$Test"))) ∈ lw_all := lw_g (lw_at lw_m5 21 rfl) rfl
theorem q1063 : (Jvm.Cond.methodLink "RoadHouses" (360 : Nat) ({ cls := "RoadHouses", name := "readWord", desc := "()I" } : Jvm.MethodName)) ∈ lw_all := lw_g (lw_at lw_m5 22 rfl) rfl
theorem q1064 : (Jvm.Cond.privateMethod ({ cls := "RoadHouses", name := "readWord", desc := "()I" } : Jvm.MethodName)) ∈ lw_tbl := lw_at lw_m5 23 rfl
theorem q1065 : (Jvm.Cond.instanceMethod ({ cls := "RoadHouses", name := "readWord", desc := "()I" } : Jvm.MethodName)) ∈ lw_all := lw_g (lw_at lw_m5 24 rfl) rfl
theorem q1066 : (Jvm.Cond.code ({ cls := "RoadHouses", name := "readWord", desc := "()I" } : Jvm.MethodName) prog_1_method_53_code (5 : Nat) (Option.some Jvm.ClassFile.FieldType.int)) ∈ lw_all := lw_g (lw_at lw_m5 25 rfl) rfl
theorem q1067 : (Jvm.Cond.stringRef "RoadHouses" (343 : Nat) "skdnbw") ∈ lw_tbl := lw_at lw_m5 26 rfl
theorem q1068 : (Jvm.Cond.classLink "RoadHouses" (363 : Nat) "RoadHouses$Claim") ∈ lw_all := lw_g (lw_at lw_m5 27 rfl) rfl
theorem q1070 : (Jvm.Cond.methodLink "RoadHouses" (365 : Nat) ({ cls := "RoadHouses$Claim", name := "<init>", desc := "(III)V" } : Jvm.MethodName)) ∈ lw_all := lw_g (lw_at lw_m5 29 rfl) rfl
theorem q1087 : (Jvm.Cond.classLink "RoadHouses" (366 : Nat) "RoadHouses$Turned") ∈ lw_all := lw_g (lw_at lw_m5 46 rfl) rfl
theorem q1089 : (Jvm.Cond.methodLink "RoadHouses" (368 : Nat) ({ cls := "RoadHouses$Turned", name := "<init>", desc := "(LRoadHouses$Test;)V" } : Jvm.MethodName)) ∈ lw_all := lw_g (lw_at lw_m5 48 rfl) rfl
theorem q1097 : (Jvm.Cond.classLink "RoadHouses" (374 : Nat) "RoadHouses$Joined") ∈ lw_all := lw_g (lw_at lw_m5 56 rfl) rfl
theorem q1099 : (Jvm.Cond.methodLink "RoadHouses" (376 : Nat) ({ cls := "RoadHouses$Joined", name := "<init>", desc := "(LRoadHouses$Test;ZLRoadHouses$Test;)V" } : Jvm.MethodName)) ∈ lw_all := lw_g (lw_at lw_m5 58 rfl) rfl
theorem q1114 : (Jvm.Cond.instanceMethod ({ cls := "RoadHouses", name := "force", desc := "(III)I" } : Jvm.MethodName)) ∈ lw_all := lw_g (lw_at lw_m5 73 rfl) rfl
theorem q1115 : (Jvm.Cond.selects "RoadHouses" ({ cls := "RoadHouses", name := "force", desc := "(III)I" } : Jvm.MethodName) ({ cls := "RoadHouses", name := "force", desc := "(III)I" } : Jvm.MethodName)) ∈ lw_all := lw_g (lw_at lw_m5 74 rfl) rfl
theorem q1116 : (Jvm.Cond.code ({ cls := "RoadHouses", name := "force", desc := "(III)I" } : Jvm.MethodName) prog_1_method_61_code (4 : Nat) (Option.some Jvm.ClassFile.FieldType.int)) ∈ lw_all := lw_g (lw_at lw_m5 75 rfl) rfl
theorem q1117 : (Jvm.Cond.methodLink "RoadHouses" (400 : Nat) ({ cls := "RoadHouses", name := "isLaw", desc := "(I)Z" } : Jvm.MethodName)) ∈ lw_all := lw_g (lw_at lw_m5 76 rfl) rfl
theorem q1118 : (Jvm.Cond.privateMethod ({ cls := "RoadHouses", name := "isLaw", desc := "(I)Z" } : Jvm.MethodName)) ∈ lw_tbl := lw_at lw_m5 77 rfl
theorem q1119 : (Jvm.Cond.instanceMethod ({ cls := "RoadHouses", name := "isLaw", desc := "(I)Z" } : Jvm.MethodName)) ∈ lw_all := lw_g (lw_at lw_m5 78 rfl) rfl
theorem q1120 : (Jvm.Cond.code ({ cls := "RoadHouses", name := "isLaw", desc := "(I)Z" } : Jvm.MethodName) prog_1_method_59_code (2 : Nat) (Option.some Jvm.ClassFile.FieldType.boolean)) ∈ lw_all := lw_g (lw_at lw_m5 79 rfl) rfl
theorem q1121 : (Jvm.Cond.methodLink "RoadHouses" (403 : Nat) ({ cls := "RoadHouses", name := "isDay", desc := "(I)Z" } : Jvm.MethodName)) ∈ lw_all := lw_g (lw_at lw_m5 80 rfl) rfl
theorem q1122 : (Jvm.Cond.static ({ cls := "RoadHouses", name := "isDay", desc := "(I)Z" } : Jvm.MethodName)) ∈ lw_all := lw_g (lw_at lw_m5 81 rfl) rfl
theorem q1123 : (Jvm.Cond.code ({ cls := "RoadHouses", name := "isDay", desc := "(I)Z" } : Jvm.MethodName) prog_1_method_60_code (1 : Nat) (Option.some Jvm.ClassFile.FieldType.boolean)) ∈ lw_all := lw_g (lw_at lw_m5 82 rfl) rfl
theorem q1125 : (Jvm.Cond.instanceMethod ({ cls := "RoadHouses", name := "strike", desc := "(II)I" } : Jvm.MethodName)) ∈ lw_all := lw_g (lw_at lw_m5 84 rfl) rfl
theorem q1126 : (Jvm.Cond.selects "RoadHouses" ({ cls := "RoadHouses", name := "strike", desc := "(II)I" } : Jvm.MethodName) ({ cls := "RoadHouses", name := "strike", desc := "(II)I" } : Jvm.MethodName)) ∈ lw_all := lw_g (lw_at lw_m5 85 rfl) rfl
theorem q1127 : (Jvm.Cond.code ({ cls := "RoadHouses", name := "strike", desc := "(II)I" } : Jvm.MethodName) prog_1_method_62_code (3 : Nat) (Option.some Jvm.ClassFile.FieldType.int)) ∈ lw_all := lw_g (lw_at lw_m5 86 rfl) rfl
theorem q1129 : (Jvm.Cond.instanceMethod ({ cls := "RoadHouses", name := "why", desc := "(IIII)I" } : Jvm.MethodName)) ∈ lw_all := lw_g (lw_at lw_m5 88 rfl) rfl
theorem q1130 : (Jvm.Cond.selects "RoadHouses" ({ cls := "RoadHouses", name := "why", desc := "(IIII)I" } : Jvm.MethodName) ({ cls := "RoadHouses", name := "why", desc := "(IIII)I" } : Jvm.MethodName)) ∈ lw_all := lw_g (lw_at lw_m5 89 rfl) rfl
theorem q1131 : (Jvm.Cond.code ({ cls := "RoadHouses", name := "why", desc := "(IIII)I" } : Jvm.MethodName) prog_1_method_64_code (5 : Nat) (Option.some Jvm.ClassFile.FieldType.int)) ∈ lw_all := lw_g (lw_at lw_m5 90 rfl) rfl
theorem q1132 : (Jvm.Cond.methodLink "RoadHouses" (424 : Nat) ({ cls := "java/lang/String", name := "charAt", desc := "(I)C" } : Jvm.MethodName)) ∈ lw_all := lw_g (lw_at lw_m5 91 rfl) rfl
theorem q1151 : (Jvm.Cond.instanceMethod ({ cls := "RoadHouses", name := "tonight", desc := "(I)I" } : Jvm.MethodName)) ∈ lw_all := lw_g (lw_at lw_m5 110 rfl) rfl
theorem q1152 : (Jvm.Cond.selects "RoadHouses" ({ cls := "RoadHouses", name := "tonight", desc := "(I)I" } : Jvm.MethodName) ({ cls := "RoadHouses", name := "tonight", desc := "(I)I" } : Jvm.MethodName)) ∈ lw_all := lw_g (lw_at lw_m5 111 rfl) rfl
theorem q1153 : (Jvm.Cond.code ({ cls := "RoadHouses", name := "tonight", desc := "(I)I" } : Jvm.MethodName) prog_1_method_68_code (7 : Nat) (Option.some Jvm.ClassFile.FieldType.int)) ∈ lw_all := lw_g (lw_at lw_m5 112 rfl) rfl
theorem q1154 : (Jvm.Cond.methodLink "RoadHouses" (439 : Nat) ({ cls := "RoadHouses", name := "findBand", desc := "(I)LRoadHouses$Place;" } : Jvm.MethodName)) ∈ lw_all := lw_g (lw_at lw_m5 113 rfl) rfl
theorem q1155 : (Jvm.Cond.privateMethod ({ cls := "RoadHouses", name := "findBand", desc := "(I)LRoadHouses$Place;" } : Jvm.MethodName)) ∈ lw_tbl := lw_at lw_m5 114 rfl
theorem q1156 : (Jvm.Cond.instanceMethod ({ cls := "RoadHouses", name := "findBand", desc := "(I)LRoadHouses$Place;" } : Jvm.MethodName)) ∈ lw_all := lw_g (lw_at lw_m5 115 rfl) rfl
theorem q1157 : (Jvm.Cond.code ({ cls := "RoadHouses", name := "findBand", desc := "(I)LRoadHouses$Place;" } : Jvm.MethodName) prog_1_method_65_code (6 : Nat) (Option.some (Jvm.ClassFile.FieldType.object "RoadHouses$Place"))) ∈ lw_all := lw_g (lw_at lw_m5 116 rfl) rfl
theorem q1158 : (Jvm.Cond.interfaceEntry "RoadHouses" (428 : Nat)) ∈ lw_tbl := lw_at lw_m5 117 rfl
theorem q1159 : (Jvm.Cond.methodLink "RoadHouses" (428 : Nat) ({ cls := "java/util/List", name := "addAll", desc := "(Ljava/util/Collection;)Z" } : Jvm.MethodName)) ∈ lw_all := lw_g (lw_at lw_m5 118 rfl) rfl
theorem q1178 : (Jvm.Cond.methodLink "RoadHouses" (432 : Nat) ({ cls := "RoadHouses", name := "isDark", desc := "(I)Z" } : Jvm.MethodName)) ∈ lw_all := lw_g (lw_at lw_m5 137 rfl) rfl
theorem q1179 : (Jvm.Cond.static ({ cls := "RoadHouses", name := "isDark", desc := "(I)Z" } : Jvm.MethodName)) ∈ lw_all := lw_g (lw_at lw_m5 138 rfl) rfl
theorem q1180 : (Jvm.Cond.code ({ cls := "RoadHouses", name := "isDark", desc := "(I)Z" } : Jvm.MethodName) prog_1_method_3_code (2 : Nat) (Option.some Jvm.ClassFile.FieldType.boolean)) ∈ lw_all := lw_g (lw_at lw_m5 139 rfl) rfl
theorem q1181 : (Jvm.Cond.methodLink "RoadHouses" (443 : Nat) ({ cls := "RoadHouses", name := "takesBand", desc := "(LRoadHouses$Place;LRoadHouses$House;)Z" } : Jvm.MethodName)) ∈ lw_all := lw_g (lw_at lw_m5 140 rfl) rfl
theorem q1182 : (Jvm.Cond.privateMethod ({ cls := "RoadHouses", name := "takesBand", desc := "(LRoadHouses$Place;LRoadHouses$House;)Z" } : Jvm.MethodName)) ∈ lw_tbl := lw_at lw_m5 141 rfl
theorem q1183 : (Jvm.Cond.instanceMethod ({ cls := "RoadHouses", name := "takesBand", desc := "(LRoadHouses$Place;LRoadHouses$House;)Z" } : Jvm.MethodName)) ∈ lw_all := lw_g (lw_at lw_m5 142 rfl) rfl
theorem q1184 : (Jvm.Cond.code ({ cls := "RoadHouses", name := "takesBand", desc := "(LRoadHouses$Place;LRoadHouses$House;)Z" } : Jvm.MethodName) prog_1_method_67_code (7 : Nat) (Option.some Jvm.ClassFile.FieldType.boolean)) ∈ lw_all := lw_g (lw_at lw_m5 143 rfl) rfl
theorem q1185 : (Jvm.Cond.methodLink "RoadHouses" (436 : Nat) ({ cls := "RoadHouses", name := "isDarkTill", desc := "(I)Z" } : Jvm.MethodName)) ∈ lw_all := lw_g (lw_at lw_m5 144 rfl) rfl
theorem q1186 : (Jvm.Cond.privateMethod ({ cls := "RoadHouses", name := "isDarkTill", desc := "(I)Z" } : Jvm.MethodName)) ∈ lw_tbl := lw_at lw_m5 145 rfl
theorem q1187 : (Jvm.Cond.instanceMethod ({ cls := "RoadHouses", name := "isDarkTill", desc := "(I)Z" } : Jvm.MethodName)) ∈ lw_all := lw_g (lw_at lw_m5 146 rfl) rfl
theorem q1188 : (Jvm.Cond.code ({ cls := "RoadHouses", name := "isDarkTill", desc := "(I)Z" } : Jvm.MethodName) prog_1_method_66_code (4 : Nat) (Option.some Jvm.ClassFile.FieldType.boolean)) ∈ lw_all := lw_g (lw_at lw_m5 147 rfl) rfl
theorem q1190 : (Jvm.Cond.instanceMethod ({ cls := "RoadHouses", name := "split", desc := "(II)I" } : Jvm.MethodName)) ∈ lw_all := lw_g (lw_at lw_m5 149 rfl) rfl
theorem q1191 : (Jvm.Cond.selects "RoadHouses" ({ cls := "RoadHouses", name := "split", desc := "(II)I" } : Jvm.MethodName) ({ cls := "RoadHouses", name := "split", desc := "(II)I" } : Jvm.MethodName)) ∈ lw_all := lw_g (lw_at lw_m5 150 rfl) rfl
theorem q1192 : (Jvm.Cond.code ({ cls := "RoadHouses", name := "split", desc := "(II)I" } : Jvm.MethodName) prog_1_method_69_code (8 : Nat) (Option.some Jvm.ClassFile.FieldType.int)) ∈ lw_all := lw_g (lw_at lw_m5 151 rfl) rfl
theorem q1193 : (Jvm.Cond.methodLink "RoadHouses" (447 : Nat) ({ cls := "RoadHouses", name := "bestUnits", desc := "(II)I" } : Jvm.MethodName)) ∈ lw_all := lw_g (lw_at lw_m5 152 rfl) rfl
theorem q1194 : (Jvm.Cond.privateMethod ({ cls := "RoadHouses", name := "bestUnits", desc := "(II)I" } : Jvm.MethodName)) ∈ lw_tbl := lw_at lw_m5 153 rfl
theorem q1195 : (Jvm.Cond.instanceMethod ({ cls := "RoadHouses", name := "bestUnits", desc := "(II)I" } : Jvm.MethodName)) ∈ lw_all := lw_g (lw_at lw_m5 154 rfl) rfl
theorem q1196 : (Jvm.Cond.code ({ cls := "RoadHouses", name := "bestUnits", desc := "(II)I" } : Jvm.MethodName) prog_1_method_70_code (11 : Nat) (Option.some Jvm.ClassFile.FieldType.int)) ∈ lw_all := lw_g (lw_at lw_m5 155 rfl) rfl
theorem q1198 : (Jvm.Cond.instanceMethod ({ cls := "RoadHouses", name := "turned", desc := "(I)I" } : Jvm.MethodName)) ∈ lw_all := lw_g (lw_at lw_m5 157 rfl) rfl
theorem q1199 : (Jvm.Cond.selects "RoadHouses" ({ cls := "RoadHouses", name := "turned", desc := "(I)I" } : Jvm.MethodName) ({ cls := "RoadHouses", name := "turned", desc := "(I)I" } : Jvm.MethodName)) ∈ lw_all := lw_g (lw_at lw_m5 158 rfl) rfl
theorem q1200 : (Jvm.Cond.code ({ cls := "RoadHouses", name := "turned", desc := "(I)I" } : Jvm.MethodName) prog_1_method_72_code (2 : Nat) (Option.some Jvm.ClassFile.FieldType.int)) ∈ lw_all := lw_g (lw_at lw_m5 159 rfl) rfl
theorem q1201 : (Jvm.Cond.methodLink "RoadHouses" (454 : Nat) ({ cls := "RoadHouses", name := "turnedFrom", desc := "(I)I" } : Jvm.MethodName)) ∈ lw_all := lw_g (lw_at lw_m5 160 rfl) rfl
theorem q1202 : (Jvm.Cond.privateMethod ({ cls := "RoadHouses", name := "turnedFrom", desc := "(I)I" } : Jvm.MethodName)) ∈ lw_tbl := lw_at lw_m5 161 rfl
theorem q1203 : (Jvm.Cond.instanceMethod ({ cls := "RoadHouses", name := "turnedFrom", desc := "(I)I" } : Jvm.MethodName)) ∈ lw_all := lw_g (lw_at lw_m5 162 rfl) rfl
theorem q1204 : (Jvm.Cond.code ({ cls := "RoadHouses", name := "turnedFrom", desc := "(I)I" } : Jvm.MethodName) prog_1_method_71_code (9 : Nat) (Option.some Jvm.ClassFile.FieldType.int)) ∈ lw_all := lw_g (lw_at lw_m5 163 rfl) rfl
theorem q1206 : (Jvm.Cond.instanceMethod ({ cls := "RoadHouses", name := "sure", desc := "(I)I" } : Jvm.MethodName)) ∈ lw_all := lw_g (lw_at lw_m5 165 rfl) rfl
theorem q1207 : (Jvm.Cond.selects "RoadHouses" ({ cls := "RoadHouses", name := "sure", desc := "(I)I" } : Jvm.MethodName) ({ cls := "RoadHouses", name := "sure", desc := "(I)I" } : Jvm.MethodName)) ∈ lw_all := lw_g (lw_at lw_m5 166 rfl) rfl
theorem q1208 : (Jvm.Cond.code ({ cls := "RoadHouses", name := "sure", desc := "(I)I" } : Jvm.MethodName) prog_1_method_73_code (3 : Nat) (Option.some Jvm.ClassFile.FieldType.int)) ∈ lw_all := lw_g (lw_at lw_m5 167 rfl) rfl
theorem q1209 : (Jvm.Cond.methodLink "RoadHouses" (457 : Nat) ({ cls := "java/lang/Integer", name := "bitCount", desc := "(I)I" } : Jvm.MethodName)) ∈ lw_all := lw_g (lw_at lw_m5 168 rfl) rfl
theorem q1215 : (Jvm.Cond.methodLink "RoadHouses" (462 : Nat) ({ cls := "java/lang/Integer", name := "numberOfTrailingZeros", desc := "(I)I" } : Jvm.MethodName)) ∈ lw_all := lw_g (lw_at lw_m5 174 rfl) rfl
theorem q1220 : (Jvm.Cond.instanceMethod ({ cls := "RoadHouses", name := "talk", desc := "(III)I" } : Jvm.MethodName)) ∈ lw_all := lw_g (lw_at lw_m5 179 rfl) rfl
theorem q1221 : (Jvm.Cond.selects "RoadHouses" ({ cls := "RoadHouses", name := "talk", desc := "(III)I" } : Jvm.MethodName) ({ cls := "RoadHouses", name := "talk", desc := "(III)I" } : Jvm.MethodName)) ∈ lw_all := lw_g (lw_at lw_m5 180 rfl) rfl
theorem q1222 : (Jvm.Cond.code ({ cls := "RoadHouses", name := "talk", desc := "(III)I" } : Jvm.MethodName) prog_1_method_75_code (5 : Nat) (Option.some Jvm.ClassFile.FieldType.int)) ∈ lw_all := lw_g (lw_at lw_m5 181 rfl) rfl
theorem q1223 : (Jvm.Cond.methodLink "RoadHouses" (465 : Nat) ({ cls := "RoadHouses", name := "findSteps", desc := "(I)I" } : Jvm.MethodName)) ∈ lw_all := lw_g (lw_at lw_m5 182 rfl) rfl
theorem q1224 : (Jvm.Cond.privateMethod ({ cls := "RoadHouses", name := "findSteps", desc := "(I)I" } : Jvm.MethodName)) ∈ lw_tbl := lw_at lw_m5 183 rfl
theorem q1225 : (Jvm.Cond.instanceMethod ({ cls := "RoadHouses", name := "findSteps", desc := "(I)I" } : Jvm.MethodName)) ∈ lw_all := lw_g (lw_at lw_m5 184 rfl) rfl
theorem q1226 : (Jvm.Cond.code ({ cls := "RoadHouses", name := "findSteps", desc := "(I)I" } : Jvm.MethodName) prog_1_method_74_code (8 : Nat) (Option.some Jvm.ClassFile.FieldType.int)) ∈ lw_all := lw_g (lw_at lw_m5 185 rfl) rfl
theorem q1228 : (Jvm.Cond.instanceMethod ({ cls := "RoadHouses", name := "lost", desc := "(III)I" } : Jvm.MethodName)) ∈ lw_all := lw_g (lw_at lw_m5 187 rfl) rfl
theorem q1229 : (Jvm.Cond.selects "RoadHouses" ({ cls := "RoadHouses", name := "lost", desc := "(III)I" } : Jvm.MethodName) ({ cls := "RoadHouses", name := "lost", desc := "(III)I" } : Jvm.MethodName)) ∈ lw_all := lw_g (lw_at lw_m5 188 rfl) rfl
theorem q1230 : (Jvm.Cond.code ({ cls := "RoadHouses", name := "lost", desc := "(III)I" } : Jvm.MethodName) prog_1_method_77_code (8 : Nat) (Option.some Jvm.ClassFile.FieldType.int)) ∈ lw_all := lw_g (lw_at lw_m5 189 rfl) rfl
theorem q1231 : (Jvm.Cond.methodLink "RoadHouses" (468 : Nat) ({ cls := "RoadHouses", name := "warnOn", desc := "(I)Z" } : Jvm.MethodName)) ∈ lw_all := lw_g (lw_at lw_m5 190 rfl) rfl
theorem q1232 : (Jvm.Cond.privateMethod ({ cls := "RoadHouses", name := "warnOn", desc := "(I)Z" } : Jvm.MethodName)) ∈ lw_tbl := lw_at lw_m5 191 rfl
theorem q1233 : (Jvm.Cond.instanceMethod ({ cls := "RoadHouses", name := "warnOn", desc := "(I)Z" } : Jvm.MethodName)) ∈ lw_all := lw_g (lw_at lw_m5 192 rfl) rfl
theorem q1234 : (Jvm.Cond.code ({ cls := "RoadHouses", name := "warnOn", desc := "(I)Z" } : Jvm.MethodName) prog_1_method_76_code (7 : Nat) (Option.some Jvm.ClassFile.FieldType.boolean)) ∈ lw_all := lw_g (lw_at lw_m5 193 rfl) rfl
theorem q1236 : (Jvm.Cond.instanceMethod ({ cls := "RoadHouses", name := "tie", desc := "(II)I" } : Jvm.MethodName)) ∈ lw_all := lw_g (lw_at lw_m5 195 rfl) rfl
theorem q1237 : (Jvm.Cond.selects "RoadHouses" ({ cls := "RoadHouses", name := "tie", desc := "(II)I" } : Jvm.MethodName) ({ cls := "RoadHouses", name := "tie", desc := "(II)I" } : Jvm.MethodName)) ∈ lw_all := lw_g (lw_at lw_m5 196 rfl) rfl
theorem q1238 : (Jvm.Cond.code ({ cls := "RoadHouses", name := "tie", desc := "(II)I" } : Jvm.MethodName) prog_1_method_78_code (5 : Nat) (Option.some Jvm.ClassFile.FieldType.int)) ∈ lw_all := lw_g (lw_at lw_m5 197 rfl) rfl
theorem q1240 : (Jvm.Cond.instanceMethod ({ cls := "RoadHouses", name := "safe", desc := "(I)I" } : Jvm.MethodName)) ∈ lw_all := lw_g (lw_at lw_m5 199 rfl) rfl
theorem q1241 : (Jvm.Cond.selects "RoadHouses" ({ cls := "RoadHouses", name := "safe", desc := "(I)I" } : Jvm.MethodName) ({ cls := "RoadHouses", name := "safe", desc := "(I)I" } : Jvm.MethodName)) ∈ lw_all := lw_g (lw_at lw_m5 200 rfl) rfl
theorem q1242 : (Jvm.Cond.code ({ cls := "RoadHouses", name := "safe", desc := "(I)I" } : Jvm.MethodName) prog_1_method_80_code (6 : Nat) (Option.some Jvm.ClassFile.FieldType.int)) ∈ lw_all := lw_g (lw_at lw_m5 201 rfl) rfl
theorem q1243 : (Jvm.Cond.methodLink "RoadHouses" (474 : Nat) ({ cls := "RoadHouses", name := "isSafe", desc := "(II)Z" } : Jvm.MethodName)) ∈ lw_all := lw_g (lw_at lw_m5 202 rfl) rfl
theorem q1244 : (Jvm.Cond.privateMethod ({ cls := "RoadHouses", name := "isSafe", desc := "(II)Z" } : Jvm.MethodName)) ∈ lw_tbl := lw_at lw_m5 203 rfl
theorem q1245 : (Jvm.Cond.instanceMethod ({ cls := "RoadHouses", name := "isSafe", desc := "(II)Z" } : Jvm.MethodName)) ∈ lw_all := lw_g (lw_at lw_m5 204 rfl) rfl
theorem q1246 : (Jvm.Cond.code ({ cls := "RoadHouses", name := "isSafe", desc := "(II)Z" } : Jvm.MethodName) prog_1_method_79_code (5 : Nat) (Option.some Jvm.ClassFile.FieldType.boolean)) ∈ lw_all := lw_g (lw_at lw_m5 205 rfl) rfl
theorem q1248 : (Jvm.Cond.instanceMethod ({ cls := "RoadHouses", name := "thinks", desc := "(III)I" } : Jvm.MethodName)) ∈ lw_all := lw_g (lw_at lw_m5 207 rfl) rfl
theorem q1249 : (Jvm.Cond.selects "RoadHouses" ({ cls := "RoadHouses", name := "thinks", desc := "(III)I" } : Jvm.MethodName) ({ cls := "RoadHouses", name := "thinks", desc := "(III)I" } : Jvm.MethodName)) ∈ lw_all := lw_g (lw_at lw_m5 208 rfl) rfl
theorem q1250 : (Jvm.Cond.code ({ cls := "RoadHouses", name := "thinks", desc := "(III)I" } : Jvm.MethodName) prog_1_method_82_code (4 : Nat) (Option.some Jvm.ClassFile.FieldType.int)) ∈ lw_all := lw_g (lw_at lw_m5 209 rfl) rfl
theorem q1251 : (Jvm.Cond.methodLink "RoadHouses" (484 : Nat) ({ cls := "RoadHouses", name := "wasLit", desc := "(II)Z" } : Jvm.MethodName)) ∈ lw_all := lw_g (lw_at lw_m5 210 rfl) rfl
theorem q1252 : (Jvm.Cond.privateMethod ({ cls := "RoadHouses", name := "wasLit", desc := "(II)Z" } : Jvm.MethodName)) ∈ lw_tbl := lw_at lw_m5 211 rfl
theorem q1253 : (Jvm.Cond.instanceMethod ({ cls := "RoadHouses", name := "wasLit", desc := "(II)Z" } : Jvm.MethodName)) ∈ lw_all := lw_g (lw_at lw_m5 212 rfl) rfl
theorem q1254 : (Jvm.Cond.code ({ cls := "RoadHouses", name := "wasLit", desc := "(II)Z" } : Jvm.MethodName) prog_1_method_81_code (6 : Nat) (Option.some Jvm.ClassFile.FieldType.boolean)) ∈ lw_all := lw_g (lw_at lw_m5 213 rfl) rfl
theorem q1256 : (Jvm.Cond.instanceMethod ({ cls := "RoadHouses", name := "count", desc := "(I)I" } : Jvm.MethodName)) ∈ lw_all := lw_g (lw_at lw_m5 215 rfl) rfl
theorem q1257 : (Jvm.Cond.selects "RoadHouses" ({ cls := "RoadHouses", name := "count", desc := "(I)I" } : Jvm.MethodName) ({ cls := "RoadHouses", name := "count", desc := "(I)I" } : Jvm.MethodName)) ∈ lw_all := lw_g (lw_at lw_m5 216 rfl) rfl
theorem q1258 : (Jvm.Cond.code ({ cls := "RoadHouses", name := "count", desc := "(I)I" } : Jvm.MethodName) prog_1_method_83_code (4 : Nat) (Option.some Jvm.ClassFile.FieldType.int)) ∈ lw_all := lw_g (lw_at lw_m5 217 rfl) rfl
theorem q1260 : (Jvm.Cond.instanceMethod ({ cls := "RoadHouses", name := "sheet", desc := "(III)I" } : Jvm.MethodName)) ∈ lw_all := lw_g (lw_at lw_m5 219 rfl) rfl
theorem q1261 : (Jvm.Cond.selects "RoadHouses" ({ cls := "RoadHouses", name := "sheet", desc := "(III)I" } : Jvm.MethodName) ({ cls := "RoadHouses", name := "sheet", desc := "(III)I" } : Jvm.MethodName)) ∈ lw_all := lw_g (lw_at lw_m5 220 rfl) rfl
theorem q1262 : (Jvm.Cond.codeWith ({ cls := "RoadHouses", name := "sheet", desc := "(III)I" } : Jvm.MethodName) prog_1_method_86_code (5 : Nat) (Option.some Jvm.ClassFile.FieldType.int) [((22 : Nat), (55 : Nat), (58 : Nat), (490 : Nat))]) ∈ lw_all := lw_g (lw_at lw_m5 221 rfl) rfl
theorem q1263 : (Jvm.Cond.classLink "RoadHouses" (490 : Nat) "java/lang/NegativeArraySizeException") ∈ lw_all := lw_g (lw_at lw_m5 222 rfl) rfl
theorem q1292 : (Jvm.Cond.methodLink "RoadHouses" (487 : Nat) ({ cls := "RoadHouses", name := "isLane", desc := "(I)Z" } : Jvm.MethodName)) ∈ lw_all := lw_g (lw_at lw_m6 11 rfl) rfl
theorem q1293 : (Jvm.Cond.static ({ cls := "RoadHouses", name := "isLane", desc := "(I)Z" } : Jvm.MethodName)) ∈ lw_all := lw_g (lw_at lw_m6 12 rfl) rfl
theorem q1294 : (Jvm.Cond.code ({ cls := "RoadHouses", name := "isLane", desc := "(I)Z" } : Jvm.MethodName) prog_1_method_85_code (1 : Nat) (Option.some Jvm.ClassFile.FieldType.boolean)) ∈ lw_all := lw_g (lw_at lw_m6 13 rfl) rfl
theorem q1297 : (Jvm.Cond.instanceMethod ({ cls := "RoadHouses", name := "drop", desc := "(I)I" } : Jvm.MethodName)) ∈ lw_all := lw_g (lw_at lw_m6 16 rfl) rfl
theorem q1298 : (Jvm.Cond.selects "RoadHouses" ({ cls := "RoadHouses", name := "drop", desc := "(I)I" } : Jvm.MethodName) ({ cls := "RoadHouses", name := "drop", desc := "(I)I" } : Jvm.MethodName)) ∈ lw_all := lw_g (lw_at lw_m6 17 rfl) rfl
theorem q1299 : (Jvm.Cond.code ({ cls := "RoadHouses", name := "drop", desc := "(I)I" } : Jvm.MethodName) prog_1_method_87_code (3 : Nat) (Option.some Jvm.ClassFile.FieldType.int)) ∈ lw_all := lw_g (lw_at lw_m6 18 rfl) rfl
theorem q1300 : (Jvm.Cond.methodLink "RoadHouses" (492 : Nat) ({ cls := "RoadHouses$Sheet", name := "size", desc := "()I" } : Jvm.MethodName)) ∈ lw_all := lw_g (lw_at lw_m6 19 rfl) rfl
theorem q1308 : (Jvm.Cond.instanceMethod ({ cls := "RoadHouses", name := "item", desc := "(IIII)I" } : Jvm.MethodName)) ∈ lw_all := lw_g (lw_at lw_m6 27 rfl) rfl
theorem q1309 : (Jvm.Cond.selects "RoadHouses" ({ cls := "RoadHouses", name := "item", desc := "(IIII)I" } : Jvm.MethodName) ({ cls := "RoadHouses", name := "item", desc := "(IIII)I" } : Jvm.MethodName)) ∈ lw_all := lw_g (lw_at lw_m6 28 rfl) rfl
theorem q1310 : (Jvm.Cond.codeWith ({ cls := "RoadHouses", name := "item", desc := "(IIII)I" } : Jvm.MethodName) prog_1_method_88_code (6 : Nat) (Option.some Jvm.ClassFile.FieldType.int) [((16 : Nat), (107 : Nat), (110 : Nat), (496 : Nat)), ((16 : Nat), (107 : Nat), (115 : Nat), (498 : Nat)), ((16 : Nat), (107 : Nat), (120 : Nat), (500 : Nat))]) ∈ lw_all := lw_g (lw_at lw_m6 29 rfl) rfl
theorem q1311 : (Jvm.Cond.classLink "RoadHouses" (496 : Nat) "java/lang/NullPointerException") ∈ lw_all := lw_g (lw_at lw_m6 30 rfl) rfl
theorem q1336 : (Jvm.Cond.classLink "RoadHouses" (498 : Nat) "java/lang/ClassCastException") ∈ lw_all := lw_g (lw_at lw_m6 55 rfl) rfl
theorem q1350 : (Jvm.Cond.classLink "RoadHouses" (500 : Nat) "java/lang/ArrayIndexOutOfBoundsException") ∈ lw_all := lw_g (lw_at lw_m6 69 rfl) rfl
theorem q1369 : (Jvm.Cond.classLink "RoadHouses" (493 : Nat) "[S") ∈ lw_all := lw_g (lw_at lw_m6 88 rfl) rfl
theorem q1370 : (Jvm.Cond.classLink "RoadHouses" (495 : Nat) "[I") ∈ lw_all := lw_g (lw_at lw_m6 89 rfl) rfl
theorem q1372 : (Jvm.Cond.instanceMethod ({ cls := "RoadHouses", name := "copy", desc := "(IIIII)I" } : Jvm.MethodName)) ∈ lw_all := lw_g (lw_at lw_m6 91 rfl) rfl
theorem q1373 : (Jvm.Cond.selects "RoadHouses" ({ cls := "RoadHouses", name := "copy", desc := "(IIIII)I" } : Jvm.MethodName) ({ cls := "RoadHouses", name := "copy", desc := "(IIIII)I" } : Jvm.MethodName)) ∈ lw_all := lw_g (lw_at lw_m6 92 rfl) rfl
theorem q1374 : (Jvm.Cond.codeWith ({ cls := "RoadHouses", name := "copy", desc := "(IIIII)I" } : Jvm.MethodName) prog_1_method_89_code (7 : Nat) (Option.some Jvm.ClassFile.FieldType.int) [((16 : Nat), (42 : Nat), (45 : Nat), (496 : Nat)), ((16 : Nat), (42 : Nat), (50 : Nat), (508 : Nat)), ((16 : Nat), (42 : Nat), (55 : Nat), (510 : Nat))]) ∈ lw_all := lw_g (lw_at lw_m6 93 rfl) rfl
theorem q1375 : (Jvm.Cond.classLink "RoadHouses" (508 : Nat) "java/lang/ArrayStoreException") ∈ lw_all := lw_g (lw_at lw_m6 94 rfl) rfl
theorem q1389 : (Jvm.Cond.classLink "RoadHouses" (510 : Nat) "java/lang/IndexOutOfBoundsException") ∈ lw_all := lw_g (lw_at lw_m6 108 rfl) rfl
theorem q1390 : (Jvm.Cond.methodLink "RoadHouses" (502 : Nat) ({ cls := "java/lang/System", name := "arraycopy", desc := "(Ljava/lang/Object;ILjava/lang/Object;II)V" } : Jvm.MethodName)) ∈ lw_all := lw_g (lw_at lw_m6 109 rfl) rfl
theorem q2004 : (Jvm.Cond.castable "RoadHouses" "java/lang/Object") ∈ lw_tbl := lw_at lw_m9 3 rfl
theorem in_X0 : ∀ w ∈ wsX00, w ∈ lw_all := lw_in wsX00 [280, 282, 284, 286, 288, 290, 292, 294, 296, 298, 300, 302, 304, 306, 308, 310, 312, 314, 316, 318, 320, 322, 324, 326, 328, 330, 332] (by decide +kernel) (by decide +kernel)
