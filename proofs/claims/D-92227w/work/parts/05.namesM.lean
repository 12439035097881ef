/-! RoadHousesModel -/
set_option maxRecDepth 100000
def RX3 : String := "RoadHousesModel"
def TX3 : u_T := fun k => match k with
  | 0 => ("RoadHousesModel", "now", "I", false)
  | 1 => ("RoadHousesModel", "places", "I", false)
  | 2 => ("RoadHousesModel", "kinds", "[I", true)
  | 3 => ("RoadHousesModel", "lands", "[I", true)
  | 4 => ("RoadHousesModel", "beds", "[I", true)
  | 5 => ("RoadHousesModel", "walls", "[I", true)
  | 6 => ("RoadHousesModel", "depths", "[I", true)
  | 7 => ("RoadHousesModel", "eyes", "[I", true)
  | 8 => ("RoadHousesModel", "known", "[I", true)
  | 9 => ("RoadHousesModel", "isWatched", "[Z", true)
  | 10 => ("RoadHousesModel", "bearing", "[Z", true)
  | 11 => ("RoadHousesModel", "ways", "[I", true)
  | 12 => ("RoadHousesModel", "changes", "I", false)
  | 13 => ("RoadHousesModel", "changeTime", "[I", true)
  | 14 => ("RoadHousesModel", "changeHouse", "[I", true)
  | 15 => ("RoadHousesModel", "changeIs", "[Z", true)
  | 16 => ("RoadHousesModel", "fars", "[I", true)
  | 17 => ("RoadHousesModel", "isDone", "[Z", true)
  | 18 => ("RoadHousesModel", "persons", "I", false)
  | 19 => ("RoadHousesModel", "strengths", "[I", true)
  | 20 => ("RoadHousesModel", "ofs", "[I", true)
  | 21 => ("RoadHousesModel", "wheres", "[I", true)
  | 22 => ("RoadHousesModel", "comings", "[I", true)
  | 23 => ("RoadHousesModel", "isHidden", "[Z", true)
  | 24 => ("RoadHousesModel", "scentPlace", "[I", true)
  | 25 => ("RoadHousesModel", "scentTo", "[I", true)
  | 26 => ("RoadHousesModel", "scentTime", "[I", true)
  | 27 => ("RoadHousesModel", "hunters", "I", false)
  | 28 => ("RoadHousesModel", "hunterPlace", "[I", true)
  | 29 => ("RoadHousesModel", "warrants", "[I", true)
  | 30 => ("RoadHousesModel", "raids", "I", false)
  | 31 => ("RoadHousesModel", "raidPlace", "[I", true)
  | 32 => ("RoadHousesModel", "raidTime", "[I", true)
  | 33 => ("RoadHousesModel", "laws", "I", false)
  | 34 => ("RoadHousesModel", "lawKind", "[I", true)
  | 35 => ("RoadHousesModel", "lawLands", "[I", true)
  | 36 => ("RoadHousesModel", "lawEnd", "[I", true)
  | 37 => ("RoadHousesModel", "lawFrom", "[I", true)
  | 38 => ("RoadHousesModel", "lawTo", "[I", true)
  | 39 => ("RoadHousesModel", "struck", "[I", true)
  | 40 => ("RoadHousesModel", "orders", "[I", true)
  | 41 => ("RoadHousesModel", "values", "[I", true)
  | 42 => ("RoadHousesModel", "tape", "[I", true)
  | 43 => ("RoadHousesModel", "taped", "I", false)
  | 44 => ("RoadHousesModel", "at", "I", false)
  | 45 => ("RoadHousesModel", "wrong", "Z", false)
  | 46 => ("RoadHousesModel", "emitted", "I", false)
  | 47 => ("RoadHousesModel", "andPending", "[Z", true)
  | 48 => ("RoadHousesModel", "orPending", "[Z", true)
  | 49 => ("RoadHousesModel", "notPending", "[Z", true)
  | 50 => ("RoadHousesModel", "pile", "[I", true)
  | 51 => ("RoadHousesModel", "heads", "[I", true)
  | 52 => ("RoadHousesModel", "headMany", "I", false)
  | 53 => ("RoadHousesModel", "namings", "[I", true)
  | 54 => ("RoadHousesModel", "warned", "[I", true)
  | 55 => ("RoadHousesModel", "ties", "I", false)
  | 56 => ("RoadHousesModel", "tieA", "[I", true)
  | 57 => ("RoadHousesModel", "tieB", "[I", true)
  | 58 => ("RoadHousesModel", "lanes", "[I", true)
  | 59 => ("RoadHousesModel", "sizes", "[I", true)
  | 60 => ("RoadHousesModel", "items", "[I", true)
  | _ => ("RoadHousesModel", "moved", "[I", true)
def tyX3 : Nat → FieldType := fun k => match k with
  | 0 => .int
  | 1 => .int
  | 2 => .array .int
  | 3 => .array .int
  | 4 => .array .int
  | 5 => .array .int
  | 6 => .array .int
  | 7 => .array .int
  | 8 => .array .int
  | 9 => .array .boolean
  | 10 => .array .boolean
  | 11 => .array .int
  | 12 => .int
  | 13 => .array .int
  | 14 => .array .int
  | 15 => .array .boolean
  | 16 => .array .int
  | 17 => .array .boolean
  | 18 => .int
  | 19 => .array .int
  | 20 => .array .int
  | 21 => .array .int
  | 22 => .array .int
  | 23 => .array .boolean
  | 24 => .array .int
  | 25 => .array .int
  | 26 => .array .int
  | 27 => .int
  | 28 => .array .int
  | 29 => .array .int
  | 30 => .int
  | 31 => .array .int
  | 32 => .array .int
  | 33 => .int
  | 34 => .array .int
  | 35 => .array .int
  | 36 => .array .int
  | 37 => .array .int
  | 38 => .array .int
  | 39 => .array .int
  | 40 => .array .int
  | 41 => .array .int
  | 42 => .array .int
  | 43 => .int
  | 44 => .int
  | 45 => .boolean
  | 46 => .int
  | 47 => .array .boolean
  | 48 => .array .boolean
  | 49 => .array .boolean
  | 50 => .array .int
  | 51 => .array .int
  | 52 => .int
  | 53 => .array .int
  | 54 => .array .int
  | 55 => .int
  | 56 => .array .int
  | 57 => .array .int
  | 58 => .array .int
  | 59 => .array .int
  | 60 => .array .int
  | _ => .array .int
abbrev wsX30 : List Cond := u_ws RX3 TX3 62
set_option maxRecDepth 100000 in
theorem nmX3 : ∀ a, a < 62 → ∀ b, b < 62 → a ≠ b → (TX3 a).2.1 ≠ (TX3 b).2.1 := by decide +kernel
set_option maxRecDepth 100000 in
theorem tyX3_ok : ∀ k, k < 62 → parseFieldDescriptor (TX3 k).2.2.1 = some (tyX3 k) := by decide +kernel
abbrev cX3_init : ByteArray := prog_19_method_3_code
def yX3_init : MethodName := ⟨RX3, "<init>", "()V"⟩
def dkwX3_init_17 : List UInt8 := [162, 0, 16, 42, 180, 0, 146, 27, 2, 79, 132, 1, 1, 167, 255, 241, 177]
abbrev dktX3_init_17 : List UInt8 := dkwX3_init_17 ++ []
def dkwX3_init_16 : List UInt8 := [181, 0, 149, 42, 17, 0, 200, 188, 10, 181, 0, 152, 42, 16, 50, 188, 10, 181, 0, 155, 3, 60, 27, 7]
abbrev dktX3_init_16 : List UInt8 := dkwX3_init_16 ++ dktX3_init_17
def dkwX3_init_15 : List UInt8 := [188, 10, 181, 0, 140, 42, 16, 8, 188, 10, 181, 0, 143, 42, 7, 188, 10, 181, 0, 146, 42, 7, 188, 10]
abbrev dktX3_init_15 : List UInt8 := dkwX3_init_15 ++ dktX3_init_16
def dkwX3_init_14 : List UInt8 := [188, 10, 181, 0, 131, 42, 16, 16, 188, 10, 181, 0, 134, 42, 16, 16, 188, 10, 181, 0, 137, 42, 16, 8]
abbrev dktX3_init_14 : List UInt8 := dkwX3_init_14 ++ dktX3_init_15
def dkwX3_init_13 : List UInt8 := [188, 4, 181, 0, 122, 42, 16, 8, 188, 4, 181, 0, 125, 42, 16, 80, 188, 10, 181, 0, 128, 42, 16, 16]
abbrev dktX3_init_13 : List UInt8 := dkwX3_init_13 ++ dktX3_init_14
def dkwX3_init_12 : List UInt8 := [188, 10, 181, 0, 113, 42, 16, 80, 188, 10, 181, 0, 116, 42, 16, 8, 188, 4, 181, 0, 119, 42, 16, 8]
abbrev dktX3_init_12 : List UInt8 := dkwX3_init_12 ++ dktX3_init_13
def dkwX3_init_11 : List UInt8 := [181, 0, 104, 42, 16, 16, 188, 10, 181, 0, 107, 42, 17, 5, 80, 188, 10, 181, 0, 110, 42, 17, 5, 80]
abbrev dktX3_init_11 : List UInt8 := dkwX3_init_11 ++ dktX3_init_12
def dkwX3_init_10 : List UInt8 := [181, 0, 95, 42, 16, 16, 188, 10, 181, 0, 98, 42, 16, 16, 188, 10, 181, 0, 101, 42, 16, 16, 188, 10]
abbrev dktX3_init_10 : List UInt8 := dkwX3_init_10 ++ dktX3_init_11
def dkwX3_init_9 : List UInt8 := [181, 0, 86, 42, 16, 40, 188, 10, 181, 0, 89, 42, 16, 16, 188, 10, 181, 0, 92, 42, 16, 16, 188, 10]
abbrev dktX3_init_9 : List UInt8 := dkwX3_init_9 ++ dktX3_init_10
def dkwX3_init_8 : List UInt8 := [181, 0, 77, 42, 16, 6, 188, 10, 181, 0, 80, 42, 16, 6, 188, 10, 181, 0, 83, 42, 16, 40, 188, 10]
abbrev dktX3_init_8 : List UInt8 := dkwX3_init_8 ++ dktX3_init_9
def dkwX3_init_7 : List UInt8 := [181, 0, 68, 42, 16, 16, 188, 10, 181, 0, 71, 42, 16, 16, 188, 10, 181, 0, 74, 42, 16, 16, 188, 10]
abbrev dktX3_init_7 : List UInt8 := dkwX3_init_7 ++ dktX3_init_8
def dkwX3_init_6 : List UInt8 := [181, 0, 59, 42, 16, 16, 188, 10, 181, 0, 62, 42, 16, 16, 188, 10, 181, 0, 65, 42, 16, 16, 188, 4]
abbrev dktX3_init_6 : List UInt8 := dkwX3_init_6 ++ dktX3_init_7
def dkwX3_init_5 : List UInt8 := [181, 0, 50, 42, 16, 16, 188, 4, 181, 0, 53, 42, 16, 16, 188, 10, 181, 0, 56, 42, 16, 16, 188, 10]
abbrev dktX3_init_5 : List UInt8 := dkwX3_init_5 ++ dktX3_init_6
def dkwX3_init_4 : List UInt8 := [181, 0, 41, 42, 16, 60, 188, 10, 181, 0, 44, 42, 16, 60, 188, 4, 181, 0, 47, 42, 16, 16, 188, 10]
abbrev dktX3_init_4 : List UInt8 := dkwX3_init_4 ++ dktX3_init_5
def dkwX3_init_3 : List UInt8 := [17, 3, 32, 188, 4, 181, 0, 35, 42, 17, 1, 0, 188, 10, 181, 0, 38, 42, 16, 60, 188, 10]
abbrev dktX3_init_3 : List UInt8 := dkwX3_init_3 ++ dktX3_init_4
def dkwX3_init_2 : List UInt8 := [188, 10, 181, 0, 25, 42, 16, 16, 188, 10, 181, 0, 28, 42, 16, 16, 188, 4, 181, 0, 31, 42]
abbrev dktX3_init_2 : List UInt8 := dkwX3_init_2 ++ dktX3_init_3
def dkwX3_init_1 : List UInt8 := [188, 10, 181, 0, 16, 42, 16, 16, 188, 10, 181, 0, 19, 42, 16, 16, 188, 10, 181, 0, 22, 42, 16, 16]
abbrev dktX3_init_1 : List UInt8 := dkwX3_init_1 ++ dktX3_init_2
def dkwX3_init_0 : List UInt8 := [42, 183, 0, 1, 42, 16, 16, 188, 10, 181, 0, 7, 42, 16, 16, 188, 10, 181, 0, 13, 42, 16, 16]
abbrev dktX3_init_0 : List UInt8 := dkwX3_init_0 ++ dktX3_init_1
theorem dksX3_init_0 : cX3_init.data.toList.drop 0 = dktX3_init_0 := by decide +kernel
theorem dksX3_init_1 : cX3_init.data.toList.drop 23 = dktX3_init_1 := dk_seg dksX3_init_0 23 rfl rfl
theorem dksX3_init_2 : cX3_init.data.toList.drop 47 = dktX3_init_2 := dk_seg dksX3_init_1 24 rfl rfl
theorem dksX3_init_3 : cX3_init.data.toList.drop 69 = dktX3_init_3 := dk_seg dksX3_init_2 22 rfl rfl
theorem dksX3_init_4 : cX3_init.data.toList.drop 91 = dktX3_init_4 := dk_seg dksX3_init_3 22 rfl rfl
theorem dksX3_init_5 : cX3_init.data.toList.drop 115 = dktX3_init_5 := dk_seg dksX3_init_4 24 rfl rfl
theorem dksX3_init_6 : cX3_init.data.toList.drop 139 = dktX3_init_6 := dk_seg dksX3_init_5 24 rfl rfl
theorem dksX3_init_7 : cX3_init.data.toList.drop 163 = dktX3_init_7 := dk_seg dksX3_init_6 24 rfl rfl
theorem dksX3_init_8 : cX3_init.data.toList.drop 187 = dktX3_init_8 := dk_seg dksX3_init_7 24 rfl rfl
theorem dksX3_init_9 : cX3_init.data.toList.drop 211 = dktX3_init_9 := dk_seg dksX3_init_8 24 rfl rfl
theorem dksX3_init_10 : cX3_init.data.toList.drop 235 = dktX3_init_10 := dk_seg dksX3_init_9 24 rfl rfl
theorem dksX3_init_11 : cX3_init.data.toList.drop 259 = dktX3_init_11 := dk_seg dksX3_init_10 24 rfl rfl
theorem dksX3_init_12 : cX3_init.data.toList.drop 283 = dktX3_init_12 := dk_seg dksX3_init_11 24 rfl rfl
theorem dksX3_init_13 : cX3_init.data.toList.drop 307 = dktX3_init_13 := dk_seg dksX3_init_12 24 rfl rfl
theorem dksX3_init_14 : cX3_init.data.toList.drop 331 = dktX3_init_14 := dk_seg dksX3_init_13 24 rfl rfl
theorem dksX3_init_15 : cX3_init.data.toList.drop 355 = dktX3_init_15 := dk_seg dksX3_init_14 24 rfl rfl
theorem dksX3_init_16 : cX3_init.data.toList.drop 379 = dktX3_init_16 := dk_seg dksX3_init_15 24 rfl rfl
theorem dksX3_init_17 : cX3_init.data.toList.drop 403 = dktX3_init_17 := dk_seg dksX3_init_16 24 rfl rfl
theorem dX3_init_0 : decode cX3_init 0 = .ok (.aload_n 0, 1) := dk_42 (dk_at dksX3_init_0 0 rfl rfl)
theorem dX3_init_1 : decode cX3_init 1 = .ok (.invokespecial 1, 3) := dk_183 0 1 (dk_at dksX3_init_0 1 rfl rfl)
theorem dX3_init_4 : decode cX3_init 4 = .ok (.aload_n 0, 1) := dk_42 (dk_at dksX3_init_0 4 rfl rfl)
theorem dX3_init_5 : decode cX3_init 5 = .ok (.bipush 16, 2) := dk_16 16 (dk_at dksX3_init_0 5 rfl rfl)
theorem dX3_init_7 : decode cX3_init 7 = .ok (.newarray .int, 2) := dk_188_10 (dk_at dksX3_init_0 7 rfl rfl)
theorem dX3_init_9 : decode cX3_init 9 = .ok (.putfield 7, 3) := dk_181 0 7 (dk_at dksX3_init_0 9 rfl rfl)
theorem dX3_init_12 : decode cX3_init 12 = .ok (.aload_n 0, 1) := dk_42 (dk_at dksX3_init_0 12 rfl rfl)
theorem dX3_init_13 : decode cX3_init 13 = .ok (.bipush 16, 2) := dk_16 16 (dk_at dksX3_init_0 13 rfl rfl)
theorem dX3_init_15 : decode cX3_init 15 = .ok (.newarray .int, 2) := dk_188_10 (dk_at dksX3_init_0 15 rfl rfl)
theorem dX3_init_17 : decode cX3_init 17 = .ok (.putfield 13, 3) := dk_181 0 13 (dk_at dksX3_init_0 17 rfl rfl)
theorem dX3_init_20 : decode cX3_init 20 = .ok (.aload_n 0, 1) := dk_42 (dk_at dksX3_init_0 20 rfl rfl)
theorem dX3_init_21 : decode cX3_init 21 = .ok (.bipush 16, 2) := dk_16 16 (dk_at dksX3_init_0 21 rfl rfl)
theorem dX3_init_23 : decode cX3_init 23 = .ok (.newarray .int, 2) := dk_188_10 (dk_at dksX3_init_1 0 rfl rfl)
theorem dX3_init_25 : decode cX3_init 25 = .ok (.putfield 16, 3) := dk_181 0 16 (dk_at dksX3_init_1 2 rfl rfl)
theorem dX3_init_28 : decode cX3_init 28 = .ok (.aload_n 0, 1) := dk_42 (dk_at dksX3_init_1 5 rfl rfl)
theorem dX3_init_29 : decode cX3_init 29 = .ok (.bipush 16, 2) := dk_16 16 (dk_at dksX3_init_1 6 rfl rfl)
theorem dX3_init_31 : decode cX3_init 31 = .ok (.newarray .int, 2) := dk_188_10 (dk_at dksX3_init_1 8 rfl rfl)
theorem dX3_init_33 : decode cX3_init 33 = .ok (.putfield 19, 3) := dk_181 0 19 (dk_at dksX3_init_1 10 rfl rfl)
theorem dX3_init_36 : decode cX3_init 36 = .ok (.aload_n 0, 1) := dk_42 (dk_at dksX3_init_1 13 rfl rfl)
theorem dX3_init_37 : decode cX3_init 37 = .ok (.bipush 16, 2) := dk_16 16 (dk_at dksX3_init_1 14 rfl rfl)
theorem dX3_init_39 : decode cX3_init 39 = .ok (.newarray .int, 2) := dk_188_10 (dk_at dksX3_init_1 16 rfl rfl)
theorem dX3_init_41 : decode cX3_init 41 = .ok (.putfield 22, 3) := dk_181 0 22 (dk_at dksX3_init_1 18 rfl rfl)
theorem dX3_init_44 : decode cX3_init 44 = .ok (.aload_n 0, 1) := dk_42 (dk_at dksX3_init_1 21 rfl rfl)
theorem dX3_init_45 : decode cX3_init 45 = .ok (.bipush 16, 2) := dk_16 16 (dk_at dksX3_init_1 22 rfl rfl)
theorem dX3_init_47 : decode cX3_init 47 = .ok (.newarray .int, 2) := dk_188_10 (dk_at dksX3_init_2 0 rfl rfl)
theorem dX3_init_49 : decode cX3_init 49 = .ok (.putfield 25, 3) := dk_181 0 25 (dk_at dksX3_init_2 2 rfl rfl)
theorem dX3_init_52 : decode cX3_init 52 = .ok (.aload_n 0, 1) := dk_42 (dk_at dksX3_init_2 5 rfl rfl)
theorem dX3_init_53 : decode cX3_init 53 = .ok (.bipush 16, 2) := dk_16 16 (dk_at dksX3_init_2 6 rfl rfl)
theorem dX3_init_55 : decode cX3_init 55 = .ok (.newarray .int, 2) := dk_188_10 (dk_at dksX3_init_2 8 rfl rfl)
theorem dX3_init_57 : decode cX3_init 57 = .ok (.putfield 28, 3) := dk_181 0 28 (dk_at dksX3_init_2 10 rfl rfl)
theorem dX3_init_60 : decode cX3_init 60 = .ok (.aload_n 0, 1) := dk_42 (dk_at dksX3_init_2 13 rfl rfl)
theorem dX3_init_61 : decode cX3_init 61 = .ok (.bipush 16, 2) := dk_16 16 (dk_at dksX3_init_2 14 rfl rfl)
theorem dX3_init_63 : decode cX3_init 63 = .ok (.newarray .boolean, 2) := dk_188_4 (dk_at dksX3_init_2 16 rfl rfl)
theorem dX3_init_65 : decode cX3_init 65 = .ok (.putfield 31, 3) := dk_181 0 31 (dk_at dksX3_init_2 18 rfl rfl)
theorem dX3_init_68 : decode cX3_init 68 = .ok (.aload_n 0, 1) := dk_42 (dk_at dksX3_init_2 21 rfl rfl)
theorem dX3_init_69 : decode cX3_init 69 = .ok (.sipush 800, 3) := dk_17 3 32 (dk_at dksX3_init_3 0 rfl rfl)
theorem dX3_init_72 : decode cX3_init 72 = .ok (.newarray .boolean, 2) := dk_188_4 (dk_at dksX3_init_3 3 rfl rfl)
theorem dX3_init_74 : decode cX3_init 74 = .ok (.putfield 35, 3) := dk_181 0 35 (dk_at dksX3_init_3 5 rfl rfl)
theorem dX3_init_77 : decode cX3_init 77 = .ok (.aload_n 0, 1) := dk_42 (dk_at dksX3_init_3 8 rfl rfl)
theorem dX3_init_78 : decode cX3_init 78 = .ok (.sipush 256, 3) := dk_17 1 0 (dk_at dksX3_init_3 9 rfl rfl)
theorem dX3_init_81 : decode cX3_init 81 = .ok (.newarray .int, 2) := dk_188_10 (dk_at dksX3_init_3 12 rfl rfl)
theorem dX3_init_83 : decode cX3_init 83 = .ok (.putfield 38, 3) := dk_181 0 38 (dk_at dksX3_init_3 14 rfl rfl)
theorem dX3_init_86 : decode cX3_init 86 = .ok (.aload_n 0, 1) := dk_42 (dk_at dksX3_init_3 17 rfl rfl)
theorem dX3_init_87 : decode cX3_init 87 = .ok (.bipush 60, 2) := dk_16 60 (dk_at dksX3_init_3 18 rfl rfl)
theorem dX3_init_89 : decode cX3_init 89 = .ok (.newarray .int, 2) := dk_188_10 (dk_at dksX3_init_3 20 rfl rfl)
theorem dX3_init_91 : decode cX3_init 91 = .ok (.putfield 41, 3) := dk_181 0 41 (dk_at dksX3_init_4 0 rfl rfl)
theorem dX3_init_94 : decode cX3_init 94 = .ok (.aload_n 0, 1) := dk_42 (dk_at dksX3_init_4 3 rfl rfl)
theorem dX3_init_95 : decode cX3_init 95 = .ok (.bipush 60, 2) := dk_16 60 (dk_at dksX3_init_4 4 rfl rfl)
theorem dX3_init_97 : decode cX3_init 97 = .ok (.newarray .int, 2) := dk_188_10 (dk_at dksX3_init_4 6 rfl rfl)
theorem dX3_init_99 : decode cX3_init 99 = .ok (.putfield 44, 3) := dk_181 0 44 (dk_at dksX3_init_4 8 rfl rfl)
theorem dX3_init_102 : decode cX3_init 102 = .ok (.aload_n 0, 1) := dk_42 (dk_at dksX3_init_4 11 rfl rfl)
theorem dX3_init_103 : decode cX3_init 103 = .ok (.bipush 60, 2) := dk_16 60 (dk_at dksX3_init_4 12 rfl rfl)
theorem dX3_init_105 : decode cX3_init 105 = .ok (.newarray .boolean, 2) := dk_188_4 (dk_at dksX3_init_4 14 rfl rfl)
theorem dX3_init_107 : decode cX3_init 107 = .ok (.putfield 47, 3) := dk_181 0 47 (dk_at dksX3_init_4 16 rfl rfl)
theorem dX3_init_110 : decode cX3_init 110 = .ok (.aload_n 0, 1) := dk_42 (dk_at dksX3_init_4 19 rfl rfl)
theorem dX3_init_111 : decode cX3_init 111 = .ok (.bipush 16, 2) := dk_16 16 (dk_at dksX3_init_4 20 rfl rfl)
theorem dX3_init_113 : decode cX3_init 113 = .ok (.newarray .int, 2) := dk_188_10 (dk_at dksX3_init_4 22 rfl rfl)
theorem dX3_init_115 : decode cX3_init 115 = .ok (.putfield 50, 3) := dk_181 0 50 (dk_at dksX3_init_5 0 rfl rfl)
theorem dX3_init_118 : decode cX3_init 118 = .ok (.aload_n 0, 1) := dk_42 (dk_at dksX3_init_5 3 rfl rfl)
theorem dX3_init_119 : decode cX3_init 119 = .ok (.bipush 16, 2) := dk_16 16 (dk_at dksX3_init_5 4 rfl rfl)
theorem dX3_init_121 : decode cX3_init 121 = .ok (.newarray .boolean, 2) := dk_188_4 (dk_at dksX3_init_5 6 rfl rfl)
theorem dX3_init_123 : decode cX3_init 123 = .ok (.putfield 53, 3) := dk_181 0 53 (dk_at dksX3_init_5 8 rfl rfl)
theorem dX3_init_126 : decode cX3_init 126 = .ok (.aload_n 0, 1) := dk_42 (dk_at dksX3_init_5 11 rfl rfl)
theorem dX3_init_127 : decode cX3_init 127 = .ok (.bipush 16, 2) := dk_16 16 (dk_at dksX3_init_5 12 rfl rfl)
theorem dX3_init_129 : decode cX3_init 129 = .ok (.newarray .int, 2) := dk_188_10 (dk_at dksX3_init_5 14 rfl rfl)
theorem dX3_init_131 : decode cX3_init 131 = .ok (.putfield 56, 3) := dk_181 0 56 (dk_at dksX3_init_5 16 rfl rfl)
theorem dX3_init_134 : decode cX3_init 134 = .ok (.aload_n 0, 1) := dk_42 (dk_at dksX3_init_5 19 rfl rfl)
theorem dX3_init_135 : decode cX3_init 135 = .ok (.bipush 16, 2) := dk_16 16 (dk_at dksX3_init_5 20 rfl rfl)
theorem dX3_init_137 : decode cX3_init 137 = .ok (.newarray .int, 2) := dk_188_10 (dk_at dksX3_init_5 22 rfl rfl)
theorem dX3_init_139 : decode cX3_init 139 = .ok (.putfield 59, 3) := dk_181 0 59 (dk_at dksX3_init_6 0 rfl rfl)
theorem dX3_init_142 : decode cX3_init 142 = .ok (.aload_n 0, 1) := dk_42 (dk_at dksX3_init_6 3 rfl rfl)
theorem dX3_init_143 : decode cX3_init 143 = .ok (.bipush 16, 2) := dk_16 16 (dk_at dksX3_init_6 4 rfl rfl)
theorem dX3_init_145 : decode cX3_init 145 = .ok (.newarray .int, 2) := dk_188_10 (dk_at dksX3_init_6 6 rfl rfl)
theorem dX3_init_147 : decode cX3_init 147 = .ok (.putfield 62, 3) := dk_181 0 62 (dk_at dksX3_init_6 8 rfl rfl)
theorem dX3_init_150 : decode cX3_init 150 = .ok (.aload_n 0, 1) := dk_42 (dk_at dksX3_init_6 11 rfl rfl)
theorem dX3_init_151 : decode cX3_init 151 = .ok (.bipush 16, 2) := dk_16 16 (dk_at dksX3_init_6 12 rfl rfl)
theorem dX3_init_153 : decode cX3_init 153 = .ok (.newarray .int, 2) := dk_188_10 (dk_at dksX3_init_6 14 rfl rfl)
theorem dX3_init_155 : decode cX3_init 155 = .ok (.putfield 65, 3) := dk_181 0 65 (dk_at dksX3_init_6 16 rfl rfl)
theorem dX3_init_158 : decode cX3_init 158 = .ok (.aload_n 0, 1) := dk_42 (dk_at dksX3_init_6 19 rfl rfl)
theorem dX3_init_159 : decode cX3_init 159 = .ok (.bipush 16, 2) := dk_16 16 (dk_at dksX3_init_6 20 rfl rfl)
theorem dX3_init_161 : decode cX3_init 161 = .ok (.newarray .boolean, 2) := dk_188_4 (dk_at dksX3_init_6 22 rfl rfl)
theorem dX3_init_163 : decode cX3_init 163 = .ok (.putfield 68, 3) := dk_181 0 68 (dk_at dksX3_init_7 0 rfl rfl)
theorem dX3_init_166 : decode cX3_init 166 = .ok (.aload_n 0, 1) := dk_42 (dk_at dksX3_init_7 3 rfl rfl)
theorem dX3_init_167 : decode cX3_init 167 = .ok (.bipush 16, 2) := dk_16 16 (dk_at dksX3_init_7 4 rfl rfl)
theorem dX3_init_169 : decode cX3_init 169 = .ok (.newarray .int, 2) := dk_188_10 (dk_at dksX3_init_7 6 rfl rfl)
theorem dX3_init_171 : decode cX3_init 171 = .ok (.putfield 71, 3) := dk_181 0 71 (dk_at dksX3_init_7 8 rfl rfl)
theorem dX3_init_174 : decode cX3_init 174 = .ok (.aload_n 0, 1) := dk_42 (dk_at dksX3_init_7 11 rfl rfl)
theorem dX3_init_175 : decode cX3_init 175 = .ok (.bipush 16, 2) := dk_16 16 (dk_at dksX3_init_7 12 rfl rfl)
theorem dX3_init_177 : decode cX3_init 177 = .ok (.newarray .int, 2) := dk_188_10 (dk_at dksX3_init_7 14 rfl rfl)
theorem dX3_init_179 : decode cX3_init 179 = .ok (.putfield 74, 3) := dk_181 0 74 (dk_at dksX3_init_7 16 rfl rfl)
theorem dX3_init_182 : decode cX3_init 182 = .ok (.aload_n 0, 1) := dk_42 (dk_at dksX3_init_7 19 rfl rfl)
theorem dX3_init_183 : decode cX3_init 183 = .ok (.bipush 16, 2) := dk_16 16 (dk_at dksX3_init_7 20 rfl rfl)
theorem dX3_init_185 : decode cX3_init 185 = .ok (.newarray .int, 2) := dk_188_10 (dk_at dksX3_init_7 22 rfl rfl)
theorem dX3_init_187 : decode cX3_init 187 = .ok (.putfield 77, 3) := dk_181 0 77 (dk_at dksX3_init_8 0 rfl rfl)
theorem dX3_init_190 : decode cX3_init 190 = .ok (.aload_n 0, 1) := dk_42 (dk_at dksX3_init_8 3 rfl rfl)
theorem dX3_init_191 : decode cX3_init 191 = .ok (.bipush 6, 2) := dk_16 6 (dk_at dksX3_init_8 4 rfl rfl)
theorem dX3_init_193 : decode cX3_init 193 = .ok (.newarray .int, 2) := dk_188_10 (dk_at dksX3_init_8 6 rfl rfl)
theorem dX3_init_195 : decode cX3_init 195 = .ok (.putfield 80, 3) := dk_181 0 80 (dk_at dksX3_init_8 8 rfl rfl)
theorem dX3_init_198 : decode cX3_init 198 = .ok (.aload_n 0, 1) := dk_42 (dk_at dksX3_init_8 11 rfl rfl)
theorem dX3_init_199 : decode cX3_init 199 = .ok (.bipush 6, 2) := dk_16 6 (dk_at dksX3_init_8 12 rfl rfl)
theorem dX3_init_201 : decode cX3_init 201 = .ok (.newarray .int, 2) := dk_188_10 (dk_at dksX3_init_8 14 rfl rfl)
theorem dX3_init_203 : decode cX3_init 203 = .ok (.putfield 83, 3) := dk_181 0 83 (dk_at dksX3_init_8 16 rfl rfl)
theorem dX3_init_206 : decode cX3_init 206 = .ok (.aload_n 0, 1) := dk_42 (dk_at dksX3_init_8 19 rfl rfl)
theorem dX3_init_207 : decode cX3_init 207 = .ok (.bipush 40, 2) := dk_16 40 (dk_at dksX3_init_8 20 rfl rfl)
theorem dX3_init_209 : decode cX3_init 209 = .ok (.newarray .int, 2) := dk_188_10 (dk_at dksX3_init_8 22 rfl rfl)
theorem dX3_init_211 : decode cX3_init 211 = .ok (.putfield 86, 3) := dk_181 0 86 (dk_at dksX3_init_9 0 rfl rfl)
theorem dX3_init_214 : decode cX3_init 214 = .ok (.aload_n 0, 1) := dk_42 (dk_at dksX3_init_9 3 rfl rfl)
theorem dX3_init_215 : decode cX3_init 215 = .ok (.bipush 40, 2) := dk_16 40 (dk_at dksX3_init_9 4 rfl rfl)
theorem dX3_init_217 : decode cX3_init 217 = .ok (.newarray .int, 2) := dk_188_10 (dk_at dksX3_init_9 6 rfl rfl)
theorem dX3_init_219 : decode cX3_init 219 = .ok (.putfield 89, 3) := dk_181 0 89 (dk_at dksX3_init_9 8 rfl rfl)
theorem dX3_init_222 : decode cX3_init 222 = .ok (.aload_n 0, 1) := dk_42 (dk_at dksX3_init_9 11 rfl rfl)
theorem dX3_init_223 : decode cX3_init 223 = .ok (.bipush 16, 2) := dk_16 16 (dk_at dksX3_init_9 12 rfl rfl)
theorem dX3_init_225 : decode cX3_init 225 = .ok (.newarray .int, 2) := dk_188_10 (dk_at dksX3_init_9 14 rfl rfl)
theorem dX3_init_227 : decode cX3_init 227 = .ok (.putfield 92, 3) := dk_181 0 92 (dk_at dksX3_init_9 16 rfl rfl)
theorem dX3_init_230 : decode cX3_init 230 = .ok (.aload_n 0, 1) := dk_42 (dk_at dksX3_init_9 19 rfl rfl)
theorem dX3_init_231 : decode cX3_init 231 = .ok (.bipush 16, 2) := dk_16 16 (dk_at dksX3_init_9 20 rfl rfl)
theorem dX3_init_233 : decode cX3_init 233 = .ok (.newarray .int, 2) := dk_188_10 (dk_at dksX3_init_9 22 rfl rfl)
theorem dX3_init_235 : decode cX3_init 235 = .ok (.putfield 95, 3) := dk_181 0 95 (dk_at dksX3_init_10 0 rfl rfl)
theorem dX3_init_238 : decode cX3_init 238 = .ok (.aload_n 0, 1) := dk_42 (dk_at dksX3_init_10 3 rfl rfl)
theorem dX3_init_239 : decode cX3_init 239 = .ok (.bipush 16, 2) := dk_16 16 (dk_at dksX3_init_10 4 rfl rfl)
theorem dX3_init_241 : decode cX3_init 241 = .ok (.newarray .int, 2) := dk_188_10 (dk_at dksX3_init_10 6 rfl rfl)
theorem dX3_init_243 : decode cX3_init 243 = .ok (.putfield 98, 3) := dk_181 0 98 (dk_at dksX3_init_10 8 rfl rfl)
theorem dX3_init_246 : decode cX3_init 246 = .ok (.aload_n 0, 1) := dk_42 (dk_at dksX3_init_10 11 rfl rfl)
theorem dX3_init_247 : decode cX3_init 247 = .ok (.bipush 16, 2) := dk_16 16 (dk_at dksX3_init_10 12 rfl rfl)
theorem dX3_init_249 : decode cX3_init 249 = .ok (.newarray .int, 2) := dk_188_10 (dk_at dksX3_init_10 14 rfl rfl)
theorem dX3_init_251 : decode cX3_init 251 = .ok (.putfield 101, 3) := dk_181 0 101 (dk_at dksX3_init_10 16 rfl rfl)
theorem dX3_init_254 : decode cX3_init 254 = .ok (.aload_n 0, 1) := dk_42 (dk_at dksX3_init_10 19 rfl rfl)
theorem dX3_init_255 : decode cX3_init 255 = .ok (.bipush 16, 2) := dk_16 16 (dk_at dksX3_init_10 20 rfl rfl)
theorem dX3_init_257 : decode cX3_init 257 = .ok (.newarray .int, 2) := dk_188_10 (dk_at dksX3_init_10 22 rfl rfl)
theorem dX3_init_259 : decode cX3_init 259 = .ok (.putfield 104, 3) := dk_181 0 104 (dk_at dksX3_init_11 0 rfl rfl)
theorem dX3_init_262 : decode cX3_init 262 = .ok (.aload_n 0, 1) := dk_42 (dk_at dksX3_init_11 3 rfl rfl)
theorem dX3_init_263 : decode cX3_init 263 = .ok (.bipush 16, 2) := dk_16 16 (dk_at dksX3_init_11 4 rfl rfl)
theorem dX3_init_265 : decode cX3_init 265 = .ok (.newarray .int, 2) := dk_188_10 (dk_at dksX3_init_11 6 rfl rfl)
theorem dX3_init_267 : decode cX3_init 267 = .ok (.putfield 107, 3) := dk_181 0 107 (dk_at dksX3_init_11 8 rfl rfl)
theorem dX3_init_270 : decode cX3_init 270 = .ok (.aload_n 0, 1) := dk_42 (dk_at dksX3_init_11 11 rfl rfl)
theorem dX3_init_271 : decode cX3_init 271 = .ok (.sipush 1360, 3) := dk_17 5 80 (dk_at dksX3_init_11 12 rfl rfl)
theorem dX3_init_274 : decode cX3_init 274 = .ok (.newarray .int, 2) := dk_188_10 (dk_at dksX3_init_11 15 rfl rfl)
theorem dX3_init_276 : decode cX3_init 276 = .ok (.putfield 110, 3) := dk_181 0 110 (dk_at dksX3_init_11 17 rfl rfl)
theorem dX3_init_279 : decode cX3_init 279 = .ok (.aload_n 0, 1) := dk_42 (dk_at dksX3_init_11 20 rfl rfl)
theorem dX3_init_280 : decode cX3_init 280 = .ok (.sipush 1360, 3) := dk_17 5 80 (dk_at dksX3_init_11 21 rfl rfl)
theorem dX3_init_283 : decode cX3_init 283 = .ok (.newarray .int, 2) := dk_188_10 (dk_at dksX3_init_12 0 rfl rfl)
theorem dX3_init_285 : decode cX3_init 285 = .ok (.putfield 113, 3) := dk_181 0 113 (dk_at dksX3_init_12 2 rfl rfl)
theorem dX3_init_288 : decode cX3_init 288 = .ok (.aload_n 0, 1) := dk_42 (dk_at dksX3_init_12 5 rfl rfl)
theorem dX3_init_289 : decode cX3_init 289 = .ok (.bipush 80, 2) := dk_16 80 (dk_at dksX3_init_12 6 rfl rfl)
theorem dX3_init_291 : decode cX3_init 291 = .ok (.newarray .int, 2) := dk_188_10 (dk_at dksX3_init_12 8 rfl rfl)
theorem dX3_init_293 : decode cX3_init 293 = .ok (.putfield 116, 3) := dk_181 0 116 (dk_at dksX3_init_12 10 rfl rfl)
theorem dX3_init_296 : decode cX3_init 296 = .ok (.aload_n 0, 1) := dk_42 (dk_at dksX3_init_12 13 rfl rfl)
theorem dX3_init_297 : decode cX3_init 297 = .ok (.bipush 8, 2) := dk_16 8 (dk_at dksX3_init_12 14 rfl rfl)
theorem dX3_init_299 : decode cX3_init 299 = .ok (.newarray .boolean, 2) := dk_188_4 (dk_at dksX3_init_12 16 rfl rfl)
theorem dX3_init_301 : decode cX3_init 301 = .ok (.putfield 119, 3) := dk_181 0 119 (dk_at dksX3_init_12 18 rfl rfl)
theorem dX3_init_304 : decode cX3_init 304 = .ok (.aload_n 0, 1) := dk_42 (dk_at dksX3_init_12 21 rfl rfl)
theorem dX3_init_305 : decode cX3_init 305 = .ok (.bipush 8, 2) := dk_16 8 (dk_at dksX3_init_12 22 rfl rfl)
theorem dX3_init_307 : decode cX3_init 307 = .ok (.newarray .boolean, 2) := dk_188_4 (dk_at dksX3_init_13 0 rfl rfl)
theorem dX3_init_309 : decode cX3_init 309 = .ok (.putfield 122, 3) := dk_181 0 122 (dk_at dksX3_init_13 2 rfl rfl)
theorem dX3_init_312 : decode cX3_init 312 = .ok (.aload_n 0, 1) := dk_42 (dk_at dksX3_init_13 5 rfl rfl)
theorem dX3_init_313 : decode cX3_init 313 = .ok (.bipush 8, 2) := dk_16 8 (dk_at dksX3_init_13 6 rfl rfl)
theorem dX3_init_315 : decode cX3_init 315 = .ok (.newarray .boolean, 2) := dk_188_4 (dk_at dksX3_init_13 8 rfl rfl)
theorem dX3_init_317 : decode cX3_init 317 = .ok (.putfield 125, 3) := dk_181 0 125 (dk_at dksX3_init_13 10 rfl rfl)
theorem dX3_init_320 : decode cX3_init 320 = .ok (.aload_n 0, 1) := dk_42 (dk_at dksX3_init_13 13 rfl rfl)
theorem dX3_init_321 : decode cX3_init 321 = .ok (.bipush 80, 2) := dk_16 80 (dk_at dksX3_init_13 14 rfl rfl)
theorem dX3_init_323 : decode cX3_init 323 = .ok (.newarray .int, 2) := dk_188_10 (dk_at dksX3_init_13 16 rfl rfl)
theorem dX3_init_325 : decode cX3_init 325 = .ok (.putfield 128, 3) := dk_181 0 128 (dk_at dksX3_init_13 18 rfl rfl)
theorem dX3_init_328 : decode cX3_init 328 = .ok (.aload_n 0, 1) := dk_42 (dk_at dksX3_init_13 21 rfl rfl)
theorem dX3_init_329 : decode cX3_init 329 = .ok (.bipush 16, 2) := dk_16 16 (dk_at dksX3_init_13 22 rfl rfl)
theorem dX3_init_331 : decode cX3_init 331 = .ok (.newarray .int, 2) := dk_188_10 (dk_at dksX3_init_14 0 rfl rfl)
theorem dX3_init_333 : decode cX3_init 333 = .ok (.putfield 131, 3) := dk_181 0 131 (dk_at dksX3_init_14 2 rfl rfl)
theorem dX3_init_336 : decode cX3_init 336 = .ok (.aload_n 0, 1) := dk_42 (dk_at dksX3_init_14 5 rfl rfl)
theorem dX3_init_337 : decode cX3_init 337 = .ok (.bipush 16, 2) := dk_16 16 (dk_at dksX3_init_14 6 rfl rfl)
theorem dX3_init_339 : decode cX3_init 339 = .ok (.newarray .int, 2) := dk_188_10 (dk_at dksX3_init_14 8 rfl rfl)
theorem dX3_init_341 : decode cX3_init 341 = .ok (.putfield 134, 3) := dk_181 0 134 (dk_at dksX3_init_14 10 rfl rfl)
theorem dX3_init_344 : decode cX3_init 344 = .ok (.aload_n 0, 1) := dk_42 (dk_at dksX3_init_14 13 rfl rfl)
theorem dX3_init_345 : decode cX3_init 345 = .ok (.bipush 16, 2) := dk_16 16 (dk_at dksX3_init_14 14 rfl rfl)
theorem dX3_init_347 : decode cX3_init 347 = .ok (.newarray .int, 2) := dk_188_10 (dk_at dksX3_init_14 16 rfl rfl)
theorem dX3_init_349 : decode cX3_init 349 = .ok (.putfield 137, 3) := dk_181 0 137 (dk_at dksX3_init_14 18 rfl rfl)
theorem dX3_init_352 : decode cX3_init 352 = .ok (.aload_n 0, 1) := dk_42 (dk_at dksX3_init_14 21 rfl rfl)
theorem dX3_init_353 : decode cX3_init 353 = .ok (.bipush 8, 2) := dk_16 8 (dk_at dksX3_init_14 22 rfl rfl)
theorem dX3_init_355 : decode cX3_init 355 = .ok (.newarray .int, 2) := dk_188_10 (dk_at dksX3_init_15 0 rfl rfl)
theorem dX3_init_357 : decode cX3_init 357 = .ok (.putfield 140, 3) := dk_181 0 140 (dk_at dksX3_init_15 2 rfl rfl)
theorem dX3_init_360 : decode cX3_init 360 = .ok (.aload_n 0, 1) := dk_42 (dk_at dksX3_init_15 5 rfl rfl)
theorem dX3_init_361 : decode cX3_init 361 = .ok (.bipush 8, 2) := dk_16 8 (dk_at dksX3_init_15 6 rfl rfl)
theorem dX3_init_363 : decode cX3_init 363 = .ok (.newarray .int, 2) := dk_188_10 (dk_at dksX3_init_15 8 rfl rfl)
theorem dX3_init_365 : decode cX3_init 365 = .ok (.putfield 143, 3) := dk_181 0 143 (dk_at dksX3_init_15 10 rfl rfl)
theorem dX3_init_368 : decode cX3_init 368 = .ok (.aload_n 0, 1) := dk_42 (dk_at dksX3_init_15 13 rfl rfl)
theorem dX3_init_369 : decode cX3_init 369 = .ok (.iconst 4, 1) := dk_7 (dk_at dksX3_init_15 14 rfl rfl)
theorem dX3_init_370 : decode cX3_init 370 = .ok (.newarray .int, 2) := dk_188_10 (dk_at dksX3_init_15 15 rfl rfl)
theorem dX3_init_372 : decode cX3_init 372 = .ok (.putfield 146, 3) := dk_181 0 146 (dk_at dksX3_init_15 17 rfl rfl)
theorem dX3_init_375 : decode cX3_init 375 = .ok (.aload_n 0, 1) := dk_42 (dk_at dksX3_init_15 20 rfl rfl)
theorem dX3_init_376 : decode cX3_init 376 = .ok (.iconst 4, 1) := dk_7 (dk_at dksX3_init_15 21 rfl rfl)
theorem dX3_init_377 : decode cX3_init 377 = .ok (.newarray .int, 2) := dk_188_10 (dk_at dksX3_init_15 22 rfl rfl)
theorem dX3_init_379 : decode cX3_init 379 = .ok (.putfield 149, 3) := dk_181 0 149 (dk_at dksX3_init_16 0 rfl rfl)
theorem dX3_init_382 : decode cX3_init 382 = .ok (.aload_n 0, 1) := dk_42 (dk_at dksX3_init_16 3 rfl rfl)
theorem dX3_init_383 : decode cX3_init 383 = .ok (.sipush 200, 3) := dk_17 0 200 (dk_at dksX3_init_16 4 rfl rfl)
theorem dX3_init_386 : decode cX3_init 386 = .ok (.newarray .int, 2) := dk_188_10 (dk_at dksX3_init_16 7 rfl rfl)
theorem dX3_init_388 : decode cX3_init 388 = .ok (.putfield 152, 3) := dk_181 0 152 (dk_at dksX3_init_16 9 rfl rfl)
theorem dX3_init_391 : decode cX3_init 391 = .ok (.aload_n 0, 1) := dk_42 (dk_at dksX3_init_16 12 rfl rfl)
theorem dX3_init_392 : decode cX3_init 392 = .ok (.bipush 50, 2) := dk_16 50 (dk_at dksX3_init_16 13 rfl rfl)
theorem dX3_init_394 : decode cX3_init 394 = .ok (.newarray .int, 2) := dk_188_10 (dk_at dksX3_init_16 15 rfl rfl)
theorem dX3_init_396 : decode cX3_init 396 = .ok (.putfield 155, 3) := dk_181 0 155 (dk_at dksX3_init_16 17 rfl rfl)
theorem dX3_init_399 : decode cX3_init 399 = .ok (.iconst 0, 1) := dk_3 (dk_at dksX3_init_16 20 rfl rfl)
theorem dX3_init_400 : decode cX3_init 400 = .ok (.istore_n 1, 1) := dk_60 (dk_at dksX3_init_16 21 rfl rfl)
theorem dX3_init_401 : decode cX3_init 401 = .ok (.iload_n 1, 1) := dk_27 (dk_at dksX3_init_16 22 rfl rfl)
theorem dX3_init_402 : decode cX3_init 402 = .ok (.iconst 4, 1) := dk_7 (dk_at dksX3_init_16 23 rfl rfl)
theorem dX3_init_403 : decode cX3_init 403 = .ok (.if_icmp .ge 16, 3) := dk_162 0 16 (dk_at dksX3_init_17 0 rfl rfl)
theorem dX3_init_406 : decode cX3_init 406 = .ok (.aload_n 0, 1) := dk_42 (dk_at dksX3_init_17 3 rfl rfl)
theorem dX3_init_407 : decode cX3_init 407 = .ok (.getfield 146, 3) := dk_180 0 146 (dk_at dksX3_init_17 4 rfl rfl)
theorem dX3_init_410 : decode cX3_init 410 = .ok (.iload_n 1, 1) := dk_27 (dk_at dksX3_init_17 7 rfl rfl)
theorem dX3_init_411 : decode cX3_init 411 = .ok (.iconst (-1), 1) := dk_2 (dk_at dksX3_init_17 8 rfl rfl)
theorem dX3_init_412 : decode cX3_init 412 = .ok (.iastore, 1) := dk_79 (dk_at dksX3_init_17 9 rfl rfl)
theorem dX3_init_413 : decode cX3_init 413 = .ok (.iinc 1 1, 3) := dk_132 1 1 (dk_at dksX3_init_17 10 rfl rfl)
theorem dX3_init_416 : decode cX3_init 416 = .ok (.goto (-15), 3) := dk_167 255 241 (dk_at dksX3_init_17 13 rfl rfl)
theorem dX3_init_419 : decode cX3_init 419 = .ok (.return_, 1) := dk_177 (dk_at dksX3_init_17 16 rfl rfl)
abbrev cX3_open : ByteArray := prog_19_method_7_code
def yX3_open : MethodName := ⟨RX3, "open", "(I)I"⟩
def dkwX3_open_0 : List UInt8 := [42, 3, 27, 3, 3, 3, 3, 182, 0, 170, 172]
abbrev dktX3_open_0 : List UInt8 := dkwX3_open_0 ++ []
theorem dksX3_open_0 : cX3_open.data.toList.drop 0 = dktX3_open_0 := by decide +kernel
theorem dX3_open_0 : decode cX3_open 0 = .ok (.aload_n 0, 1) := dk_42 (dk_at dksX3_open_0 0 rfl rfl)
theorem dX3_open_1 : decode cX3_open 1 = .ok (.iconst 0, 1) := dk_3 (dk_at dksX3_open_0 1 rfl rfl)
theorem dX3_open_2 : decode cX3_open 2 = .ok (.iload_n 1, 1) := dk_27 (dk_at dksX3_open_0 2 rfl rfl)
theorem dX3_open_3 : decode cX3_open 3 = .ok (.iconst 0, 1) := dk_3 (dk_at dksX3_open_0 3 rfl rfl)
theorem dX3_open_4 : decode cX3_open 4 = .ok (.iconst 0, 1) := dk_3 (dk_at dksX3_open_0 4 rfl rfl)
theorem dX3_open_5 : decode cX3_open 5 = .ok (.iconst 0, 1) := dk_3 (dk_at dksX3_open_0 5 rfl rfl)
theorem dX3_open_6 : decode cX3_open 6 = .ok (.iconst 0, 1) := dk_3 (dk_at dksX3_open_0 6 rfl rfl)
theorem dX3_open_7 : decode cX3_open 7 = .ok (.invokevirtual 170, 3) := dk_182 0 170 (dk_at dksX3_open_0 7 rfl rfl)
theorem dX3_open_10 : decode cX3_open 10 = .ok (.ireturn, 1) := dk_172 (dk_at dksX3_open_0 10 rfl rfl)
abbrev cX3_makes : ByteArray := prog_19_method_6_code
def yX3_makes : MethodName := ⟨RX3, "makes", "(IIIIII)I"⟩
def dkwX3_makes_6 : List UInt8 := [181, 0, 166, 42, 180, 0, 166, 4, 100, 172]
abbrev dktX3_makes_6 : List UInt8 := dkwX3_makes_6 ++ []
def dkwX3_makes_5 : List UInt8 := [180, 0, 166, 104, 21, 7, 96, 4, 84, 132, 7, 1, 167, 255, 230, 42, 89, 180, 0, 166, 4, 96]
abbrev dktX3_makes_5 : List UInt8 := dkwX3_makes_5 ++ dktX3_makes_6
def dkwX3_makes_4 : List UInt8 := [180, 0, 166, 21, 6, 79, 3, 54, 7, 21, 7, 16, 50, 162, 0, 25, 42, 180, 0, 35, 16, 50, 42]
abbrev dktX3_makes_4 : List UInt8 := dkwX3_makes_4 ++ dktX3_makes_5
def dkwX3_makes_3 : List UInt8 := [42, 180, 0, 166, 21, 4, 79, 42, 180, 0, 22, 42, 180, 0, 166, 21, 5, 79, 42, 180, 0, 25, 42]
abbrev dktX3_makes_3 : List UInt8 := dkwX3_makes_3 ++ dktX3_makes_4
def dkwX3_makes_2 : List UInt8 := [42, 180, 0, 13, 42, 180, 0, 166, 28, 79, 42, 180, 0, 16, 42, 180, 0, 166, 29, 79, 42, 180, 0, 19]
abbrev dktX3_makes_2 : List UInt8 := dkwX3_makes_2 ++ dktX3_makes_3
def dkwX3_makes_1 : List UInt8 := [2, 172, 42, 180, 0, 166, 16, 16, 160, 0, 6, 16, 253, 172, 42, 180, 0, 7, 42, 180, 0, 166, 27, 79]
abbrev dktX3_makes_1 : List UInt8 := dkwX3_makes_1 ++ dktX3_makes_2
def dkwX3_makes_0 : List UInt8 := [28, 133, 9, 20, 0, 158, 184, 0, 160, 153, 0, 15, 29, 133, 9, 20, 0, 164, 184, 0, 160, 154, 0, 5]
abbrev dktX3_makes_0 : List UInt8 := dkwX3_makes_0 ++ dktX3_makes_1
theorem dksX3_makes_0 : cX3_makes.data.toList.drop 0 = dktX3_makes_0 := by decide +kernel
theorem dksX3_makes_1 : cX3_makes.data.toList.drop 24 = dktX3_makes_1 := dk_seg dksX3_makes_0 24 rfl rfl
theorem dksX3_makes_2 : cX3_makes.data.toList.drop 48 = dktX3_makes_2 := dk_seg dksX3_makes_1 24 rfl rfl
theorem dksX3_makes_3 : cX3_makes.data.toList.drop 72 = dktX3_makes_3 := dk_seg dksX3_makes_2 24 rfl rfl
theorem dksX3_makes_4 : cX3_makes.data.toList.drop 95 = dktX3_makes_4 := dk_seg dksX3_makes_3 23 rfl rfl
theorem dksX3_makes_5 : cX3_makes.data.toList.drop 118 = dktX3_makes_5 := dk_seg dksX3_makes_4 23 rfl rfl
theorem dksX3_makes_6 : cX3_makes.data.toList.drop 140 = dktX3_makes_6 := dk_seg dksX3_makes_5 22 rfl rfl
theorem dX3_makes_0 : decode cX3_makes 0 = .ok (.iload_n 2, 1) := dk_28 (dk_at dksX3_makes_0 0 rfl rfl)
theorem dX3_makes_1 : decode cX3_makes 1 = .ok (.i2l, 1) := dk_133 (dk_at dksX3_makes_0 1 rfl rfl)
theorem dX3_makes_2 : decode cX3_makes 2 = .ok (.lconst 0, 1) := dk_9 (dk_at dksX3_makes_0 2 rfl rfl)
theorem dX3_makes_3 : decode cX3_makes 3 = .ok (.ldc2_w 158, 3) := dk_20 0 158 (dk_at dksX3_makes_0 3 rfl rfl)
theorem dX3_makes_6 : decode cX3_makes 6 = .ok (.invokestatic 160, 3) := dk_184 0 160 (dk_at dksX3_makes_0 6 rfl rfl)
theorem dX3_makes_9 : decode cX3_makes 9 = .ok (.ifCond .eq 15, 3) := dk_153 0 15 (dk_at dksX3_makes_0 9 rfl rfl)
theorem dX3_makes_12 : decode cX3_makes 12 = .ok (.iload_n 3, 1) := dk_29 (dk_at dksX3_makes_0 12 rfl rfl)
theorem dX3_makes_13 : decode cX3_makes 13 = .ok (.i2l, 1) := dk_133 (dk_at dksX3_makes_0 13 rfl rfl)
theorem dX3_makes_14 : decode cX3_makes 14 = .ok (.lconst 0, 1) := dk_9 (dk_at dksX3_makes_0 14 rfl rfl)
theorem dX3_makes_15 : decode cX3_makes 15 = .ok (.ldc2_w 164, 3) := dk_20 0 164 (dk_at dksX3_makes_0 15 rfl rfl)
theorem dX3_makes_18 : decode cX3_makes 18 = .ok (.invokestatic 160, 3) := dk_184 0 160 (dk_at dksX3_makes_0 18 rfl rfl)
theorem dX3_makes_21 : decode cX3_makes 21 = .ok (.ifCond .ne 5, 3) := dk_154 0 5 (dk_at dksX3_makes_0 21 rfl rfl)
theorem dX3_makes_24 : decode cX3_makes 24 = .ok (.iconst (-1), 1) := dk_2 (dk_at dksX3_makes_1 0 rfl rfl)
theorem dX3_makes_25 : decode cX3_makes 25 = .ok (.ireturn, 1) := dk_172 (dk_at dksX3_makes_1 1 rfl rfl)
theorem dX3_makes_26 : decode cX3_makes 26 = .ok (.aload_n 0, 1) := dk_42 (dk_at dksX3_makes_1 2 rfl rfl)
theorem dX3_makes_27 : decode cX3_makes 27 = .ok (.getfield 166, 3) := dk_180 0 166 (dk_at dksX3_makes_1 3 rfl rfl)
theorem dX3_makes_30 : decode cX3_makes 30 = .ok (.bipush 16, 2) := dk_16 16 (dk_at dksX3_makes_1 6 rfl rfl)
theorem dX3_makes_32 : decode cX3_makes 32 = .ok (.if_icmp .ne 6, 3) := dk_160 0 6 (dk_at dksX3_makes_1 8 rfl rfl)
theorem dX3_makes_35 : decode cX3_makes 35 = .ok (.bipush (-3), 2) := dk_16 253 (dk_at dksX3_makes_1 11 rfl rfl)
theorem dX3_makes_37 : decode cX3_makes 37 = .ok (.ireturn, 1) := dk_172 (dk_at dksX3_makes_1 13 rfl rfl)
theorem dX3_makes_38 : decode cX3_makes 38 = .ok (.aload_n 0, 1) := dk_42 (dk_at dksX3_makes_1 14 rfl rfl)
theorem dX3_makes_39 : decode cX3_makes 39 = .ok (.getfield 7, 3) := dk_180 0 7 (dk_at dksX3_makes_1 15 rfl rfl)
theorem dX3_makes_42 : decode cX3_makes 42 = .ok (.aload_n 0, 1) := dk_42 (dk_at dksX3_makes_1 18 rfl rfl)
theorem dX3_makes_43 : decode cX3_makes 43 = .ok (.getfield 166, 3) := dk_180 0 166 (dk_at dksX3_makes_1 19 rfl rfl)
theorem dX3_makes_46 : decode cX3_makes 46 = .ok (.iload_n 1, 1) := dk_27 (dk_at dksX3_makes_1 22 rfl rfl)
theorem dX3_makes_47 : decode cX3_makes 47 = .ok (.iastore, 1) := dk_79 (dk_at dksX3_makes_1 23 rfl rfl)
theorem dX3_makes_48 : decode cX3_makes 48 = .ok (.aload_n 0, 1) := dk_42 (dk_at dksX3_makes_2 0 rfl rfl)
theorem dX3_makes_49 : decode cX3_makes 49 = .ok (.getfield 13, 3) := dk_180 0 13 (dk_at dksX3_makes_2 1 rfl rfl)
theorem dX3_makes_52 : decode cX3_makes 52 = .ok (.aload_n 0, 1) := dk_42 (dk_at dksX3_makes_2 4 rfl rfl)
theorem dX3_makes_53 : decode cX3_makes 53 = .ok (.getfield 166, 3) := dk_180 0 166 (dk_at dksX3_makes_2 5 rfl rfl)
theorem dX3_makes_56 : decode cX3_makes 56 = .ok (.iload_n 2, 1) := dk_28 (dk_at dksX3_makes_2 8 rfl rfl)
theorem dX3_makes_57 : decode cX3_makes 57 = .ok (.iastore, 1) := dk_79 (dk_at dksX3_makes_2 9 rfl rfl)
theorem dX3_makes_58 : decode cX3_makes 58 = .ok (.aload_n 0, 1) := dk_42 (dk_at dksX3_makes_2 10 rfl rfl)
theorem dX3_makes_59 : decode cX3_makes 59 = .ok (.getfield 16, 3) := dk_180 0 16 (dk_at dksX3_makes_2 11 rfl rfl)
theorem dX3_makes_62 : decode cX3_makes 62 = .ok (.aload_n 0, 1) := dk_42 (dk_at dksX3_makes_2 14 rfl rfl)
theorem dX3_makes_63 : decode cX3_makes 63 = .ok (.getfield 166, 3) := dk_180 0 166 (dk_at dksX3_makes_2 15 rfl rfl)
theorem dX3_makes_66 : decode cX3_makes 66 = .ok (.iload_n 3, 1) := dk_29 (dk_at dksX3_makes_2 18 rfl rfl)
theorem dX3_makes_67 : decode cX3_makes 67 = .ok (.iastore, 1) := dk_79 (dk_at dksX3_makes_2 19 rfl rfl)
theorem dX3_makes_68 : decode cX3_makes 68 = .ok (.aload_n 0, 1) := dk_42 (dk_at dksX3_makes_2 20 rfl rfl)
theorem dX3_makes_69 : decode cX3_makes 69 = .ok (.getfield 19, 3) := dk_180 0 19 (dk_at dksX3_makes_2 21 rfl rfl)
theorem dX3_makes_72 : decode cX3_makes 72 = .ok (.aload_n 0, 1) := dk_42 (dk_at dksX3_makes_3 0 rfl rfl)
theorem dX3_makes_73 : decode cX3_makes 73 = .ok (.getfield 166, 3) := dk_180 0 166 (dk_at dksX3_makes_3 1 rfl rfl)
theorem dX3_makes_76 : decode cX3_makes 76 = .ok (.iload 4, 2) := dk_21 4 (dk_at dksX3_makes_3 4 rfl rfl)
theorem dX3_makes_78 : decode cX3_makes 78 = .ok (.iastore, 1) := dk_79 (dk_at dksX3_makes_3 6 rfl rfl)
theorem dX3_makes_79 : decode cX3_makes 79 = .ok (.aload_n 0, 1) := dk_42 (dk_at dksX3_makes_3 7 rfl rfl)
theorem dX3_makes_80 : decode cX3_makes 80 = .ok (.getfield 22, 3) := dk_180 0 22 (dk_at dksX3_makes_3 8 rfl rfl)
theorem dX3_makes_83 : decode cX3_makes 83 = .ok (.aload_n 0, 1) := dk_42 (dk_at dksX3_makes_3 11 rfl rfl)
theorem dX3_makes_84 : decode cX3_makes 84 = .ok (.getfield 166, 3) := dk_180 0 166 (dk_at dksX3_makes_3 12 rfl rfl)
theorem dX3_makes_87 : decode cX3_makes 87 = .ok (.iload 5, 2) := dk_21 5 (dk_at dksX3_makes_3 15 rfl rfl)
theorem dX3_makes_89 : decode cX3_makes 89 = .ok (.iastore, 1) := dk_79 (dk_at dksX3_makes_3 17 rfl rfl)
theorem dX3_makes_90 : decode cX3_makes 90 = .ok (.aload_n 0, 1) := dk_42 (dk_at dksX3_makes_3 18 rfl rfl)
theorem dX3_makes_91 : decode cX3_makes 91 = .ok (.getfield 25, 3) := dk_180 0 25 (dk_at dksX3_makes_3 19 rfl rfl)
theorem dX3_makes_94 : decode cX3_makes 94 = .ok (.aload_n 0, 1) := dk_42 (dk_at dksX3_makes_3 22 rfl rfl)
theorem dX3_makes_95 : decode cX3_makes 95 = .ok (.getfield 166, 3) := dk_180 0 166 (dk_at dksX3_makes_4 0 rfl rfl)
theorem dX3_makes_98 : decode cX3_makes 98 = .ok (.iload 6, 2) := dk_21 6 (dk_at dksX3_makes_4 3 rfl rfl)
theorem dX3_makes_100 : decode cX3_makes 100 = .ok (.iastore, 1) := dk_79 (dk_at dksX3_makes_4 5 rfl rfl)
theorem dX3_makes_101 : decode cX3_makes 101 = .ok (.iconst 0, 1) := dk_3 (dk_at dksX3_makes_4 6 rfl rfl)
theorem dX3_makes_102 : decode cX3_makes 102 = .ok (.istore 7, 2) := dk_54 7 (dk_at dksX3_makes_4 7 rfl rfl)
theorem dX3_makes_104 : decode cX3_makes 104 = .ok (.iload 7, 2) := dk_21 7 (dk_at dksX3_makes_4 9 rfl rfl)
theorem dX3_makes_106 : decode cX3_makes 106 = .ok (.bipush 50, 2) := dk_16 50 (dk_at dksX3_makes_4 11 rfl rfl)
theorem dX3_makes_108 : decode cX3_makes 108 = .ok (.if_icmp .ge 25, 3) := dk_162 0 25 (dk_at dksX3_makes_4 13 rfl rfl)
theorem dX3_makes_111 : decode cX3_makes 111 = .ok (.aload_n 0, 1) := dk_42 (dk_at dksX3_makes_4 16 rfl rfl)
theorem dX3_makes_112 : decode cX3_makes 112 = .ok (.getfield 35, 3) := dk_180 0 35 (dk_at dksX3_makes_4 17 rfl rfl)
theorem dX3_makes_115 : decode cX3_makes 115 = .ok (.bipush 50, 2) := dk_16 50 (dk_at dksX3_makes_4 20 rfl rfl)
theorem dX3_makes_117 : decode cX3_makes 117 = .ok (.aload_n 0, 1) := dk_42 (dk_at dksX3_makes_4 22 rfl rfl)
theorem dX3_makes_118 : decode cX3_makes 118 = .ok (.getfield 166, 3) := dk_180 0 166 (dk_at dksX3_makes_5 0 rfl rfl)
theorem dX3_makes_121 : decode cX3_makes 121 = .ok (.imul, 1) := dk_104 (dk_at dksX3_makes_5 3 rfl rfl)
theorem dX3_makes_122 : decode cX3_makes 122 = .ok (.iload 7, 2) := dk_21 7 (dk_at dksX3_makes_5 4 rfl rfl)
theorem dX3_makes_124 : decode cX3_makes 124 = .ok (.iadd, 1) := dk_96 (dk_at dksX3_makes_5 6 rfl rfl)
theorem dX3_makes_125 : decode cX3_makes 125 = .ok (.iconst 1, 1) := dk_4 (dk_at dksX3_makes_5 7 rfl rfl)
theorem dX3_makes_126 : decode cX3_makes 126 = .ok (.bastore, 1) := dk_84 (dk_at dksX3_makes_5 8 rfl rfl)
theorem dX3_makes_127 : decode cX3_makes 127 = .ok (.iinc 7 1, 3) := dk_132 7 1 (dk_at dksX3_makes_5 9 rfl rfl)
theorem dX3_makes_130 : decode cX3_makes 130 = .ok (.goto (-26), 3) := dk_167 255 230 (dk_at dksX3_makes_5 12 rfl rfl)
theorem dX3_makes_133 : decode cX3_makes 133 = .ok (.aload_n 0, 1) := dk_42 (dk_at dksX3_makes_5 15 rfl rfl)
theorem dX3_makes_134 : decode cX3_makes 134 = .ok (.dup, 1) := dk_89 (dk_at dksX3_makes_5 16 rfl rfl)
theorem dX3_makes_135 : decode cX3_makes 135 = .ok (.getfield 166, 3) := dk_180 0 166 (dk_at dksX3_makes_5 17 rfl rfl)
theorem dX3_makes_138 : decode cX3_makes 138 = .ok (.iconst 1, 1) := dk_4 (dk_at dksX3_makes_5 20 rfl rfl)
theorem dX3_makes_139 : decode cX3_makes 139 = .ok (.iadd, 1) := dk_96 (dk_at dksX3_makes_5 21 rfl rfl)
theorem dX3_makes_140 : decode cX3_makes 140 = .ok (.putfield 166, 3) := dk_181 0 166 (dk_at dksX3_makes_6 0 rfl rfl)
theorem dX3_makes_143 : decode cX3_makes 143 = .ok (.aload_n 0, 1) := dk_42 (dk_at dksX3_makes_6 3 rfl rfl)
theorem dX3_makes_144 : decode cX3_makes 144 = .ok (.getfield 166, 3) := dk_180 0 166 (dk_at dksX3_makes_6 4 rfl rfl)
theorem dX3_makes_147 : decode cX3_makes 147 = .ok (.iconst 1, 1) := dk_4 (dk_at dksX3_makes_6 7 rfl rfl)
theorem dX3_makes_148 : decode cX3_makes 148 = .ok (.isub, 1) := dk_100 (dk_at dksX3_makes_6 8 rfl rfl)
theorem dX3_makes_149 : decode cX3_makes 149 = .ok (.ireturn, 1) := dk_172 (dk_at dksX3_makes_6 9 rfl rfl)
abbrev cX3_in : ByteArray := prog_19_method_2_code
def yX3_in : MethodName := ⟨RX3, "in", "(JJJ)Z"⟩
def dkwX3_in_0 : List UInt8 := [30, 32, 148, 155, 0, 14, 30, 22, 4, 148, 157, 0, 7, 4, 167, 0, 4, 3, 172]
abbrev dktX3_in_0 : List UInt8 := dkwX3_in_0 ++ []
theorem dksX3_in_0 : cX3_in.data.toList.drop 0 = dktX3_in_0 := by decide +kernel
theorem dX3_in_0 : decode cX3_in 0 = .ok (.lload_n 0, 1) := dk_30 (dk_at dksX3_in_0 0 rfl rfl)
theorem dX3_in_1 : decode cX3_in 1 = .ok (.lload_n 2, 1) := dk_32 (dk_at dksX3_in_0 1 rfl rfl)
theorem dX3_in_2 : decode cX3_in 2 = .ok (.lcmp, 1) := dk_148 (dk_at dksX3_in_0 2 rfl rfl)
theorem dX3_in_3 : decode cX3_in 3 = .ok (.ifCond .lt 14, 3) := dk_155 0 14 (dk_at dksX3_in_0 3 rfl rfl)
theorem dX3_in_6 : decode cX3_in 6 = .ok (.lload_n 0, 1) := dk_30 (dk_at dksX3_in_0 6 rfl rfl)
theorem dX3_in_7 : decode cX3_in 7 = .ok (.lload 4, 2) := dk_22 4 (dk_at dksX3_in_0 7 rfl rfl)
theorem dX3_in_9 : decode cX3_in 9 = .ok (.lcmp, 1) := dk_148 (dk_at dksX3_in_0 9 rfl rfl)
theorem dX3_in_10 : decode cX3_in 10 = .ok (.ifCond .gt 7, 3) := dk_157 0 7 (dk_at dksX3_in_0 10 rfl rfl)
theorem dX3_in_13 : decode cX3_in 13 = .ok (.iconst 1, 1) := dk_4 (dk_at dksX3_in_0 13 rfl rfl)
theorem dX3_in_14 : decode cX3_in 14 = .ok (.goto 4, 3) := dk_167 0 4 (dk_at dksX3_in_0 14 rfl rfl)
theorem dX3_in_17 : decode cX3_in 17 = .ok (.iconst 0, 1) := dk_3 (dk_at dksX3_in_0 17 rfl rfl)
theorem dX3_in_18 : decode cX3_in 18 = .ok (.ireturn, 1) := dk_172 (dk_at dksX3_in_0 18 rfl rfl)
abbrev cX3_house : ByteArray := prog_19_method_8_code
def yX3_house : MethodName := ⟨RX3, "house", "(II)I"⟩
def dkwX3_house_0 : List UInt8 := [42, 4, 27, 28, 3, 3, 3, 182, 0, 170, 172]
abbrev dktX3_house_0 : List UInt8 := dkwX3_house_0 ++ []
theorem dksX3_house_0 : cX3_house.data.toList.drop 0 = dktX3_house_0 := by decide +kernel
theorem dX3_house_0 : decode cX3_house 0 = .ok (.aload_n 0, 1) := dk_42 (dk_at dksX3_house_0 0 rfl rfl)
theorem dX3_house_1 : decode cX3_house 1 = .ok (.iconst 1, 1) := dk_4 (dk_at dksX3_house_0 1 rfl rfl)
theorem dX3_house_2 : decode cX3_house 2 = .ok (.iload_n 1, 1) := dk_27 (dk_at dksX3_house_0 2 rfl rfl)
theorem dX3_house_3 : decode cX3_house 3 = .ok (.iload_n 2, 1) := dk_28 (dk_at dksX3_house_0 3 rfl rfl)
theorem dX3_house_4 : decode cX3_house 4 = .ok (.iconst 0, 1) := dk_3 (dk_at dksX3_house_0 4 rfl rfl)
theorem dX3_house_5 : decode cX3_house 5 = .ok (.iconst 0, 1) := dk_3 (dk_at dksX3_house_0 5 rfl rfl)
theorem dX3_house_6 : decode cX3_house 6 = .ok (.iconst 0, 1) := dk_3 (dk_at dksX3_house_0 6 rfl rfl)
theorem dX3_house_7 : decode cX3_house 7 = .ok (.invokevirtual 170, 3) := dk_182 0 170 (dk_at dksX3_house_0 7 rfl rfl)
theorem dX3_house_10 : decode cX3_house 10 = .ok (.ireturn, 1) := dk_172 (dk_at dksX3_house_0 10 rfl rfl)
abbrev cX3_store : ByteArray := prog_19_method_9_code
def yX3_store : MethodName := ⟨RX3, "store", "(IIII)I"⟩
def dkwX3_store_1 : List UInt8 := [153, 0, 17, 42, 5, 27, 28, 29, 21, 4, 3, 182, 0, 170, 167, 0, 4, 2, 172]
abbrev dktX3_store_1 : List UInt8 := dkwX3_store_1 ++ []
def dkwX3_store_0 : List UInt8 := [29, 133, 10, 20, 0, 164, 184, 0, 160, 153, 0, 30, 21, 4, 133, 10, 20, 0, 174, 184, 0, 160]
abbrev dktX3_store_0 : List UInt8 := dkwX3_store_0 ++ dktX3_store_1
theorem dksX3_store_0 : cX3_store.data.toList.drop 0 = dktX3_store_0 := by decide +kernel
theorem dksX3_store_1 : cX3_store.data.toList.drop 22 = dktX3_store_1 := dk_seg dksX3_store_0 22 rfl rfl
theorem dX3_store_0 : decode cX3_store 0 = .ok (.iload_n 3, 1) := dk_29 (dk_at dksX3_store_0 0 rfl rfl)
theorem dX3_store_1 : decode cX3_store 1 = .ok (.i2l, 1) := dk_133 (dk_at dksX3_store_0 1 rfl rfl)
theorem dX3_store_2 : decode cX3_store 2 = .ok (.lconst 1, 1) := dk_10 (dk_at dksX3_store_0 2 rfl rfl)
theorem dX3_store_3 : decode cX3_store 3 = .ok (.ldc2_w 164, 3) := dk_20 0 164 (dk_at dksX3_store_0 3 rfl rfl)
theorem dX3_store_6 : decode cX3_store 6 = .ok (.invokestatic 160, 3) := dk_184 0 160 (dk_at dksX3_store_0 6 rfl rfl)
theorem dX3_store_9 : decode cX3_store 9 = .ok (.ifCond .eq 30, 3) := dk_153 0 30 (dk_at dksX3_store_0 9 rfl rfl)
theorem dX3_store_12 : decode cX3_store 12 = .ok (.iload 4, 2) := dk_21 4 (dk_at dksX3_store_0 12 rfl rfl)
theorem dX3_store_14 : decode cX3_store 14 = .ok (.i2l, 1) := dk_133 (dk_at dksX3_store_0 14 rfl rfl)
theorem dX3_store_15 : decode cX3_store 15 = .ok (.lconst 1, 1) := dk_10 (dk_at dksX3_store_0 15 rfl rfl)
theorem dX3_store_16 : decode cX3_store 16 = .ok (.ldc2_w 174, 3) := dk_20 0 174 (dk_at dksX3_store_0 16 rfl rfl)
theorem dX3_store_19 : decode cX3_store 19 = .ok (.invokestatic 160, 3) := dk_184 0 160 (dk_at dksX3_store_0 19 rfl rfl)
theorem dX3_store_22 : decode cX3_store 22 = .ok (.ifCond .eq 17, 3) := dk_153 0 17 (dk_at dksX3_store_1 0 rfl rfl)
theorem dX3_store_25 : decode cX3_store 25 = .ok (.aload_n 0, 1) := dk_42 (dk_at dksX3_store_1 3 rfl rfl)
theorem dX3_store_26 : decode cX3_store 26 = .ok (.iconst 2, 1) := dk_5 (dk_at dksX3_store_1 4 rfl rfl)
theorem dX3_store_27 : decode cX3_store 27 = .ok (.iload_n 1, 1) := dk_27 (dk_at dksX3_store_1 5 rfl rfl)
theorem dX3_store_28 : decode cX3_store 28 = .ok (.iload_n 2, 1) := dk_28 (dk_at dksX3_store_1 6 rfl rfl)
theorem dX3_store_29 : decode cX3_store 29 = .ok (.iload_n 3, 1) := dk_29 (dk_at dksX3_store_1 7 rfl rfl)
theorem dX3_store_30 : decode cX3_store 30 = .ok (.iload 4, 2) := dk_21 4 (dk_at dksX3_store_1 8 rfl rfl)
theorem dX3_store_32 : decode cX3_store 32 = .ok (.iconst 0, 1) := dk_3 (dk_at dksX3_store_1 10 rfl rfl)
theorem dX3_store_33 : decode cX3_store 33 = .ok (.invokevirtual 170, 3) := dk_182 0 170 (dk_at dksX3_store_1 11 rfl rfl)
theorem dX3_store_36 : decode cX3_store 36 = .ok (.goto 4, 3) := dk_167 0 4 (dk_at dksX3_store_1 14 rfl rfl)
theorem dX3_store_39 : decode cX3_store 39 = .ok (.iconst (-1), 1) := dk_2 (dk_at dksX3_store_1 17 rfl rfl)
theorem dX3_store_40 : decode cX3_store 40 = .ok (.ireturn, 1) := dk_172 (dk_at dksX3_store_1 18 rfl rfl)
abbrev cX3_crossing : ByteArray := prog_19_method_10_code
def yX3_crossing : MethodName := ⟨RX3, "crossing", "(II)I"⟩
def dkwX3_crossing_0 : List UInt8 := [42, 6, 27, 28, 3, 3, 3, 182, 0, 170, 172]
abbrev dktX3_crossing_0 : List UInt8 := dkwX3_crossing_0 ++ []
theorem dksX3_crossing_0 : cX3_crossing.data.toList.drop 0 = dktX3_crossing_0 := by decide +kernel
theorem dX3_crossing_0 : decode cX3_crossing 0 = .ok (.aload_n 0, 1) := dk_42 (dk_at dksX3_crossing_0 0 rfl rfl)
theorem dX3_crossing_1 : decode cX3_crossing 1 = .ok (.iconst 3, 1) := dk_6 (dk_at dksX3_crossing_0 1 rfl rfl)
theorem dX3_crossing_2 : decode cX3_crossing 2 = .ok (.iload_n 1, 1) := dk_27 (dk_at dksX3_crossing_0 2 rfl rfl)
theorem dX3_crossing_3 : decode cX3_crossing 3 = .ok (.iload_n 2, 1) := dk_28 (dk_at dksX3_crossing_0 3 rfl rfl)
theorem dX3_crossing_4 : decode cX3_crossing 4 = .ok (.iconst 0, 1) := dk_3 (dk_at dksX3_crossing_0 4 rfl rfl)
theorem dX3_crossing_5 : decode cX3_crossing 5 = .ok (.iconst 0, 1) := dk_3 (dk_at dksX3_crossing_0 5 rfl rfl)
theorem dX3_crossing_6 : decode cX3_crossing 6 = .ok (.iconst 0, 1) := dk_3 (dk_at dksX3_crossing_0 6 rfl rfl)
theorem dX3_crossing_7 : decode cX3_crossing 7 = .ok (.invokevirtual 170, 3) := dk_182 0 170 (dk_at dksX3_crossing_0 7 rfl rfl)
theorem dX3_crossing_10 : decode cX3_crossing 10 = .ok (.ireturn, 1) := dk_172 (dk_at dksX3_crossing_0 10 rfl rfl)
abbrev cX3_town : ByteArray := prog_19_method_11_code
def yX3_town : MethodName := ⟨RX3, "town", "(III)I"⟩
def dkwX3_town_1 : List UInt8 := [167, 0, 4, 2, 172]
abbrev dktX3_town_1 : List UInt8 := dkwX3_town_1 ++ []
def dkwX3_town_0 : List UInt8 := [29, 133, 10, 20, 0, 164, 184, 0, 160, 153, 0, 16, 42, 7, 27, 28, 3, 3, 29, 182, 0, 170]
abbrev dktX3_town_0 : List UInt8 := dkwX3_town_0 ++ dktX3_town_1
theorem dksX3_town_0 : cX3_town.data.toList.drop 0 = dktX3_town_0 := by decide +kernel
theorem dksX3_town_1 : cX3_town.data.toList.drop 22 = dktX3_town_1 := dk_seg dksX3_town_0 22 rfl rfl
theorem dX3_town_0 : decode cX3_town 0 = .ok (.iload_n 3, 1) := dk_29 (dk_at dksX3_town_0 0 rfl rfl)
theorem dX3_town_1 : decode cX3_town 1 = .ok (.i2l, 1) := dk_133 (dk_at dksX3_town_0 1 rfl rfl)
theorem dX3_town_2 : decode cX3_town 2 = .ok (.lconst 1, 1) := dk_10 (dk_at dksX3_town_0 2 rfl rfl)
theorem dX3_town_3 : decode cX3_town 3 = .ok (.ldc2_w 164, 3) := dk_20 0 164 (dk_at dksX3_town_0 3 rfl rfl)
theorem dX3_town_6 : decode cX3_town 6 = .ok (.invokestatic 160, 3) := dk_184 0 160 (dk_at dksX3_town_0 6 rfl rfl)
theorem dX3_town_9 : decode cX3_town 9 = .ok (.ifCond .eq 16, 3) := dk_153 0 16 (dk_at dksX3_town_0 9 rfl rfl)
theorem dX3_town_12 : decode cX3_town 12 = .ok (.aload_n 0, 1) := dk_42 (dk_at dksX3_town_0 12 rfl rfl)
theorem dX3_town_13 : decode cX3_town 13 = .ok (.iconst 4, 1) := dk_7 (dk_at dksX3_town_0 13 rfl rfl)
theorem dX3_town_14 : decode cX3_town 14 = .ok (.iload_n 1, 1) := dk_27 (dk_at dksX3_town_0 14 rfl rfl)
theorem dX3_town_15 : decode cX3_town 15 = .ok (.iload_n 2, 1) := dk_28 (dk_at dksX3_town_0 15 rfl rfl)
theorem dX3_town_16 : decode cX3_town 16 = .ok (.iconst 0, 1) := dk_3 (dk_at dksX3_town_0 16 rfl rfl)
theorem dX3_town_17 : decode cX3_town 17 = .ok (.iconst 0, 1) := dk_3 (dk_at dksX3_town_0 17 rfl rfl)
theorem dX3_town_18 : decode cX3_town 18 = .ok (.iload_n 3, 1) := dk_29 (dk_at dksX3_town_0 18 rfl rfl)
theorem dX3_town_19 : decode cX3_town 19 = .ok (.invokevirtual 170, 3) := dk_182 0 170 (dk_at dksX3_town_0 19 rfl rfl)
theorem dX3_town_22 : decode cX3_town 22 = .ok (.goto 4, 3) := dk_167 0 4 (dk_at dksX3_town_1 0 rfl rfl)
theorem dX3_town_25 : decode cX3_town 25 = .ok (.iconst (-1), 1) := dk_2 (dk_at dksX3_town_1 3 rfl rfl)
theorem dX3_town_26 : decode cX3_town 26 = .ok (.ireturn, 1) := dk_172 (dk_at dksX3_town_1 4 rfl rfl)
abbrev cX3_way : ByteArray := prog_19_method_14_code
def yX3_way : MethodName := ⟨RX3, "way", "(III)I"⟩
def dkwX3_way_3 : List UInt8 := [21, 4, 172]
abbrev dktX3_way_3 : List UInt8 := dkwX3_way_3 ++ []
def dkwX3_way_2 : List UInt8 := [42, 180, 0, 38, 16, 16, 27, 104, 28, 96, 29, 79, 42, 180, 0, 38, 16, 16, 28, 104, 27, 96, 29, 79]
abbrev dktX3_way_2 : List UInt8 := dkwX3_way_2 ++ dktX3_way_3
def dkwX3_way_1 : List UInt8 := [20, 0, 174, 184, 0, 160, 154, 0, 5, 2, 172, 42, 180, 0, 38, 16, 16, 27, 104, 28, 96, 46, 54, 4]
abbrev dktX3_way_1 : List UInt8 := dkwX3_way_1 ++ dktX3_way_2
def dkwX3_way_0 : List UInt8 := [42, 27, 182, 0, 176, 153, 0, 28, 42, 28, 182, 0, 176, 153, 0, 20, 27, 28, 159, 0, 15, 29, 133, 9]
abbrev dktX3_way_0 : List UInt8 := dkwX3_way_0 ++ dktX3_way_1
theorem dksX3_way_0 : cX3_way.data.toList.drop 0 = dktX3_way_0 := by decide +kernel
theorem dksX3_way_1 : cX3_way.data.toList.drop 24 = dktX3_way_1 := dk_seg dksX3_way_0 24 rfl rfl
theorem dksX3_way_2 : cX3_way.data.toList.drop 48 = dktX3_way_2 := dk_seg dksX3_way_1 24 rfl rfl
theorem dksX3_way_3 : cX3_way.data.toList.drop 72 = dktX3_way_3 := dk_seg dksX3_way_2 24 rfl rfl
theorem dX3_way_0 : decode cX3_way 0 = .ok (.aload_n 0, 1) := dk_42 (dk_at dksX3_way_0 0 rfl rfl)
theorem dX3_way_1 : decode cX3_way 1 = .ok (.iload_n 1, 1) := dk_27 (dk_at dksX3_way_0 1 rfl rfl)
theorem dX3_way_2 : decode cX3_way 2 = .ok (.invokevirtual 176, 3) := dk_182 0 176 (dk_at dksX3_way_0 2 rfl rfl)
theorem dX3_way_5 : decode cX3_way 5 = .ok (.ifCond .eq 28, 3) := dk_153 0 28 (dk_at dksX3_way_0 5 rfl rfl)
theorem dX3_way_8 : decode cX3_way 8 = .ok (.aload_n 0, 1) := dk_42 (dk_at dksX3_way_0 8 rfl rfl)
theorem dX3_way_9 : decode cX3_way 9 = .ok (.iload_n 2, 1) := dk_28 (dk_at dksX3_way_0 9 rfl rfl)
theorem dX3_way_10 : decode cX3_way 10 = .ok (.invokevirtual 176, 3) := dk_182 0 176 (dk_at dksX3_way_0 10 rfl rfl)
theorem dX3_way_13 : decode cX3_way 13 = .ok (.ifCond .eq 20, 3) := dk_153 0 20 (dk_at dksX3_way_0 13 rfl rfl)
theorem dX3_way_16 : decode cX3_way 16 = .ok (.iload_n 1, 1) := dk_27 (dk_at dksX3_way_0 16 rfl rfl)
theorem dX3_way_17 : decode cX3_way 17 = .ok (.iload_n 2, 1) := dk_28 (dk_at dksX3_way_0 17 rfl rfl)
theorem dX3_way_18 : decode cX3_way 18 = .ok (.if_icmp .eq 15, 3) := dk_159 0 15 (dk_at dksX3_way_0 18 rfl rfl)
theorem dX3_way_21 : decode cX3_way 21 = .ok (.iload_n 3, 1) := dk_29 (dk_at dksX3_way_0 21 rfl rfl)
theorem dX3_way_22 : decode cX3_way 22 = .ok (.i2l, 1) := dk_133 (dk_at dksX3_way_0 22 rfl rfl)
theorem dX3_way_23 : decode cX3_way 23 = .ok (.lconst 0, 1) := dk_9 (dk_at dksX3_way_0 23 rfl rfl)
theorem dX3_way_24 : decode cX3_way 24 = .ok (.ldc2_w 174, 3) := dk_20 0 174 (dk_at dksX3_way_1 0 rfl rfl)
theorem dX3_way_27 : decode cX3_way 27 = .ok (.invokestatic 160, 3) := dk_184 0 160 (dk_at dksX3_way_1 3 rfl rfl)
theorem dX3_way_30 : decode cX3_way 30 = .ok (.ifCond .ne 5, 3) := dk_154 0 5 (dk_at dksX3_way_1 6 rfl rfl)
theorem dX3_way_33 : decode cX3_way 33 = .ok (.iconst (-1), 1) := dk_2 (dk_at dksX3_way_1 9 rfl rfl)
theorem dX3_way_34 : decode cX3_way 34 = .ok (.ireturn, 1) := dk_172 (dk_at dksX3_way_1 10 rfl rfl)
theorem dX3_way_35 : decode cX3_way 35 = .ok (.aload_n 0, 1) := dk_42 (dk_at dksX3_way_1 11 rfl rfl)
theorem dX3_way_36 : decode cX3_way 36 = .ok (.getfield 38, 3) := dk_180 0 38 (dk_at dksX3_way_1 12 rfl rfl)
theorem dX3_way_39 : decode cX3_way 39 = .ok (.bipush 16, 2) := dk_16 16 (dk_at dksX3_way_1 15 rfl rfl)
theorem dX3_way_41 : decode cX3_way 41 = .ok (.iload_n 1, 1) := dk_27 (dk_at dksX3_way_1 17 rfl rfl)
theorem dX3_way_42 : decode cX3_way 42 = .ok (.imul, 1) := dk_104 (dk_at dksX3_way_1 18 rfl rfl)
theorem dX3_way_43 : decode cX3_way 43 = .ok (.iload_n 2, 1) := dk_28 (dk_at dksX3_way_1 19 rfl rfl)
theorem dX3_way_44 : decode cX3_way 44 = .ok (.iadd, 1) := dk_96 (dk_at dksX3_way_1 20 rfl rfl)
theorem dX3_way_45 : decode cX3_way 45 = .ok (.iaload, 1) := dk_46 (dk_at dksX3_way_1 21 rfl rfl)
theorem dX3_way_46 : decode cX3_way 46 = .ok (.istore 4, 2) := dk_54 4 (dk_at dksX3_way_1 22 rfl rfl)
theorem dX3_way_48 : decode cX3_way 48 = .ok (.aload_n 0, 1) := dk_42 (dk_at dksX3_way_2 0 rfl rfl)
theorem dX3_way_49 : decode cX3_way 49 = .ok (.getfield 38, 3) := dk_180 0 38 (dk_at dksX3_way_2 1 rfl rfl)
theorem dX3_way_52 : decode cX3_way 52 = .ok (.bipush 16, 2) := dk_16 16 (dk_at dksX3_way_2 4 rfl rfl)
theorem dX3_way_54 : decode cX3_way 54 = .ok (.iload_n 1, 1) := dk_27 (dk_at dksX3_way_2 6 rfl rfl)
theorem dX3_way_55 : decode cX3_way 55 = .ok (.imul, 1) := dk_104 (dk_at dksX3_way_2 7 rfl rfl)
theorem dX3_way_56 : decode cX3_way 56 = .ok (.iload_n 2, 1) := dk_28 (dk_at dksX3_way_2 8 rfl rfl)
theorem dX3_way_57 : decode cX3_way 57 = .ok (.iadd, 1) := dk_96 (dk_at dksX3_way_2 9 rfl rfl)
theorem dX3_way_58 : decode cX3_way 58 = .ok (.iload_n 3, 1) := dk_29 (dk_at dksX3_way_2 10 rfl rfl)
theorem dX3_way_59 : decode cX3_way 59 = .ok (.iastore, 1) := dk_79 (dk_at dksX3_way_2 11 rfl rfl)
theorem dX3_way_60 : decode cX3_way 60 = .ok (.aload_n 0, 1) := dk_42 (dk_at dksX3_way_2 12 rfl rfl)
theorem dX3_way_61 : decode cX3_way 61 = .ok (.getfield 38, 3) := dk_180 0 38 (dk_at dksX3_way_2 13 rfl rfl)
theorem dX3_way_64 : decode cX3_way 64 = .ok (.bipush 16, 2) := dk_16 16 (dk_at dksX3_way_2 16 rfl rfl)
theorem dX3_way_66 : decode cX3_way 66 = .ok (.iload_n 2, 1) := dk_28 (dk_at dksX3_way_2 18 rfl rfl)
theorem dX3_way_67 : decode cX3_way 67 = .ok (.imul, 1) := dk_104 (dk_at dksX3_way_2 19 rfl rfl)
theorem dX3_way_68 : decode cX3_way 68 = .ok (.iload_n 1, 1) := dk_27 (dk_at dksX3_way_2 20 rfl rfl)
theorem dX3_way_69 : decode cX3_way 69 = .ok (.iadd, 1) := dk_96 (dk_at dksX3_way_2 21 rfl rfl)
theorem dX3_way_70 : decode cX3_way 70 = .ok (.iload_n 3, 1) := dk_29 (dk_at dksX3_way_2 22 rfl rfl)
theorem dX3_way_71 : decode cX3_way 71 = .ok (.iastore, 1) := dk_79 (dk_at dksX3_way_2 23 rfl rfl)
theorem dX3_way_72 : decode cX3_way 72 = .ok (.iload 4, 2) := dk_21 4 (dk_at dksX3_way_3 0 rfl rfl)
theorem dX3_way_74 : decode cX3_way 74 = .ok (.ireturn, 1) := dk_172 (dk_at dksX3_way_3 2 rfl rfl)
abbrev cX3_isPlace : ByteArray := prog_19_method_12_code
def yX3_isPlace : MethodName := ⟨RX3, "isPlace", "(I)Z"⟩
def dkwX3_isPlace_0 : List UInt8 := [27, 133, 9, 42, 180, 0, 166, 4, 100, 133, 184, 0, 160, 172]
abbrev dktX3_isPlace_0 : List UInt8 := dkwX3_isPlace_0 ++ []
theorem dksX3_isPlace_0 : cX3_isPlace.data.toList.drop 0 = dktX3_isPlace_0 := by decide +kernel
theorem dX3_isPlace_0 : decode cX3_isPlace 0 = .ok (.iload_n 1, 1) := dk_27 (dk_at dksX3_isPlace_0 0 rfl rfl)
theorem dX3_isPlace_1 : decode cX3_isPlace 1 = .ok (.i2l, 1) := dk_133 (dk_at dksX3_isPlace_0 1 rfl rfl)
theorem dX3_isPlace_2 : decode cX3_isPlace 2 = .ok (.lconst 0, 1) := dk_9 (dk_at dksX3_isPlace_0 2 rfl rfl)
theorem dX3_isPlace_3 : decode cX3_isPlace 3 = .ok (.aload_n 0, 1) := dk_42 (dk_at dksX3_isPlace_0 3 rfl rfl)
theorem dX3_isPlace_4 : decode cX3_isPlace 4 = .ok (.getfield 166, 3) := dk_180 0 166 (dk_at dksX3_isPlace_0 4 rfl rfl)
theorem dX3_isPlace_7 : decode cX3_isPlace 7 = .ok (.iconst 1, 1) := dk_4 (dk_at dksX3_isPlace_0 7 rfl rfl)
theorem dX3_isPlace_8 : decode cX3_isPlace 8 = .ok (.isub, 1) := dk_100 (dk_at dksX3_isPlace_0 8 rfl rfl)
theorem dX3_isPlace_9 : decode cX3_isPlace 9 = .ok (.i2l, 1) := dk_133 (dk_at dksX3_isPlace_0 9 rfl rfl)
theorem dX3_isPlace_10 : decode cX3_isPlace 10 = .ok (.invokestatic 160, 3) := dk_184 0 160 (dk_at dksX3_isPlace_0 10 rfl rfl)
theorem dX3_isPlace_13 : decode cX3_isPlace 13 = .ok (.ireturn, 1) := dk_172 (dk_at dksX3_isPlace_0 13 rfl rfl)
abbrev cX3_far : ByteArray := prog_19_method_16_code
def yX3_far : MethodName := ⟨RX3, "far", "(II)I"⟩
def dkwX3_far_1 : List UInt8 := [167, 0, 4, 2, 172]
abbrev dktX3_far_1 : List UInt8 := dkwX3_far_1 ++ []
def dkwX3_far_0 : List UInt8 := [42, 27, 182, 0, 176, 153, 0, 20, 42, 28, 182, 0, 176, 153, 0, 12, 42, 27, 28, 182, 0, 180]
abbrev dktX3_far_0 : List UInt8 := dkwX3_far_0 ++ dktX3_far_1
theorem dksX3_far_0 : cX3_far.data.toList.drop 0 = dktX3_far_0 := by decide +kernel
theorem dksX3_far_1 : cX3_far.data.toList.drop 22 = dktX3_far_1 := dk_seg dksX3_far_0 22 rfl rfl
theorem dX3_far_0 : decode cX3_far 0 = .ok (.aload_n 0, 1) := dk_42 (dk_at dksX3_far_0 0 rfl rfl)
theorem dX3_far_1 : decode cX3_far 1 = .ok (.iload_n 1, 1) := dk_27 (dk_at dksX3_far_0 1 rfl rfl)
theorem dX3_far_2 : decode cX3_far 2 = .ok (.invokevirtual 176, 3) := dk_182 0 176 (dk_at dksX3_far_0 2 rfl rfl)
theorem dX3_far_5 : decode cX3_far 5 = .ok (.ifCond .eq 20, 3) := dk_153 0 20 (dk_at dksX3_far_0 5 rfl rfl)
theorem dX3_far_8 : decode cX3_far 8 = .ok (.aload_n 0, 1) := dk_42 (dk_at dksX3_far_0 8 rfl rfl)
theorem dX3_far_9 : decode cX3_far 9 = .ok (.iload_n 2, 1) := dk_28 (dk_at dksX3_far_0 9 rfl rfl)
theorem dX3_far_10 : decode cX3_far 10 = .ok (.invokevirtual 176, 3) := dk_182 0 176 (dk_at dksX3_far_0 10 rfl rfl)
theorem dX3_far_13 : decode cX3_far 13 = .ok (.ifCond .eq 12, 3) := dk_153 0 12 (dk_at dksX3_far_0 13 rfl rfl)
theorem dX3_far_16 : decode cX3_far 16 = .ok (.aload_n 0, 1) := dk_42 (dk_at dksX3_far_0 16 rfl rfl)
theorem dX3_far_17 : decode cX3_far 17 = .ok (.iload_n 1, 1) := dk_27 (dk_at dksX3_far_0 17 rfl rfl)
theorem dX3_far_18 : decode cX3_far 18 = .ok (.iload_n 2, 1) := dk_28 (dk_at dksX3_far_0 18 rfl rfl)
theorem dX3_far_19 : decode cX3_far 19 = .ok (.invokevirtual 180, 3) := dk_182 0 180 (dk_at dksX3_far_0 19 rfl rfl)
theorem dX3_far_22 : decode cX3_far 22 = .ok (.goto 4, 3) := dk_167 0 4 (dk_at dksX3_far_1 0 rfl rfl)
theorem dX3_far_25 : decode cX3_far 25 = .ok (.iconst (-1), 1) := dk_2 (dk_at dksX3_far_1 3 rfl rfl)
theorem dX3_far_26 : decode cX3_far 26 = .ok (.ireturn, 1) := dk_172 (dk_at dksX3_far_1 4 rfl rfl)
abbrev cX3_farOf : ByteArray := prog_19_method_15_code
def yX3_farOf : MethodName := ⟨RX3, "farOf", "(II)I"⟩
def dkwX3_farOf_9 : List UInt8 := [180, 0, 50, 28, 46, 172]
abbrev dktX3_farOf_9 : List UInt8 := dkwX3_farOf_9 ++ []
def dkwX3_farOf_8 : List UInt8 := [167, 255, 129, 21, 4, 62, 167, 255, 101, 42, 180, 0, 50, 28, 46, 156, 0, 8, 16, 252, 167, 0, 9, 42]
abbrev dktX3_farOf_8 : List UInt8 := dkwX3_farOf_8 ++ dktX3_farOf_9
def dkwX3_farOf_7 : List UInt8 := [46, 42, 180, 0, 50, 21, 4, 46, 162, 0, 8, 21, 5, 167, 0, 5, 21, 4, 54, 4, 132, 5, 1]
abbrev dktX3_farOf_7 : List UInt8 := dkwX3_farOf_7 ++ dktX3_farOf_8
def dkwX3_farOf_6 : List UInt8 := [154, 0, 40, 42, 180, 0, 50, 21, 5, 46, 155, 0, 30, 21, 4, 155, 0, 20, 42, 180, 0, 50, 21, 5]
abbrev dktX3_farOf_6 : List UInt8 := dkwX3_farOf_6 ++ dktX3_farOf_7
def dkwX3_farOf_5 : List UInt8 := [180, 0, 50, 21, 5, 42, 180, 0, 50, 29, 46, 21, 6, 96, 79, 42, 180, 0, 53, 21, 5, 51]
abbrev dktX3_farOf_5 : List UInt8 := dkwX3_farOf_5 ++ dktX3_farOf_6
def dkwX3_farOf_4 : List UInt8 := [46, 155, 0, 22, 42, 180, 0, 50, 29, 46, 21, 6, 96, 42, 180, 0, 50, 21, 5, 46, 162, 0, 19, 42]
abbrev dktX3_farOf_4 : List UInt8 := dkwX3_farOf_4 ++ dktX3_farOf_5
def dkwX3_farOf_3 : List UInt8 := [180, 0, 38, 16, 16, 29, 104, 21, 5, 96, 46, 54, 6, 21, 6, 158, 0, 48, 42, 180, 0, 50, 21, 5]
abbrev dktX3_farOf_3 : List UInt8 := dkwX3_farOf_3 ++ dktX3_farOf_4
def dkwX3_farOf_2 : List UInt8 := [42, 180, 0, 53, 29, 4, 84, 2, 54, 4, 3, 54, 5, 21, 5, 42, 180, 0, 166, 162, 0, 124, 42]
abbrev dktX3_farOf_2 : List UInt8 := dkwX3_farOf_2 ++ dktX3_farOf_3
def dkwX3_farOf_1 : List UInt8 := [42, 180, 0, 53, 29, 3, 84, 132, 3, 1, 167, 255, 224, 27, 62, 29, 155, 0, 157, 29, 28, 159, 0, 152]
abbrev dktX3_farOf_1 : List UInt8 := dkwX3_farOf_1 ++ dktX3_farOf_2
def dkwX3_farOf_0 : List UInt8 := [3, 62, 29, 16, 16, 162, 0, 32, 42, 180, 0, 50, 29, 29, 27, 160, 0, 7, 3, 167, 0, 4, 2, 79]
abbrev dktX3_farOf_0 : List UInt8 := dkwX3_farOf_0 ++ dktX3_farOf_1
theorem dksX3_farOf_0 : cX3_farOf.data.toList.drop 0 = dktX3_farOf_0 := by decide +kernel
theorem dksX3_farOf_1 : cX3_farOf.data.toList.drop 24 = dktX3_farOf_1 := dk_seg dksX3_farOf_0 24 rfl rfl
theorem dksX3_farOf_2 : cX3_farOf.data.toList.drop 48 = dktX3_farOf_2 := dk_seg dksX3_farOf_1 24 rfl rfl
theorem dksX3_farOf_3 : cX3_farOf.data.toList.drop 71 = dktX3_farOf_3 := dk_seg dksX3_farOf_2 23 rfl rfl
theorem dksX3_farOf_4 : cX3_farOf.data.toList.drop 95 = dktX3_farOf_4 := dk_seg dksX3_farOf_3 24 rfl rfl
theorem dksX3_farOf_5 : cX3_farOf.data.toList.drop 119 = dktX3_farOf_5 := dk_seg dksX3_farOf_4 24 rfl rfl
theorem dksX3_farOf_6 : cX3_farOf.data.toList.drop 141 = dktX3_farOf_6 := dk_seg dksX3_farOf_5 22 rfl rfl
theorem dksX3_farOf_7 : cX3_farOf.data.toList.drop 165 = dktX3_farOf_7 := dk_seg dksX3_farOf_6 24 rfl rfl
theorem dksX3_farOf_8 : cX3_farOf.data.toList.drop 188 = dktX3_farOf_8 := dk_seg dksX3_farOf_7 23 rfl rfl
theorem dksX3_farOf_9 : cX3_farOf.data.toList.drop 212 = dktX3_farOf_9 := dk_seg dksX3_farOf_8 24 rfl rfl
theorem dX3_farOf_0 : decode cX3_farOf 0 = .ok (.iconst 0, 1) := dk_3 (dk_at dksX3_farOf_0 0 rfl rfl)
theorem dX3_farOf_1 : decode cX3_farOf 1 = .ok (.istore_n 3, 1) := dk_62 (dk_at dksX3_farOf_0 1 rfl rfl)
theorem dX3_farOf_2 : decode cX3_farOf 2 = .ok (.iload_n 3, 1) := dk_29 (dk_at dksX3_farOf_0 2 rfl rfl)
theorem dX3_farOf_3 : decode cX3_farOf 3 = .ok (.bipush 16, 2) := dk_16 16 (dk_at dksX3_farOf_0 3 rfl rfl)
theorem dX3_farOf_5 : decode cX3_farOf 5 = .ok (.if_icmp .ge 32, 3) := dk_162 0 32 (dk_at dksX3_farOf_0 5 rfl rfl)
theorem dX3_farOf_8 : decode cX3_farOf 8 = .ok (.aload_n 0, 1) := dk_42 (dk_at dksX3_farOf_0 8 rfl rfl)
theorem dX3_farOf_9 : decode cX3_farOf 9 = .ok (.getfield 50, 3) := dk_180 0 50 (dk_at dksX3_farOf_0 9 rfl rfl)
theorem dX3_farOf_12 : decode cX3_farOf 12 = .ok (.iload_n 3, 1) := dk_29 (dk_at dksX3_farOf_0 12 rfl rfl)
theorem dX3_farOf_13 : decode cX3_farOf 13 = .ok (.iload_n 3, 1) := dk_29 (dk_at dksX3_farOf_0 13 rfl rfl)
theorem dX3_farOf_14 : decode cX3_farOf 14 = .ok (.iload_n 1, 1) := dk_27 (dk_at dksX3_farOf_0 14 rfl rfl)
theorem dX3_farOf_15 : decode cX3_farOf 15 = .ok (.if_icmp .ne 7, 3) := dk_160 0 7 (dk_at dksX3_farOf_0 15 rfl rfl)
theorem dX3_farOf_18 : decode cX3_farOf 18 = .ok (.iconst 0, 1) := dk_3 (dk_at dksX3_farOf_0 18 rfl rfl)
theorem dX3_farOf_19 : decode cX3_farOf 19 = .ok (.goto 4, 3) := dk_167 0 4 (dk_at dksX3_farOf_0 19 rfl rfl)
theorem dX3_farOf_22 : decode cX3_farOf 22 = .ok (.iconst (-1), 1) := dk_2 (dk_at dksX3_farOf_0 22 rfl rfl)
theorem dX3_farOf_23 : decode cX3_farOf 23 = .ok (.iastore, 1) := dk_79 (dk_at dksX3_farOf_0 23 rfl rfl)
theorem dX3_farOf_24 : decode cX3_farOf 24 = .ok (.aload_n 0, 1) := dk_42 (dk_at dksX3_farOf_1 0 rfl rfl)
theorem dX3_farOf_25 : decode cX3_farOf 25 = .ok (.getfield 53, 3) := dk_180 0 53 (dk_at dksX3_farOf_1 1 rfl rfl)
theorem dX3_farOf_28 : decode cX3_farOf 28 = .ok (.iload_n 3, 1) := dk_29 (dk_at dksX3_farOf_1 4 rfl rfl)
theorem dX3_farOf_29 : decode cX3_farOf 29 = .ok (.iconst 0, 1) := dk_3 (dk_at dksX3_farOf_1 5 rfl rfl)
theorem dX3_farOf_30 : decode cX3_farOf 30 = .ok (.bastore, 1) := dk_84 (dk_at dksX3_farOf_1 6 rfl rfl)
theorem dX3_farOf_31 : decode cX3_farOf 31 = .ok (.iinc 3 1, 3) := dk_132 3 1 (dk_at dksX3_farOf_1 7 rfl rfl)
theorem dX3_farOf_34 : decode cX3_farOf 34 = .ok (.goto (-32), 3) := dk_167 255 224 (dk_at dksX3_farOf_1 10 rfl rfl)
theorem dX3_farOf_37 : decode cX3_farOf 37 = .ok (.iload_n 1, 1) := dk_27 (dk_at dksX3_farOf_1 13 rfl rfl)
theorem dX3_farOf_38 : decode cX3_farOf 38 = .ok (.istore_n 3, 1) := dk_62 (dk_at dksX3_farOf_1 14 rfl rfl)
theorem dX3_farOf_39 : decode cX3_farOf 39 = .ok (.iload_n 3, 1) := dk_29 (dk_at dksX3_farOf_1 15 rfl rfl)
theorem dX3_farOf_40 : decode cX3_farOf 40 = .ok (.ifCond .lt 157, 3) := dk_155 0 157 (dk_at dksX3_farOf_1 16 rfl rfl)
theorem dX3_farOf_43 : decode cX3_farOf 43 = .ok (.iload_n 3, 1) := dk_29 (dk_at dksX3_farOf_1 19 rfl rfl)
theorem dX3_farOf_44 : decode cX3_farOf 44 = .ok (.iload_n 2, 1) := dk_28 (dk_at dksX3_farOf_1 20 rfl rfl)
theorem dX3_farOf_45 : decode cX3_farOf 45 = .ok (.if_icmp .eq 152, 3) := dk_159 0 152 (dk_at dksX3_farOf_1 21 rfl rfl)
theorem dX3_farOf_48 : decode cX3_farOf 48 = .ok (.aload_n 0, 1) := dk_42 (dk_at dksX3_farOf_2 0 rfl rfl)
theorem dX3_farOf_49 : decode cX3_farOf 49 = .ok (.getfield 53, 3) := dk_180 0 53 (dk_at dksX3_farOf_2 1 rfl rfl)
theorem dX3_farOf_52 : decode cX3_farOf 52 = .ok (.iload_n 3, 1) := dk_29 (dk_at dksX3_farOf_2 4 rfl rfl)
theorem dX3_farOf_53 : decode cX3_farOf 53 = .ok (.iconst 1, 1) := dk_4 (dk_at dksX3_farOf_2 5 rfl rfl)
theorem dX3_farOf_54 : decode cX3_farOf 54 = .ok (.bastore, 1) := dk_84 (dk_at dksX3_farOf_2 6 rfl rfl)
theorem dX3_farOf_55 : decode cX3_farOf 55 = .ok (.iconst (-1), 1) := dk_2 (dk_at dksX3_farOf_2 7 rfl rfl)
theorem dX3_farOf_56 : decode cX3_farOf 56 = .ok (.istore 4, 2) := dk_54 4 (dk_at dksX3_farOf_2 8 rfl rfl)
theorem dX3_farOf_58 : decode cX3_farOf 58 = .ok (.iconst 0, 1) := dk_3 (dk_at dksX3_farOf_2 10 rfl rfl)
theorem dX3_farOf_59 : decode cX3_farOf 59 = .ok (.istore 5, 2) := dk_54 5 (dk_at dksX3_farOf_2 11 rfl rfl)
theorem dX3_farOf_61 : decode cX3_farOf 61 = .ok (.iload 5, 2) := dk_21 5 (dk_at dksX3_farOf_2 13 rfl rfl)
theorem dX3_farOf_63 : decode cX3_farOf 63 = .ok (.aload_n 0, 1) := dk_42 (dk_at dksX3_farOf_2 15 rfl rfl)
theorem dX3_farOf_64 : decode cX3_farOf 64 = .ok (.getfield 166, 3) := dk_180 0 166 (dk_at dksX3_farOf_2 16 rfl rfl)
theorem dX3_farOf_67 : decode cX3_farOf 67 = .ok (.if_icmp .ge 124, 3) := dk_162 0 124 (dk_at dksX3_farOf_2 19 rfl rfl)
theorem dX3_farOf_70 : decode cX3_farOf 70 = .ok (.aload_n 0, 1) := dk_42 (dk_at dksX3_farOf_2 22 rfl rfl)
theorem dX3_farOf_71 : decode cX3_farOf 71 = .ok (.getfield 38, 3) := dk_180 0 38 (dk_at dksX3_farOf_3 0 rfl rfl)
theorem dX3_farOf_74 : decode cX3_farOf 74 = .ok (.bipush 16, 2) := dk_16 16 (dk_at dksX3_farOf_3 3 rfl rfl)
theorem dX3_farOf_76 : decode cX3_farOf 76 = .ok (.iload_n 3, 1) := dk_29 (dk_at dksX3_farOf_3 5 rfl rfl)
theorem dX3_farOf_77 : decode cX3_farOf 77 = .ok (.imul, 1) := dk_104 (dk_at dksX3_farOf_3 6 rfl rfl)
theorem dX3_farOf_78 : decode cX3_farOf 78 = .ok (.iload 5, 2) := dk_21 5 (dk_at dksX3_farOf_3 7 rfl rfl)
theorem dX3_farOf_80 : decode cX3_farOf 80 = .ok (.iadd, 1) := dk_96 (dk_at dksX3_farOf_3 9 rfl rfl)
theorem dX3_farOf_81 : decode cX3_farOf 81 = .ok (.iaload, 1) := dk_46 (dk_at dksX3_farOf_3 10 rfl rfl)
theorem dX3_farOf_82 : decode cX3_farOf 82 = .ok (.istore 6, 2) := dk_54 6 (dk_at dksX3_farOf_3 11 rfl rfl)
theorem dX3_farOf_84 : decode cX3_farOf 84 = .ok (.iload 6, 2) := dk_21 6 (dk_at dksX3_farOf_3 13 rfl rfl)
theorem dX3_farOf_86 : decode cX3_farOf 86 = .ok (.ifCond .le 48, 3) := dk_158 0 48 (dk_at dksX3_farOf_3 15 rfl rfl)
theorem dX3_farOf_89 : decode cX3_farOf 89 = .ok (.aload_n 0, 1) := dk_42 (dk_at dksX3_farOf_3 18 rfl rfl)
theorem dX3_farOf_90 : decode cX3_farOf 90 = .ok (.getfield 50, 3) := dk_180 0 50 (dk_at dksX3_farOf_3 19 rfl rfl)
theorem dX3_farOf_93 : decode cX3_farOf 93 = .ok (.iload 5, 2) := dk_21 5 (dk_at dksX3_farOf_3 22 rfl rfl)
theorem dX3_farOf_95 : decode cX3_farOf 95 = .ok (.iaload, 1) := dk_46 (dk_at dksX3_farOf_4 0 rfl rfl)
theorem dX3_farOf_96 : decode cX3_farOf 96 = .ok (.ifCond .lt 22, 3) := dk_155 0 22 (dk_at dksX3_farOf_4 1 rfl rfl)
theorem dX3_farOf_99 : decode cX3_farOf 99 = .ok (.aload_n 0, 1) := dk_42 (dk_at dksX3_farOf_4 4 rfl rfl)
theorem dX3_farOf_100 : decode cX3_farOf 100 = .ok (.getfield 50, 3) := dk_180 0 50 (dk_at dksX3_farOf_4 5 rfl rfl)
theorem dX3_farOf_103 : decode cX3_farOf 103 = .ok (.iload_n 3, 1) := dk_29 (dk_at dksX3_farOf_4 8 rfl rfl)
theorem dX3_farOf_104 : decode cX3_farOf 104 = .ok (.iaload, 1) := dk_46 (dk_at dksX3_farOf_4 9 rfl rfl)
theorem dX3_farOf_105 : decode cX3_farOf 105 = .ok (.iload 6, 2) := dk_21 6 (dk_at dksX3_farOf_4 10 rfl rfl)
theorem dX3_farOf_107 : decode cX3_farOf 107 = .ok (.iadd, 1) := dk_96 (dk_at dksX3_farOf_4 12 rfl rfl)
theorem dX3_farOf_108 : decode cX3_farOf 108 = .ok (.aload_n 0, 1) := dk_42 (dk_at dksX3_farOf_4 13 rfl rfl)
theorem dX3_farOf_109 : decode cX3_farOf 109 = .ok (.getfield 50, 3) := dk_180 0 50 (dk_at dksX3_farOf_4 14 rfl rfl)
theorem dX3_farOf_112 : decode cX3_farOf 112 = .ok (.iload 5, 2) := dk_21 5 (dk_at dksX3_farOf_4 17 rfl rfl)
theorem dX3_farOf_114 : decode cX3_farOf 114 = .ok (.iaload, 1) := dk_46 (dk_at dksX3_farOf_4 19 rfl rfl)
theorem dX3_farOf_115 : decode cX3_farOf 115 = .ok (.if_icmp .ge 19, 3) := dk_162 0 19 (dk_at dksX3_farOf_4 20 rfl rfl)
theorem dX3_farOf_118 : decode cX3_farOf 118 = .ok (.aload_n 0, 1) := dk_42 (dk_at dksX3_farOf_4 23 rfl rfl)
theorem dX3_farOf_119 : decode cX3_farOf 119 = .ok (.getfield 50, 3) := dk_180 0 50 (dk_at dksX3_farOf_5 0 rfl rfl)
theorem dX3_farOf_122 : decode cX3_farOf 122 = .ok (.iload 5, 2) := dk_21 5 (dk_at dksX3_farOf_5 3 rfl rfl)
theorem dX3_farOf_124 : decode cX3_farOf 124 = .ok (.aload_n 0, 1) := dk_42 (dk_at dksX3_farOf_5 5 rfl rfl)
theorem dX3_farOf_125 : decode cX3_farOf 125 = .ok (.getfield 50, 3) := dk_180 0 50 (dk_at dksX3_farOf_5 6 rfl rfl)
theorem dX3_farOf_128 : decode cX3_farOf 128 = .ok (.iload_n 3, 1) := dk_29 (dk_at dksX3_farOf_5 9 rfl rfl)
theorem dX3_farOf_129 : decode cX3_farOf 129 = .ok (.iaload, 1) := dk_46 (dk_at dksX3_farOf_5 10 rfl rfl)
theorem dX3_farOf_130 : decode cX3_farOf 130 = .ok (.iload 6, 2) := dk_21 6 (dk_at dksX3_farOf_5 11 rfl rfl)
theorem dX3_farOf_132 : decode cX3_farOf 132 = .ok (.iadd, 1) := dk_96 (dk_at dksX3_farOf_5 13 rfl rfl)
theorem dX3_farOf_133 : decode cX3_farOf 133 = .ok (.iastore, 1) := dk_79 (dk_at dksX3_farOf_5 14 rfl rfl)
theorem dX3_farOf_134 : decode cX3_farOf 134 = .ok (.aload_n 0, 1) := dk_42 (dk_at dksX3_farOf_5 15 rfl rfl)
theorem dX3_farOf_135 : decode cX3_farOf 135 = .ok (.getfield 53, 3) := dk_180 0 53 (dk_at dksX3_farOf_5 16 rfl rfl)
theorem dX3_farOf_138 : decode cX3_farOf 138 = .ok (.iload 5, 2) := dk_21 5 (dk_at dksX3_farOf_5 19 rfl rfl)
theorem dX3_farOf_140 : decode cX3_farOf 140 = .ok (.baload, 1) := dk_51 (dk_at dksX3_farOf_5 21 rfl rfl)
theorem dX3_farOf_141 : decode cX3_farOf 141 = .ok (.ifCond .ne 40, 3) := dk_154 0 40 (dk_at dksX3_farOf_6 0 rfl rfl)
theorem dX3_farOf_144 : decode cX3_farOf 144 = .ok (.aload_n 0, 1) := dk_42 (dk_at dksX3_farOf_6 3 rfl rfl)
theorem dX3_farOf_145 : decode cX3_farOf 145 = .ok (.getfield 50, 3) := dk_180 0 50 (dk_at dksX3_farOf_6 4 rfl rfl)
theorem dX3_farOf_148 : decode cX3_farOf 148 = .ok (.iload 5, 2) := dk_21 5 (dk_at dksX3_farOf_6 7 rfl rfl)
theorem dX3_farOf_150 : decode cX3_farOf 150 = .ok (.iaload, 1) := dk_46 (dk_at dksX3_farOf_6 9 rfl rfl)
theorem dX3_farOf_151 : decode cX3_farOf 151 = .ok (.ifCond .lt 30, 3) := dk_155 0 30 (dk_at dksX3_farOf_6 10 rfl rfl)
theorem dX3_farOf_154 : decode cX3_farOf 154 = .ok (.iload 4, 2) := dk_21 4 (dk_at dksX3_farOf_6 13 rfl rfl)
theorem dX3_farOf_156 : decode cX3_farOf 156 = .ok (.ifCond .lt 20, 3) := dk_155 0 20 (dk_at dksX3_farOf_6 15 rfl rfl)
theorem dX3_farOf_159 : decode cX3_farOf 159 = .ok (.aload_n 0, 1) := dk_42 (dk_at dksX3_farOf_6 18 rfl rfl)
theorem dX3_farOf_160 : decode cX3_farOf 160 = .ok (.getfield 50, 3) := dk_180 0 50 (dk_at dksX3_farOf_6 19 rfl rfl)
theorem dX3_farOf_163 : decode cX3_farOf 163 = .ok (.iload 5, 2) := dk_21 5 (dk_at dksX3_farOf_6 22 rfl rfl)
theorem dX3_farOf_165 : decode cX3_farOf 165 = .ok (.iaload, 1) := dk_46 (dk_at dksX3_farOf_7 0 rfl rfl)
theorem dX3_farOf_166 : decode cX3_farOf 166 = .ok (.aload_n 0, 1) := dk_42 (dk_at dksX3_farOf_7 1 rfl rfl)
theorem dX3_farOf_167 : decode cX3_farOf 167 = .ok (.getfield 50, 3) := dk_180 0 50 (dk_at dksX3_farOf_7 2 rfl rfl)
theorem dX3_farOf_170 : decode cX3_farOf 170 = .ok (.iload 4, 2) := dk_21 4 (dk_at dksX3_farOf_7 5 rfl rfl)
theorem dX3_farOf_172 : decode cX3_farOf 172 = .ok (.iaload, 1) := dk_46 (dk_at dksX3_farOf_7 7 rfl rfl)
theorem dX3_farOf_173 : decode cX3_farOf 173 = .ok (.if_icmp .ge 8, 3) := dk_162 0 8 (dk_at dksX3_farOf_7 8 rfl rfl)
theorem dX3_farOf_176 : decode cX3_farOf 176 = .ok (.iload 5, 2) := dk_21 5 (dk_at dksX3_farOf_7 11 rfl rfl)
theorem dX3_farOf_178 : decode cX3_farOf 178 = .ok (.goto 5, 3) := dk_167 0 5 (dk_at dksX3_farOf_7 13 rfl rfl)
theorem dX3_farOf_181 : decode cX3_farOf 181 = .ok (.iload 4, 2) := dk_21 4 (dk_at dksX3_farOf_7 16 rfl rfl)
theorem dX3_farOf_183 : decode cX3_farOf 183 = .ok (.istore 4, 2) := dk_54 4 (dk_at dksX3_farOf_7 18 rfl rfl)
theorem dX3_farOf_185 : decode cX3_farOf 185 = .ok (.iinc 5 1, 3) := dk_132 5 1 (dk_at dksX3_farOf_7 20 rfl rfl)
theorem dX3_farOf_188 : decode cX3_farOf 188 = .ok (.goto (-127), 3) := dk_167 255 129 (dk_at dksX3_farOf_8 0 rfl rfl)
theorem dX3_farOf_191 : decode cX3_farOf 191 = .ok (.iload 4, 2) := dk_21 4 (dk_at dksX3_farOf_8 3 rfl rfl)
theorem dX3_farOf_193 : decode cX3_farOf 193 = .ok (.istore_n 3, 1) := dk_62 (dk_at dksX3_farOf_8 5 rfl rfl)
theorem dX3_farOf_194 : decode cX3_farOf 194 = .ok (.goto (-155), 3) := dk_167 255 101 (dk_at dksX3_farOf_8 6 rfl rfl)
theorem dX3_farOf_197 : decode cX3_farOf 197 = .ok (.aload_n 0, 1) := dk_42 (dk_at dksX3_farOf_8 9 rfl rfl)
theorem dX3_farOf_198 : decode cX3_farOf 198 = .ok (.getfield 50, 3) := dk_180 0 50 (dk_at dksX3_farOf_8 10 rfl rfl)
theorem dX3_farOf_201 : decode cX3_farOf 201 = .ok (.iload_n 2, 1) := dk_28 (dk_at dksX3_farOf_8 13 rfl rfl)
theorem dX3_farOf_202 : decode cX3_farOf 202 = .ok (.iaload, 1) := dk_46 (dk_at dksX3_farOf_8 14 rfl rfl)
theorem dX3_farOf_203 : decode cX3_farOf 203 = .ok (.ifCond .ge 8, 3) := dk_156 0 8 (dk_at dksX3_farOf_8 15 rfl rfl)
theorem dX3_farOf_206 : decode cX3_farOf 206 = .ok (.bipush (-4), 2) := dk_16 252 (dk_at dksX3_farOf_8 18 rfl rfl)
theorem dX3_farOf_208 : decode cX3_farOf 208 = .ok (.goto 9, 3) := dk_167 0 9 (dk_at dksX3_farOf_8 20 rfl rfl)
theorem dX3_farOf_211 : decode cX3_farOf 211 = .ok (.aload_n 0, 1) := dk_42 (dk_at dksX3_farOf_8 23 rfl rfl)
theorem dX3_farOf_212 : decode cX3_farOf 212 = .ok (.getfield 50, 3) := dk_180 0 50 (dk_at dksX3_farOf_9 0 rfl rfl)
theorem dX3_farOf_215 : decode cX3_farOf 215 = .ok (.iload_n 2, 1) := dk_28 (dk_at dksX3_farOf_9 3 rfl rfl)
theorem dX3_farOf_216 : decode cX3_farOf 216 = .ok (.iaload, 1) := dk_46 (dk_at dksX3_farOf_9 4 rfl rfl)
theorem dX3_farOf_217 : decode cX3_farOf 217 = .ok (.ireturn, 1) := dk_172 (dk_at dksX3_farOf_9 5 rfl rfl)
abbrev cX3_knows : ByteArray := prog_19_method_17_code
def yX3_knows : MethodName := ⟨RX3, "knows", "(IIZ)I"⟩
def dkwX3_knows_3 : List UInt8 := [128, 167, 0, 15, 42, 180, 0, 28, 27, 46, 4, 28, 120, 2, 130, 126, 79, 21, 4, 172]
abbrev dktX3_knows_3 : List UInt8 := dkwX3_knows_3 ++ []
def dkwX3_knows_2 : List UInt8 := [28, 122, 4, 126, 54, 4, 42, 180, 0, 28, 27, 29, 153, 0, 16, 42, 180, 0, 28, 27, 46, 4, 28, 120]
abbrev dktX3_knows_2 : List UInt8 := dkwX3_knows_2 ++ dktX3_knows_3
def dkwX3_knows_1 : List UInt8 := [27, 182, 0, 184, 153, 0, 11, 42, 28, 182, 0, 184, 154, 0, 6, 16, 244, 172, 42, 180, 0, 28, 27, 46]
abbrev dktX3_knows_1 : List UInt8 := dkwX3_knows_1 ++ dktX3_knows_2
def dkwX3_knows_0 : List UInt8 := [42, 27, 182, 0, 176, 153, 0, 16, 42, 28, 182, 0, 176, 153, 0, 8, 27, 28, 160, 0, 5, 2, 172, 42]
abbrev dktX3_knows_0 : List UInt8 := dkwX3_knows_0 ++ dktX3_knows_1
theorem dksX3_knows_0 : cX3_knows.data.toList.drop 0 = dktX3_knows_0 := by decide +kernel
theorem dksX3_knows_1 : cX3_knows.data.toList.drop 24 = dktX3_knows_1 := dk_seg dksX3_knows_0 24 rfl rfl
theorem dksX3_knows_2 : cX3_knows.data.toList.drop 48 = dktX3_knows_2 := dk_seg dksX3_knows_1 24 rfl rfl
theorem dksX3_knows_3 : cX3_knows.data.toList.drop 72 = dktX3_knows_3 := dk_seg dksX3_knows_2 24 rfl rfl
theorem dX3_knows_0 : decode cX3_knows 0 = .ok (.aload_n 0, 1) := dk_42 (dk_at dksX3_knows_0 0 rfl rfl)
theorem dX3_knows_1 : decode cX3_knows 1 = .ok (.iload_n 1, 1) := dk_27 (dk_at dksX3_knows_0 1 rfl rfl)
theorem dX3_knows_2 : decode cX3_knows 2 = .ok (.invokevirtual 176, 3) := dk_182 0 176 (dk_at dksX3_knows_0 2 rfl rfl)
theorem dX3_knows_5 : decode cX3_knows 5 = .ok (.ifCond .eq 16, 3) := dk_153 0 16 (dk_at dksX3_knows_0 5 rfl rfl)
theorem dX3_knows_8 : decode cX3_knows 8 = .ok (.aload_n 0, 1) := dk_42 (dk_at dksX3_knows_0 8 rfl rfl)
theorem dX3_knows_9 : decode cX3_knows 9 = .ok (.iload_n 2, 1) := dk_28 (dk_at dksX3_knows_0 9 rfl rfl)
theorem dX3_knows_10 : decode cX3_knows 10 = .ok (.invokevirtual 176, 3) := dk_182 0 176 (dk_at dksX3_knows_0 10 rfl rfl)
theorem dX3_knows_13 : decode cX3_knows 13 = .ok (.ifCond .eq 8, 3) := dk_153 0 8 (dk_at dksX3_knows_0 13 rfl rfl)
theorem dX3_knows_16 : decode cX3_knows 16 = .ok (.iload_n 1, 1) := dk_27 (dk_at dksX3_knows_0 16 rfl rfl)
theorem dX3_knows_17 : decode cX3_knows 17 = .ok (.iload_n 2, 1) := dk_28 (dk_at dksX3_knows_0 17 rfl rfl)
theorem dX3_knows_18 : decode cX3_knows 18 = .ok (.if_icmp .ne 5, 3) := dk_160 0 5 (dk_at dksX3_knows_0 18 rfl rfl)
theorem dX3_knows_21 : decode cX3_knows 21 = .ok (.iconst (-1), 1) := dk_2 (dk_at dksX3_knows_0 21 rfl rfl)
theorem dX3_knows_22 : decode cX3_knows 22 = .ok (.ireturn, 1) := dk_172 (dk_at dksX3_knows_0 22 rfl rfl)
theorem dX3_knows_23 : decode cX3_knows 23 = .ok (.aload_n 0, 1) := dk_42 (dk_at dksX3_knows_0 23 rfl rfl)
theorem dX3_knows_24 : decode cX3_knows 24 = .ok (.iload_n 1, 1) := dk_27 (dk_at dksX3_knows_1 0 rfl rfl)
theorem dX3_knows_25 : decode cX3_knows 25 = .ok (.invokevirtual 184, 3) := dk_182 0 184 (dk_at dksX3_knows_1 1 rfl rfl)
theorem dX3_knows_28 : decode cX3_knows 28 = .ok (.ifCond .eq 11, 3) := dk_153 0 11 (dk_at dksX3_knows_1 4 rfl rfl)
theorem dX3_knows_31 : decode cX3_knows 31 = .ok (.aload_n 0, 1) := dk_42 (dk_at dksX3_knows_1 7 rfl rfl)
theorem dX3_knows_32 : decode cX3_knows 32 = .ok (.iload_n 2, 1) := dk_28 (dk_at dksX3_knows_1 8 rfl rfl)
theorem dX3_knows_33 : decode cX3_knows 33 = .ok (.invokevirtual 184, 3) := dk_182 0 184 (dk_at dksX3_knows_1 9 rfl rfl)
theorem dX3_knows_36 : decode cX3_knows 36 = .ok (.ifCond .ne 6, 3) := dk_154 0 6 (dk_at dksX3_knows_1 12 rfl rfl)
theorem dX3_knows_39 : decode cX3_knows 39 = .ok (.bipush (-12), 2) := dk_16 244 (dk_at dksX3_knows_1 15 rfl rfl)
theorem dX3_knows_41 : decode cX3_knows 41 = .ok (.ireturn, 1) := dk_172 (dk_at dksX3_knows_1 17 rfl rfl)
theorem dX3_knows_42 : decode cX3_knows 42 = .ok (.aload_n 0, 1) := dk_42 (dk_at dksX3_knows_1 18 rfl rfl)
theorem dX3_knows_43 : decode cX3_knows 43 = .ok (.getfield 28, 3) := dk_180 0 28 (dk_at dksX3_knows_1 19 rfl rfl)
theorem dX3_knows_46 : decode cX3_knows 46 = .ok (.iload_n 1, 1) := dk_27 (dk_at dksX3_knows_1 22 rfl rfl)
theorem dX3_knows_47 : decode cX3_knows 47 = .ok (.iaload, 1) := dk_46 (dk_at dksX3_knows_1 23 rfl rfl)
theorem dX3_knows_48 : decode cX3_knows 48 = .ok (.iload_n 2, 1) := dk_28 (dk_at dksX3_knows_2 0 rfl rfl)
theorem dX3_knows_49 : decode cX3_knows 49 = .ok (.ishr, 1) := dk_122 (dk_at dksX3_knows_2 1 rfl rfl)
theorem dX3_knows_50 : decode cX3_knows 50 = .ok (.iconst 1, 1) := dk_4 (dk_at dksX3_knows_2 2 rfl rfl)
theorem dX3_knows_51 : decode cX3_knows 51 = .ok (.iand, 1) := dk_126 (dk_at dksX3_knows_2 3 rfl rfl)
theorem dX3_knows_52 : decode cX3_knows 52 = .ok (.istore 4, 2) := dk_54 4 (dk_at dksX3_knows_2 4 rfl rfl)
theorem dX3_knows_54 : decode cX3_knows 54 = .ok (.aload_n 0, 1) := dk_42 (dk_at dksX3_knows_2 6 rfl rfl)
theorem dX3_knows_55 : decode cX3_knows 55 = .ok (.getfield 28, 3) := dk_180 0 28 (dk_at dksX3_knows_2 7 rfl rfl)
theorem dX3_knows_58 : decode cX3_knows 58 = .ok (.iload_n 1, 1) := dk_27 (dk_at dksX3_knows_2 10 rfl rfl)
theorem dX3_knows_59 : decode cX3_knows 59 = .ok (.iload_n 3, 1) := dk_29 (dk_at dksX3_knows_2 11 rfl rfl)
theorem dX3_knows_60 : decode cX3_knows 60 = .ok (.ifCond .eq 16, 3) := dk_153 0 16 (dk_at dksX3_knows_2 12 rfl rfl)
theorem dX3_knows_63 : decode cX3_knows 63 = .ok (.aload_n 0, 1) := dk_42 (dk_at dksX3_knows_2 15 rfl rfl)
theorem dX3_knows_64 : decode cX3_knows 64 = .ok (.getfield 28, 3) := dk_180 0 28 (dk_at dksX3_knows_2 16 rfl rfl)
theorem dX3_knows_67 : decode cX3_knows 67 = .ok (.iload_n 1, 1) := dk_27 (dk_at dksX3_knows_2 19 rfl rfl)
theorem dX3_knows_68 : decode cX3_knows 68 = .ok (.iaload, 1) := dk_46 (dk_at dksX3_knows_2 20 rfl rfl)
theorem dX3_knows_69 : decode cX3_knows 69 = .ok (.iconst 1, 1) := dk_4 (dk_at dksX3_knows_2 21 rfl rfl)
theorem dX3_knows_70 : decode cX3_knows 70 = .ok (.iload_n 2, 1) := dk_28 (dk_at dksX3_knows_2 22 rfl rfl)
theorem dX3_knows_71 : decode cX3_knows 71 = .ok (.ishl, 1) := dk_120 (dk_at dksX3_knows_2 23 rfl rfl)
theorem dX3_knows_72 : decode cX3_knows 72 = .ok (.ior, 1) := dk_128 (dk_at dksX3_knows_3 0 rfl rfl)
theorem dX3_knows_73 : decode cX3_knows 73 = .ok (.goto 15, 3) := dk_167 0 15 (dk_at dksX3_knows_3 1 rfl rfl)
theorem dX3_knows_76 : decode cX3_knows 76 = .ok (.aload_n 0, 1) := dk_42 (dk_at dksX3_knows_3 4 rfl rfl)
theorem dX3_knows_77 : decode cX3_knows 77 = .ok (.getfield 28, 3) := dk_180 0 28 (dk_at dksX3_knows_3 5 rfl rfl)
theorem dX3_knows_80 : decode cX3_knows 80 = .ok (.iload_n 1, 1) := dk_27 (dk_at dksX3_knows_3 8 rfl rfl)
theorem dX3_knows_81 : decode cX3_knows 81 = .ok (.iaload, 1) := dk_46 (dk_at dksX3_knows_3 9 rfl rfl)
theorem dX3_knows_82 : decode cX3_knows 82 = .ok (.iconst 1, 1) := dk_4 (dk_at dksX3_knows_3 10 rfl rfl)
theorem dX3_knows_83 : decode cX3_knows 83 = .ok (.iload_n 2, 1) := dk_28 (dk_at dksX3_knows_3 11 rfl rfl)
theorem dX3_knows_84 : decode cX3_knows 84 = .ok (.ishl, 1) := dk_120 (dk_at dksX3_knows_3 12 rfl rfl)
theorem dX3_knows_85 : decode cX3_knows 85 = .ok (.iconst (-1), 1) := dk_2 (dk_at dksX3_knows_3 13 rfl rfl)
theorem dX3_knows_86 : decode cX3_knows 86 = .ok (.ixor, 1) := dk_130 (dk_at dksX3_knows_3 14 rfl rfl)
theorem dX3_knows_87 : decode cX3_knows 87 = .ok (.iand, 1) := dk_126 (dk_at dksX3_knows_3 15 rfl rfl)
theorem dX3_knows_88 : decode cX3_knows 88 = .ok (.iastore, 1) := dk_79 (dk_at dksX3_knows_3 16 rfl rfl)
theorem dX3_knows_89 : decode cX3_knows 89 = .ok (.iload 4, 2) := dk_21 4 (dk_at dksX3_knows_3 17 rfl rfl)
theorem dX3_knows_91 : decode cX3_knows 91 = .ok (.ireturn, 1) := dk_172 (dk_at dksX3_knows_3 19 rfl rfl)
abbrev cX3_isHouse : ByteArray := prog_19_method_13_code
def yX3_isHouse : MethodName := ⟨RX3, "isHouse", "(I)Z"⟩
def dkwX3_isHouse_0 : List UInt8 := [42, 180, 0, 7, 27, 46, 158, 0, 7, 4, 167, 0, 4, 3, 172]
abbrev dktX3_isHouse_0 : List UInt8 := dkwX3_isHouse_0 ++ []
theorem dksX3_isHouse_0 : cX3_isHouse.data.toList.drop 0 = dktX3_isHouse_0 := by decide +kernel
theorem dX3_isHouse_0 : decode cX3_isHouse 0 = .ok (.aload_n 0, 1) := dk_42 (dk_at dksX3_isHouse_0 0 rfl rfl)
theorem dX3_isHouse_1 : decode cX3_isHouse 1 = .ok (.getfield 7, 3) := dk_180 0 7 (dk_at dksX3_isHouse_0 1 rfl rfl)
theorem dX3_isHouse_4 : decode cX3_isHouse 4 = .ok (.iload_n 1, 1) := dk_27 (dk_at dksX3_isHouse_0 4 rfl rfl)
theorem dX3_isHouse_5 : decode cX3_isHouse 5 = .ok (.iaload, 1) := dk_46 (dk_at dksX3_isHouse_0 5 rfl rfl)
theorem dX3_isHouse_6 : decode cX3_isHouse 6 = .ok (.ifCond .le 7, 3) := dk_158 0 7 (dk_at dksX3_isHouse_0 6 rfl rfl)
theorem dX3_isHouse_9 : decode cX3_isHouse 9 = .ok (.iconst 1, 1) := dk_4 (dk_at dksX3_isHouse_0 9 rfl rfl)
theorem dX3_isHouse_10 : decode cX3_isHouse 10 = .ok (.goto 4, 3) := dk_167 0 4 (dk_at dksX3_isHouse_0 10 rfl rfl)
theorem dX3_isHouse_13 : decode cX3_isHouse 13 = .ok (.iconst 0, 1) := dk_3 (dk_at dksX3_isHouse_0 13 rfl rfl)
theorem dX3_isHouse_14 : decode cX3_isHouse 14 = .ok (.ireturn, 1) := dk_172 (dk_at dksX3_isHouse_0 14 rfl rfl)
abbrev cX3_lamp : ByteArray := prog_19_method_19_code
def yX3_lamp : MethodName := ⟨RX3, "lamp", "(IZ)I"⟩
def dkwX3_lamp_4 : List UInt8 := [180, 0, 187, 4, 96, 181, 0, 187, 29, 153, 0, 7, 4, 167, 0, 4, 3, 172]
abbrev dktX3_lamp_4 : List UInt8 := dkwX3_lamp_4 ++ []
def dkwX3_lamp_3 : List UInt8 := [42, 180, 0, 44, 42, 180, 0, 187, 27, 79, 42, 180, 0, 47, 42, 180, 0, 187, 28, 84, 42, 89]
abbrev dktX3_lamp_3 : List UInt8 := dkwX3_lamp_3 ++ dktX3_lamp_4
def dkwX3_lamp_2 : List UInt8 := [180, 0, 187, 16, 60, 160, 0, 6, 16, 253, 172, 42, 180, 0, 41, 42, 180, 0, 187, 42, 180, 0, 190, 79]
abbrev dktX3_lamp_2 : List UInt8 := dkwX3_lamp_2 ++ dktX3_lamp_3
def dkwX3_lamp_1 : List UInt8 := [180, 0, 190, 182, 0, 193, 62, 29, 28, 160, 0, 13, 29, 153, 0, 7, 4, 167, 0, 4, 3, 172, 42]
abbrev dktX3_lamp_1 : List UInt8 := dkwX3_lamp_1 ++ dktX3_lamp_2
def dkwX3_lamp_0 : List UInt8 := [42, 27, 182, 0, 176, 154, 0, 5, 2, 172, 42, 27, 182, 0, 184, 154, 0, 6, 16, 244, 172, 42, 27, 42]
abbrev dktX3_lamp_0 : List UInt8 := dkwX3_lamp_0 ++ dktX3_lamp_1
theorem dksX3_lamp_0 : cX3_lamp.data.toList.drop 0 = dktX3_lamp_0 := by decide +kernel
theorem dksX3_lamp_1 : cX3_lamp.data.toList.drop 24 = dktX3_lamp_1 := dk_seg dksX3_lamp_0 24 rfl rfl
theorem dksX3_lamp_2 : cX3_lamp.data.toList.drop 47 = dktX3_lamp_2 := dk_seg dksX3_lamp_1 23 rfl rfl
theorem dksX3_lamp_3 : cX3_lamp.data.toList.drop 71 = dktX3_lamp_3 := dk_seg dksX3_lamp_2 24 rfl rfl
theorem dksX3_lamp_4 : cX3_lamp.data.toList.drop 93 = dktX3_lamp_4 := dk_seg dksX3_lamp_3 22 rfl rfl
theorem dX3_lamp_0 : decode cX3_lamp 0 = .ok (.aload_n 0, 1) := dk_42 (dk_at dksX3_lamp_0 0 rfl rfl)
theorem dX3_lamp_1 : decode cX3_lamp 1 = .ok (.iload_n 1, 1) := dk_27 (dk_at dksX3_lamp_0 1 rfl rfl)
theorem dX3_lamp_2 : decode cX3_lamp 2 = .ok (.invokevirtual 176, 3) := dk_182 0 176 (dk_at dksX3_lamp_0 2 rfl rfl)
theorem dX3_lamp_5 : decode cX3_lamp 5 = .ok (.ifCond .ne 5, 3) := dk_154 0 5 (dk_at dksX3_lamp_0 5 rfl rfl)
theorem dX3_lamp_8 : decode cX3_lamp 8 = .ok (.iconst (-1), 1) := dk_2 (dk_at dksX3_lamp_0 8 rfl rfl)
theorem dX3_lamp_9 : decode cX3_lamp 9 = .ok (.ireturn, 1) := dk_172 (dk_at dksX3_lamp_0 9 rfl rfl)
theorem dX3_lamp_10 : decode cX3_lamp 10 = .ok (.aload_n 0, 1) := dk_42 (dk_at dksX3_lamp_0 10 rfl rfl)
theorem dX3_lamp_11 : decode cX3_lamp 11 = .ok (.iload_n 1, 1) := dk_27 (dk_at dksX3_lamp_0 11 rfl rfl)
theorem dX3_lamp_12 : decode cX3_lamp 12 = .ok (.invokevirtual 184, 3) := dk_182 0 184 (dk_at dksX3_lamp_0 12 rfl rfl)
theorem dX3_lamp_15 : decode cX3_lamp 15 = .ok (.ifCond .ne 6, 3) := dk_154 0 6 (dk_at dksX3_lamp_0 15 rfl rfl)
theorem dX3_lamp_18 : decode cX3_lamp 18 = .ok (.bipush (-12), 2) := dk_16 244 (dk_at dksX3_lamp_0 18 rfl rfl)
theorem dX3_lamp_20 : decode cX3_lamp 20 = .ok (.ireturn, 1) := dk_172 (dk_at dksX3_lamp_0 20 rfl rfl)
theorem dX3_lamp_21 : decode cX3_lamp 21 = .ok (.aload_n 0, 1) := dk_42 (dk_at dksX3_lamp_0 21 rfl rfl)
theorem dX3_lamp_22 : decode cX3_lamp 22 = .ok (.iload_n 1, 1) := dk_27 (dk_at dksX3_lamp_0 22 rfl rfl)
theorem dX3_lamp_23 : decode cX3_lamp 23 = .ok (.aload_n 0, 1) := dk_42 (dk_at dksX3_lamp_0 23 rfl rfl)
theorem dX3_lamp_24 : decode cX3_lamp 24 = .ok (.getfield 190, 3) := dk_180 0 190 (dk_at dksX3_lamp_1 0 rfl rfl)
theorem dX3_lamp_27 : decode cX3_lamp 27 = .ok (.invokevirtual 193, 3) := dk_182 0 193 (dk_at dksX3_lamp_1 3 rfl rfl)
theorem dX3_lamp_30 : decode cX3_lamp 30 = .ok (.istore_n 3, 1) := dk_62 (dk_at dksX3_lamp_1 6 rfl rfl)
theorem dX3_lamp_31 : decode cX3_lamp 31 = .ok (.iload_n 3, 1) := dk_29 (dk_at dksX3_lamp_1 7 rfl rfl)
theorem dX3_lamp_32 : decode cX3_lamp 32 = .ok (.iload_n 2, 1) := dk_28 (dk_at dksX3_lamp_1 8 rfl rfl)
theorem dX3_lamp_33 : decode cX3_lamp 33 = .ok (.if_icmp .ne 13, 3) := dk_160 0 13 (dk_at dksX3_lamp_1 9 rfl rfl)
theorem dX3_lamp_36 : decode cX3_lamp 36 = .ok (.iload_n 3, 1) := dk_29 (dk_at dksX3_lamp_1 12 rfl rfl)
theorem dX3_lamp_37 : decode cX3_lamp 37 = .ok (.ifCond .eq 7, 3) := dk_153 0 7 (dk_at dksX3_lamp_1 13 rfl rfl)
theorem dX3_lamp_40 : decode cX3_lamp 40 = .ok (.iconst 1, 1) := dk_4 (dk_at dksX3_lamp_1 16 rfl rfl)
theorem dX3_lamp_41 : decode cX3_lamp 41 = .ok (.goto 4, 3) := dk_167 0 4 (dk_at dksX3_lamp_1 17 rfl rfl)
theorem dX3_lamp_44 : decode cX3_lamp 44 = .ok (.iconst 0, 1) := dk_3 (dk_at dksX3_lamp_1 20 rfl rfl)
theorem dX3_lamp_45 : decode cX3_lamp 45 = .ok (.ireturn, 1) := dk_172 (dk_at dksX3_lamp_1 21 rfl rfl)
theorem dX3_lamp_46 : decode cX3_lamp 46 = .ok (.aload_n 0, 1) := dk_42 (dk_at dksX3_lamp_1 22 rfl rfl)
theorem dX3_lamp_47 : decode cX3_lamp 47 = .ok (.getfield 187, 3) := dk_180 0 187 (dk_at dksX3_lamp_2 0 rfl rfl)
theorem dX3_lamp_50 : decode cX3_lamp 50 = .ok (.bipush 60, 2) := dk_16 60 (dk_at dksX3_lamp_2 3 rfl rfl)
theorem dX3_lamp_52 : decode cX3_lamp 52 = .ok (.if_icmp .ne 6, 3) := dk_160 0 6 (dk_at dksX3_lamp_2 5 rfl rfl)
theorem dX3_lamp_55 : decode cX3_lamp 55 = .ok (.bipush (-3), 2) := dk_16 253 (dk_at dksX3_lamp_2 8 rfl rfl)
theorem dX3_lamp_57 : decode cX3_lamp 57 = .ok (.ireturn, 1) := dk_172 (dk_at dksX3_lamp_2 10 rfl rfl)
theorem dX3_lamp_58 : decode cX3_lamp 58 = .ok (.aload_n 0, 1) := dk_42 (dk_at dksX3_lamp_2 11 rfl rfl)
theorem dX3_lamp_59 : decode cX3_lamp 59 = .ok (.getfield 41, 3) := dk_180 0 41 (dk_at dksX3_lamp_2 12 rfl rfl)
theorem dX3_lamp_62 : decode cX3_lamp 62 = .ok (.aload_n 0, 1) := dk_42 (dk_at dksX3_lamp_2 15 rfl rfl)
theorem dX3_lamp_63 : decode cX3_lamp 63 = .ok (.getfield 187, 3) := dk_180 0 187 (dk_at dksX3_lamp_2 16 rfl rfl)
theorem dX3_lamp_66 : decode cX3_lamp 66 = .ok (.aload_n 0, 1) := dk_42 (dk_at dksX3_lamp_2 19 rfl rfl)
theorem dX3_lamp_67 : decode cX3_lamp 67 = .ok (.getfield 190, 3) := dk_180 0 190 (dk_at dksX3_lamp_2 20 rfl rfl)
theorem dX3_lamp_70 : decode cX3_lamp 70 = .ok (.iastore, 1) := dk_79 (dk_at dksX3_lamp_2 23 rfl rfl)
theorem dX3_lamp_71 : decode cX3_lamp 71 = .ok (.aload_n 0, 1) := dk_42 (dk_at dksX3_lamp_3 0 rfl rfl)
theorem dX3_lamp_72 : decode cX3_lamp 72 = .ok (.getfield 44, 3) := dk_180 0 44 (dk_at dksX3_lamp_3 1 rfl rfl)
theorem dX3_lamp_75 : decode cX3_lamp 75 = .ok (.aload_n 0, 1) := dk_42 (dk_at dksX3_lamp_3 4 rfl rfl)
theorem dX3_lamp_76 : decode cX3_lamp 76 = .ok (.getfield 187, 3) := dk_180 0 187 (dk_at dksX3_lamp_3 5 rfl rfl)
theorem dX3_lamp_79 : decode cX3_lamp 79 = .ok (.iload_n 1, 1) := dk_27 (dk_at dksX3_lamp_3 8 rfl rfl)
theorem dX3_lamp_80 : decode cX3_lamp 80 = .ok (.iastore, 1) := dk_79 (dk_at dksX3_lamp_3 9 rfl rfl)
theorem dX3_lamp_81 : decode cX3_lamp 81 = .ok (.aload_n 0, 1) := dk_42 (dk_at dksX3_lamp_3 10 rfl rfl)
theorem dX3_lamp_82 : decode cX3_lamp 82 = .ok (.getfield 47, 3) := dk_180 0 47 (dk_at dksX3_lamp_3 11 rfl rfl)
theorem dX3_lamp_85 : decode cX3_lamp 85 = .ok (.aload_n 0, 1) := dk_42 (dk_at dksX3_lamp_3 14 rfl rfl)
theorem dX3_lamp_86 : decode cX3_lamp 86 = .ok (.getfield 187, 3) := dk_180 0 187 (dk_at dksX3_lamp_3 15 rfl rfl)
theorem dX3_lamp_89 : decode cX3_lamp 89 = .ok (.iload_n 2, 1) := dk_28 (dk_at dksX3_lamp_3 18 rfl rfl)
theorem dX3_lamp_90 : decode cX3_lamp 90 = .ok (.bastore, 1) := dk_84 (dk_at dksX3_lamp_3 19 rfl rfl)
theorem dX3_lamp_91 : decode cX3_lamp 91 = .ok (.aload_n 0, 1) := dk_42 (dk_at dksX3_lamp_3 20 rfl rfl)
theorem dX3_lamp_92 : decode cX3_lamp 92 = .ok (.dup, 1) := dk_89 (dk_at dksX3_lamp_3 21 rfl rfl)
theorem dX3_lamp_93 : decode cX3_lamp 93 = .ok (.getfield 187, 3) := dk_180 0 187 (dk_at dksX3_lamp_4 0 rfl rfl)
theorem dX3_lamp_96 : decode cX3_lamp 96 = .ok (.iconst 1, 1) := dk_4 (dk_at dksX3_lamp_4 3 rfl rfl)
theorem dX3_lamp_97 : decode cX3_lamp 97 = .ok (.iadd, 1) := dk_96 (dk_at dksX3_lamp_4 4 rfl rfl)
theorem dX3_lamp_98 : decode cX3_lamp 98 = .ok (.putfield 187, 3) := dk_181 0 187 (dk_at dksX3_lamp_4 5 rfl rfl)
theorem dX3_lamp_101 : decode cX3_lamp 101 = .ok (.iload_n 3, 1) := dk_29 (dk_at dksX3_lamp_4 8 rfl rfl)
theorem dX3_lamp_102 : decode cX3_lamp 102 = .ok (.ifCond .eq 7, 3) := dk_153 0 7 (dk_at dksX3_lamp_4 9 rfl rfl)
theorem dX3_lamp_105 : decode cX3_lamp 105 = .ok (.iconst 1, 1) := dk_4 (dk_at dksX3_lamp_4 12 rfl rfl)
theorem dX3_lamp_106 : decode cX3_lamp 106 = .ok (.goto 4, 3) := dk_167 0 4 (dk_at dksX3_lamp_4 13 rfl rfl)
theorem dX3_lamp_109 : decode cX3_lamp 109 = .ok (.iconst 0, 1) := dk_3 (dk_at dksX3_lamp_4 16 rfl rfl)
theorem dX3_lamp_110 : decode cX3_lamp 110 = .ok (.ireturn, 1) := dk_172 (dk_at dksX3_lamp_4 17 rfl rfl)
abbrev cX3_isLit : ByteArray := prog_19_method_18_code
def yX3_isLit : MethodName := ⟨RX3, "isLit", "(II)Z"⟩
def dkwX3_isLit_2 : List UInt8 := [29, 62, 132, 4, 1, 167, 255, 210, 29, 172]
abbrev dktX3_isLit_2 : List UInt8 := dkwX3_isLit_2 ++ []
def dkwX3_isLit_1 : List UInt8 := [160, 0, 24, 42, 180, 0, 41, 21, 4, 46, 28, 163, 0, 13, 42, 180, 0, 47, 21, 4, 51, 167, 0, 4]
abbrev dktX3_isLit_1 : List UInt8 := dkwX3_isLit_1 ++ dktX3_isLit_2
def dkwX3_isLit_0 : List UInt8 := [4, 62, 3, 54, 4, 21, 4, 42, 180, 0, 187, 162, 0, 43, 42, 180, 0, 44, 21, 4, 46, 27]
abbrev dktX3_isLit_0 : List UInt8 := dkwX3_isLit_0 ++ dktX3_isLit_1
theorem dksX3_isLit_0 : cX3_isLit.data.toList.drop 0 = dktX3_isLit_0 := by decide +kernel
theorem dksX3_isLit_1 : cX3_isLit.data.toList.drop 22 = dktX3_isLit_1 := dk_seg dksX3_isLit_0 22 rfl rfl
theorem dksX3_isLit_2 : cX3_isLit.data.toList.drop 46 = dktX3_isLit_2 := dk_seg dksX3_isLit_1 24 rfl rfl
theorem dX3_isLit_0 : decode cX3_isLit 0 = .ok (.iconst 1, 1) := dk_4 (dk_at dksX3_isLit_0 0 rfl rfl)
theorem dX3_isLit_1 : decode cX3_isLit 1 = .ok (.istore_n 3, 1) := dk_62 (dk_at dksX3_isLit_0 1 rfl rfl)
theorem dX3_isLit_2 : decode cX3_isLit 2 = .ok (.iconst 0, 1) := dk_3 (dk_at dksX3_isLit_0 2 rfl rfl)
theorem dX3_isLit_3 : decode cX3_isLit 3 = .ok (.istore 4, 2) := dk_54 4 (dk_at dksX3_isLit_0 3 rfl rfl)
theorem dX3_isLit_5 : decode cX3_isLit 5 = .ok (.iload 4, 2) := dk_21 4 (dk_at dksX3_isLit_0 5 rfl rfl)
theorem dX3_isLit_7 : decode cX3_isLit 7 = .ok (.aload_n 0, 1) := dk_42 (dk_at dksX3_isLit_0 7 rfl rfl)
theorem dX3_isLit_8 : decode cX3_isLit 8 = .ok (.getfield 187, 3) := dk_180 0 187 (dk_at dksX3_isLit_0 8 rfl rfl)
theorem dX3_isLit_11 : decode cX3_isLit 11 = .ok (.if_icmp .ge 43, 3) := dk_162 0 43 (dk_at dksX3_isLit_0 11 rfl rfl)
theorem dX3_isLit_14 : decode cX3_isLit 14 = .ok (.aload_n 0, 1) := dk_42 (dk_at dksX3_isLit_0 14 rfl rfl)
theorem dX3_isLit_15 : decode cX3_isLit 15 = .ok (.getfield 44, 3) := dk_180 0 44 (dk_at dksX3_isLit_0 15 rfl rfl)
theorem dX3_isLit_18 : decode cX3_isLit 18 = .ok (.iload 4, 2) := dk_21 4 (dk_at dksX3_isLit_0 18 rfl rfl)
theorem dX3_isLit_20 : decode cX3_isLit 20 = .ok (.iaload, 1) := dk_46 (dk_at dksX3_isLit_0 20 rfl rfl)
theorem dX3_isLit_21 : decode cX3_isLit 21 = .ok (.iload_n 1, 1) := dk_27 (dk_at dksX3_isLit_0 21 rfl rfl)
theorem dX3_isLit_22 : decode cX3_isLit 22 = .ok (.if_icmp .ne 24, 3) := dk_160 0 24 (dk_at dksX3_isLit_1 0 rfl rfl)
theorem dX3_isLit_25 : decode cX3_isLit 25 = .ok (.aload_n 0, 1) := dk_42 (dk_at dksX3_isLit_1 3 rfl rfl)
theorem dX3_isLit_26 : decode cX3_isLit 26 = .ok (.getfield 41, 3) := dk_180 0 41 (dk_at dksX3_isLit_1 4 rfl rfl)
theorem dX3_isLit_29 : decode cX3_isLit 29 = .ok (.iload 4, 2) := dk_21 4 (dk_at dksX3_isLit_1 7 rfl rfl)
theorem dX3_isLit_31 : decode cX3_isLit 31 = .ok (.iaload, 1) := dk_46 (dk_at dksX3_isLit_1 9 rfl rfl)
theorem dX3_isLit_32 : decode cX3_isLit 32 = .ok (.iload_n 2, 1) := dk_28 (dk_at dksX3_isLit_1 10 rfl rfl)
theorem dX3_isLit_33 : decode cX3_isLit 33 = .ok (.if_icmp .gt 13, 3) := dk_163 0 13 (dk_at dksX3_isLit_1 11 rfl rfl)
theorem dX3_isLit_36 : decode cX3_isLit 36 = .ok (.aload_n 0, 1) := dk_42 (dk_at dksX3_isLit_1 14 rfl rfl)
theorem dX3_isLit_37 : decode cX3_isLit 37 = .ok (.getfield 47, 3) := dk_180 0 47 (dk_at dksX3_isLit_1 15 rfl rfl)
theorem dX3_isLit_40 : decode cX3_isLit 40 = .ok (.iload 4, 2) := dk_21 4 (dk_at dksX3_isLit_1 18 rfl rfl)
theorem dX3_isLit_42 : decode cX3_isLit 42 = .ok (.baload, 1) := dk_51 (dk_at dksX3_isLit_1 20 rfl rfl)
theorem dX3_isLit_43 : decode cX3_isLit 43 = .ok (.goto 4, 3) := dk_167 0 4 (dk_at dksX3_isLit_1 21 rfl rfl)
theorem dX3_isLit_46 : decode cX3_isLit 46 = .ok (.iload_n 3, 1) := dk_29 (dk_at dksX3_isLit_2 0 rfl rfl)
theorem dX3_isLit_47 : decode cX3_isLit 47 = .ok (.istore_n 3, 1) := dk_62 (dk_at dksX3_isLit_2 1 rfl rfl)
theorem dX3_isLit_48 : decode cX3_isLit 48 = .ok (.iinc 4 1, 3) := dk_132 4 1 (dk_at dksX3_isLit_2 2 rfl rfl)
theorem dX3_isLit_51 : decode cX3_isLit 51 = .ok (.goto (-46), 3) := dk_167 255 210 (dk_at dksX3_isLit_2 5 rfl rfl)
theorem dX3_isLit_54 : decode cX3_isLit 54 = .ok (.iload_n 3, 1) := dk_29 (dk_at dksX3_isLit_2 8 rfl rfl)
theorem dX3_isLit_55 : decode cX3_isLit 55 = .ok (.ireturn, 1) := dk_172 (dk_at dksX3_isLit_2 9 rfl rfl)
abbrev cX3_watch : ByteArray := prog_19_method_20_code
def yX3_watch : MethodName := ⟨RX3, "watch", "(IZ)I"⟩
def dkwX3_watch_1 : List UInt8 := [180, 0, 31, 27, 51, 62, 42, 180, 0, 31, 27, 28, 84, 29, 153, 0, 7, 4, 167, 0, 4, 3, 172]
abbrev dktX3_watch_1 : List UInt8 := dkwX3_watch_1 ++ []
def dkwX3_watch_0 : List UInt8 := [42, 27, 182, 0, 176, 154, 0, 5, 2, 172, 42, 27, 182, 0, 184, 154, 0, 6, 16, 244, 172, 42]
abbrev dktX3_watch_0 : List UInt8 := dkwX3_watch_0 ++ dktX3_watch_1
theorem dksX3_watch_0 : cX3_watch.data.toList.drop 0 = dktX3_watch_0 := by decide +kernel
theorem dksX3_watch_1 : cX3_watch.data.toList.drop 22 = dktX3_watch_1 := dk_seg dksX3_watch_0 22 rfl rfl
theorem dX3_watch_0 : decode cX3_watch 0 = .ok (.aload_n 0, 1) := dk_42 (dk_at dksX3_watch_0 0 rfl rfl)
theorem dX3_watch_1 : decode cX3_watch 1 = .ok (.iload_n 1, 1) := dk_27 (dk_at dksX3_watch_0 1 rfl rfl)
theorem dX3_watch_2 : decode cX3_watch 2 = .ok (.invokevirtual 176, 3) := dk_182 0 176 (dk_at dksX3_watch_0 2 rfl rfl)
theorem dX3_watch_5 : decode cX3_watch 5 = .ok (.ifCond .ne 5, 3) := dk_154 0 5 (dk_at dksX3_watch_0 5 rfl rfl)
theorem dX3_watch_8 : decode cX3_watch 8 = .ok (.iconst (-1), 1) := dk_2 (dk_at dksX3_watch_0 8 rfl rfl)
theorem dX3_watch_9 : decode cX3_watch 9 = .ok (.ireturn, 1) := dk_172 (dk_at dksX3_watch_0 9 rfl rfl)
theorem dX3_watch_10 : decode cX3_watch 10 = .ok (.aload_n 0, 1) := dk_42 (dk_at dksX3_watch_0 10 rfl rfl)
theorem dX3_watch_11 : decode cX3_watch 11 = .ok (.iload_n 1, 1) := dk_27 (dk_at dksX3_watch_0 11 rfl rfl)
theorem dX3_watch_12 : decode cX3_watch 12 = .ok (.invokevirtual 184, 3) := dk_182 0 184 (dk_at dksX3_watch_0 12 rfl rfl)
theorem dX3_watch_15 : decode cX3_watch 15 = .ok (.ifCond .ne 6, 3) := dk_154 0 6 (dk_at dksX3_watch_0 15 rfl rfl)
theorem dX3_watch_18 : decode cX3_watch 18 = .ok (.bipush (-12), 2) := dk_16 244 (dk_at dksX3_watch_0 18 rfl rfl)
theorem dX3_watch_20 : decode cX3_watch 20 = .ok (.ireturn, 1) := dk_172 (dk_at dksX3_watch_0 20 rfl rfl)
theorem dX3_watch_21 : decode cX3_watch 21 = .ok (.aload_n 0, 1) := dk_42 (dk_at dksX3_watch_0 21 rfl rfl)
theorem dX3_watch_22 : decode cX3_watch 22 = .ok (.getfield 31, 3) := dk_180 0 31 (dk_at dksX3_watch_1 0 rfl rfl)
theorem dX3_watch_25 : decode cX3_watch 25 = .ok (.iload_n 1, 1) := dk_27 (dk_at dksX3_watch_1 3 rfl rfl)
theorem dX3_watch_26 : decode cX3_watch 26 = .ok (.baload, 1) := dk_51 (dk_at dksX3_watch_1 4 rfl rfl)
theorem dX3_watch_27 : decode cX3_watch 27 = .ok (.istore_n 3, 1) := dk_62 (dk_at dksX3_watch_1 5 rfl rfl)
theorem dX3_watch_28 : decode cX3_watch 28 = .ok (.aload_n 0, 1) := dk_42 (dk_at dksX3_watch_1 6 rfl rfl)
theorem dX3_watch_29 : decode cX3_watch 29 = .ok (.getfield 31, 3) := dk_180 0 31 (dk_at dksX3_watch_1 7 rfl rfl)
theorem dX3_watch_32 : decode cX3_watch 32 = .ok (.iload_n 1, 1) := dk_27 (dk_at dksX3_watch_1 10 rfl rfl)
theorem dX3_watch_33 : decode cX3_watch 33 = .ok (.iload_n 2, 1) := dk_28 (dk_at dksX3_watch_1 11 rfl rfl)
theorem dX3_watch_34 : decode cX3_watch 34 = .ok (.bastore, 1) := dk_84 (dk_at dksX3_watch_1 12 rfl rfl)
theorem dX3_watch_35 : decode cX3_watch 35 = .ok (.iload_n 3, 1) := dk_29 (dk_at dksX3_watch_1 13 rfl rfl)
theorem dX3_watch_36 : decode cX3_watch 36 = .ok (.ifCond .eq 7, 3) := dk_153 0 7 (dk_at dksX3_watch_1 14 rfl rfl)
theorem dX3_watch_39 : decode cX3_watch 39 = .ok (.iconst 1, 1) := dk_4 (dk_at dksX3_watch_1 17 rfl rfl)
theorem dX3_watch_40 : decode cX3_watch 40 = .ok (.goto 4, 3) := dk_167 0 4 (dk_at dksX3_watch_1 18 rfl rfl)
theorem dX3_watch_43 : decode cX3_watch 43 = .ok (.iconst 0, 1) := dk_3 (dk_at dksX3_watch_1 21 rfl rfl)
theorem dX3_watch_44 : decode cX3_watch 44 = .ok (.ireturn, 1) := dk_172 (dk_at dksX3_watch_1 22 rfl rfl)
abbrev cX3_bears : ByteArray := prog_19_method_21_code
def yX3_bears : MethodName := ⟨RX3, "bears", "(IIZ)I"⟩
def dkwX3_bears_3 : List UInt8 := [172]
abbrev dktX3_bears_3 : List UInt8 := dkwX3_bears_3 ++ []
def dkwX3_bears_2 : List UInt8 := [54, 4, 42, 180, 0, 35, 16, 50, 27, 104, 28, 96, 29, 84, 21, 4, 153, 0, 7, 4, 167, 0, 4, 3]
abbrev dktX3_bears_2 : List UInt8 := dkwX3_bears_2 ++ dktX3_bears_3
def dkwX3_bears_1 : List UInt8 := [180, 0, 7, 27, 46, 6, 159, 0, 6, 16, 244, 172, 42, 180, 0, 35, 16, 50, 27, 104, 28, 96, 51]
abbrev dktX3_bears_1 : List UInt8 := dkwX3_bears_1 ++ dktX3_bears_2
def dkwX3_bears_0 : List UInt8 := [42, 27, 182, 0, 176, 153, 0, 15, 28, 133, 9, 20, 0, 197, 184, 0, 160, 154, 0, 5, 2, 172, 42]
abbrev dktX3_bears_0 : List UInt8 := dkwX3_bears_0 ++ dktX3_bears_1
theorem dksX3_bears_0 : cX3_bears.data.toList.drop 0 = dktX3_bears_0 := by decide +kernel
theorem dksX3_bears_1 : cX3_bears.data.toList.drop 23 = dktX3_bears_1 := dk_seg dksX3_bears_0 23 rfl rfl
theorem dksX3_bears_2 : cX3_bears.data.toList.drop 46 = dktX3_bears_2 := dk_seg dksX3_bears_1 23 rfl rfl
theorem dksX3_bears_3 : cX3_bears.data.toList.drop 70 = dktX3_bears_3 := dk_seg dksX3_bears_2 24 rfl rfl
theorem dX3_bears_0 : decode cX3_bears 0 = .ok (.aload_n 0, 1) := dk_42 (dk_at dksX3_bears_0 0 rfl rfl)
theorem dX3_bears_1 : decode cX3_bears 1 = .ok (.iload_n 1, 1) := dk_27 (dk_at dksX3_bears_0 1 rfl rfl)
theorem dX3_bears_2 : decode cX3_bears 2 = .ok (.invokevirtual 176, 3) := dk_182 0 176 (dk_at dksX3_bears_0 2 rfl rfl)
theorem dX3_bears_5 : decode cX3_bears 5 = .ok (.ifCond .eq 15, 3) := dk_153 0 15 (dk_at dksX3_bears_0 5 rfl rfl)
theorem dX3_bears_8 : decode cX3_bears 8 = .ok (.iload_n 2, 1) := dk_28 (dk_at dksX3_bears_0 8 rfl rfl)
theorem dX3_bears_9 : decode cX3_bears 9 = .ok (.i2l, 1) := dk_133 (dk_at dksX3_bears_0 9 rfl rfl)
theorem dX3_bears_10 : decode cX3_bears 10 = .ok (.lconst 0, 1) := dk_9 (dk_at dksX3_bears_0 10 rfl rfl)
theorem dX3_bears_11 : decode cX3_bears 11 = .ok (.ldc2_w 197, 3) := dk_20 0 197 (dk_at dksX3_bears_0 11 rfl rfl)
theorem dX3_bears_14 : decode cX3_bears 14 = .ok (.invokestatic 160, 3) := dk_184 0 160 (dk_at dksX3_bears_0 14 rfl rfl)
theorem dX3_bears_17 : decode cX3_bears 17 = .ok (.ifCond .ne 5, 3) := dk_154 0 5 (dk_at dksX3_bears_0 17 rfl rfl)
theorem dX3_bears_20 : decode cX3_bears 20 = .ok (.iconst (-1), 1) := dk_2 (dk_at dksX3_bears_0 20 rfl rfl)
theorem dX3_bears_21 : decode cX3_bears 21 = .ok (.ireturn, 1) := dk_172 (dk_at dksX3_bears_0 21 rfl rfl)
theorem dX3_bears_22 : decode cX3_bears 22 = .ok (.aload_n 0, 1) := dk_42 (dk_at dksX3_bears_0 22 rfl rfl)
theorem dX3_bears_23 : decode cX3_bears 23 = .ok (.getfield 7, 3) := dk_180 0 7 (dk_at dksX3_bears_1 0 rfl rfl)
theorem dX3_bears_26 : decode cX3_bears 26 = .ok (.iload_n 1, 1) := dk_27 (dk_at dksX3_bears_1 3 rfl rfl)
theorem dX3_bears_27 : decode cX3_bears 27 = .ok (.iaload, 1) := dk_46 (dk_at dksX3_bears_1 4 rfl rfl)
theorem dX3_bears_28 : decode cX3_bears 28 = .ok (.iconst 3, 1) := dk_6 (dk_at dksX3_bears_1 5 rfl rfl)
theorem dX3_bears_29 : decode cX3_bears 29 = .ok (.if_icmp .eq 6, 3) := dk_159 0 6 (dk_at dksX3_bears_1 6 rfl rfl)
theorem dX3_bears_32 : decode cX3_bears 32 = .ok (.bipush (-12), 2) := dk_16 244 (dk_at dksX3_bears_1 9 rfl rfl)
theorem dX3_bears_34 : decode cX3_bears 34 = .ok (.ireturn, 1) := dk_172 (dk_at dksX3_bears_1 11 rfl rfl)
theorem dX3_bears_35 : decode cX3_bears 35 = .ok (.aload_n 0, 1) := dk_42 (dk_at dksX3_bears_1 12 rfl rfl)
theorem dX3_bears_36 : decode cX3_bears 36 = .ok (.getfield 35, 3) := dk_180 0 35 (dk_at dksX3_bears_1 13 rfl rfl)
theorem dX3_bears_39 : decode cX3_bears 39 = .ok (.bipush 50, 2) := dk_16 50 (dk_at dksX3_bears_1 16 rfl rfl)
theorem dX3_bears_41 : decode cX3_bears 41 = .ok (.iload_n 1, 1) := dk_27 (dk_at dksX3_bears_1 18 rfl rfl)
theorem dX3_bears_42 : decode cX3_bears 42 = .ok (.imul, 1) := dk_104 (dk_at dksX3_bears_1 19 rfl rfl)
theorem dX3_bears_43 : decode cX3_bears 43 = .ok (.iload_n 2, 1) := dk_28 (dk_at dksX3_bears_1 20 rfl rfl)
theorem dX3_bears_44 : decode cX3_bears 44 = .ok (.iadd, 1) := dk_96 (dk_at dksX3_bears_1 21 rfl rfl)
theorem dX3_bears_45 : decode cX3_bears 45 = .ok (.baload, 1) := dk_51 (dk_at dksX3_bears_1 22 rfl rfl)
theorem dX3_bears_46 : decode cX3_bears 46 = .ok (.istore 4, 2) := dk_54 4 (dk_at dksX3_bears_2 0 rfl rfl)
theorem dX3_bears_48 : decode cX3_bears 48 = .ok (.aload_n 0, 1) := dk_42 (dk_at dksX3_bears_2 2 rfl rfl)
theorem dX3_bears_49 : decode cX3_bears 49 = .ok (.getfield 35, 3) := dk_180 0 35 (dk_at dksX3_bears_2 3 rfl rfl)
theorem dX3_bears_52 : decode cX3_bears 52 = .ok (.bipush 50, 2) := dk_16 50 (dk_at dksX3_bears_2 6 rfl rfl)
theorem dX3_bears_54 : decode cX3_bears 54 = .ok (.iload_n 1, 1) := dk_27 (dk_at dksX3_bears_2 8 rfl rfl)
theorem dX3_bears_55 : decode cX3_bears 55 = .ok (.imul, 1) := dk_104 (dk_at dksX3_bears_2 9 rfl rfl)
theorem dX3_bears_56 : decode cX3_bears 56 = .ok (.iload_n 2, 1) := dk_28 (dk_at dksX3_bears_2 10 rfl rfl)
theorem dX3_bears_57 : decode cX3_bears 57 = .ok (.iadd, 1) := dk_96 (dk_at dksX3_bears_2 11 rfl rfl)
theorem dX3_bears_58 : decode cX3_bears 58 = .ok (.iload_n 3, 1) := dk_29 (dk_at dksX3_bears_2 12 rfl rfl)
theorem dX3_bears_59 : decode cX3_bears 59 = .ok (.bastore, 1) := dk_84 (dk_at dksX3_bears_2 13 rfl rfl)
theorem dX3_bears_60 : decode cX3_bears 60 = .ok (.iload 4, 2) := dk_21 4 (dk_at dksX3_bears_2 14 rfl rfl)
theorem dX3_bears_62 : decode cX3_bears 62 = .ok (.ifCond .eq 7, 3) := dk_153 0 7 (dk_at dksX3_bears_2 16 rfl rfl)
theorem dX3_bears_65 : decode cX3_bears 65 = .ok (.iconst 1, 1) := dk_4 (dk_at dksX3_bears_2 19 rfl rfl)
theorem dX3_bears_66 : decode cX3_bears 66 = .ok (.goto 4, 3) := dk_167 0 4 (dk_at dksX3_bears_2 20 rfl rfl)
theorem dX3_bears_69 : decode cX3_bears 69 = .ok (.iconst 0, 1) := dk_3 (dk_at dksX3_bears_2 23 rfl rfl)
theorem dX3_bears_70 : decode cX3_bears 70 = .ok (.ireturn, 1) := dk_172 (dk_at dksX3_bears_3 0 rfl rfl)
abbrev cX3_ice : ByteArray := prog_19_method_22_code
def yX3_ice : MethodName := ⟨RX3, "ice", "(IIIII)I"⟩
def dkwX3_ice_5 : List UInt8 := [167, 0, 4, 3, 84, 132, 7, 1, 167, 255, 209, 21, 5, 172]
abbrev dktX3_ice_5 : List UInt8 := dkwX3_ice_5 ++ []
def dkwX3_ice_4 : List UInt8 := [28, 96, 21, 7, 96, 42, 180, 0, 152, 16, 50, 29, 104, 21, 4, 96, 21, 7, 96, 46, 153, 0, 7, 4]
abbrev dktX3_ice_4 : List UInt8 := dkwX3_ice_4 ++ dktX3_ice_5
def dkwX3_ice_3 : List UInt8 := [156, 0, 6, 21, 6, 172, 3, 54, 7, 21, 7, 21, 5, 162, 0, 46, 42, 180, 0, 35, 16, 50, 27, 104]
abbrev dktX3_ice_3 : List UInt8 := dkwX3_ice_3 ++ dktX3_ice_4
def dkwX3_ice_2 : List UInt8 := [27, 46, 6, 159, 0, 6, 16, 244, 172, 42, 29, 3, 21, 4, 21, 5, 182, 0, 202, 54, 6, 21, 6]
abbrev dktX3_ice_2 : List UInt8 := dkwX3_ice_2 ++ dktX3_ice_3
def dkwX3_ice_1 : List UInt8 := [153, 0, 18, 21, 5, 133, 9, 16, 50, 28, 100, 133, 184, 0, 160, 154, 0, 5, 2, 172, 42, 180, 0, 7]
abbrev dktX3_ice_1 : List UInt8 := dkwX3_ice_1 ++ dktX3_ice_2
def dkwX3_ice_0 : List UInt8 := [42, 27, 182, 0, 176, 153, 0, 37, 28, 133, 9, 20, 0, 197, 184, 0, 160, 153, 0, 25, 29, 184, 0, 199]
abbrev dktX3_ice_0 : List UInt8 := dkwX3_ice_0 ++ dktX3_ice_1
theorem dksX3_ice_0 : cX3_ice.data.toList.drop 0 = dktX3_ice_0 := by decide +kernel
theorem dksX3_ice_1 : cX3_ice.data.toList.drop 24 = dktX3_ice_1 := dk_seg dksX3_ice_0 24 rfl rfl
theorem dksX3_ice_2 : cX3_ice.data.toList.drop 48 = dktX3_ice_2 := dk_seg dksX3_ice_1 24 rfl rfl
theorem dksX3_ice_3 : cX3_ice.data.toList.drop 71 = dktX3_ice_3 := dk_seg dksX3_ice_2 23 rfl rfl
theorem dksX3_ice_4 : cX3_ice.data.toList.drop 95 = dktX3_ice_4 := dk_seg dksX3_ice_3 24 rfl rfl
theorem dksX3_ice_5 : cX3_ice.data.toList.drop 119 = dktX3_ice_5 := dk_seg dksX3_ice_4 24 rfl rfl
theorem dX3_ice_0 : decode cX3_ice 0 = .ok (.aload_n 0, 1) := dk_42 (dk_at dksX3_ice_0 0 rfl rfl)
theorem dX3_ice_1 : decode cX3_ice 1 = .ok (.iload_n 1, 1) := dk_27 (dk_at dksX3_ice_0 1 rfl rfl)
theorem dX3_ice_2 : decode cX3_ice 2 = .ok (.invokevirtual 176, 3) := dk_182 0 176 (dk_at dksX3_ice_0 2 rfl rfl)
theorem dX3_ice_5 : decode cX3_ice 5 = .ok (.ifCond .eq 37, 3) := dk_153 0 37 (dk_at dksX3_ice_0 5 rfl rfl)
theorem dX3_ice_8 : decode cX3_ice 8 = .ok (.iload_n 2, 1) := dk_28 (dk_at dksX3_ice_0 8 rfl rfl)
theorem dX3_ice_9 : decode cX3_ice 9 = .ok (.i2l, 1) := dk_133 (dk_at dksX3_ice_0 9 rfl rfl)
theorem dX3_ice_10 : decode cX3_ice 10 = .ok (.lconst 0, 1) := dk_9 (dk_at dksX3_ice_0 10 rfl rfl)
theorem dX3_ice_11 : decode cX3_ice 11 = .ok (.ldc2_w 197, 3) := dk_20 0 197 (dk_at dksX3_ice_0 11 rfl rfl)
theorem dX3_ice_14 : decode cX3_ice 14 = .ok (.invokestatic 160, 3) := dk_184 0 160 (dk_at dksX3_ice_0 14 rfl rfl)
theorem dX3_ice_17 : decode cX3_ice 17 = .ok (.ifCond .eq 25, 3) := dk_153 0 25 (dk_at dksX3_ice_0 17 rfl rfl)
theorem dX3_ice_20 : decode cX3_ice 20 = .ok (.iload_n 3, 1) := dk_29 (dk_at dksX3_ice_0 20 rfl rfl)
theorem dX3_ice_21 : decode cX3_ice 21 = .ok (.invokestatic 199, 3) := dk_184 0 199 (dk_at dksX3_ice_0 21 rfl rfl)
theorem dX3_ice_24 : decode cX3_ice 24 = .ok (.ifCond .eq 18, 3) := dk_153 0 18 (dk_at dksX3_ice_1 0 rfl rfl)
theorem dX3_ice_27 : decode cX3_ice 27 = .ok (.iload 5, 2) := dk_21 5 (dk_at dksX3_ice_1 3 rfl rfl)
theorem dX3_ice_29 : decode cX3_ice 29 = .ok (.i2l, 1) := dk_133 (dk_at dksX3_ice_1 5 rfl rfl)
theorem dX3_ice_30 : decode cX3_ice 30 = .ok (.lconst 0, 1) := dk_9 (dk_at dksX3_ice_1 6 rfl rfl)
theorem dX3_ice_31 : decode cX3_ice 31 = .ok (.bipush 50, 2) := dk_16 50 (dk_at dksX3_ice_1 7 rfl rfl)
theorem dX3_ice_33 : decode cX3_ice 33 = .ok (.iload_n 2, 1) := dk_28 (dk_at dksX3_ice_1 9 rfl rfl)
theorem dX3_ice_34 : decode cX3_ice 34 = .ok (.isub, 1) := dk_100 (dk_at dksX3_ice_1 10 rfl rfl)
theorem dX3_ice_35 : decode cX3_ice 35 = .ok (.i2l, 1) := dk_133 (dk_at dksX3_ice_1 11 rfl rfl)
theorem dX3_ice_36 : decode cX3_ice 36 = .ok (.invokestatic 160, 3) := dk_184 0 160 (dk_at dksX3_ice_1 12 rfl rfl)
theorem dX3_ice_39 : decode cX3_ice 39 = .ok (.ifCond .ne 5, 3) := dk_154 0 5 (dk_at dksX3_ice_1 15 rfl rfl)
theorem dX3_ice_42 : decode cX3_ice 42 = .ok (.iconst (-1), 1) := dk_2 (dk_at dksX3_ice_1 18 rfl rfl)
theorem dX3_ice_43 : decode cX3_ice 43 = .ok (.ireturn, 1) := dk_172 (dk_at dksX3_ice_1 19 rfl rfl)
theorem dX3_ice_44 : decode cX3_ice 44 = .ok (.aload_n 0, 1) := dk_42 (dk_at dksX3_ice_1 20 rfl rfl)
theorem dX3_ice_45 : decode cX3_ice 45 = .ok (.getfield 7, 3) := dk_180 0 7 (dk_at dksX3_ice_1 21 rfl rfl)
theorem dX3_ice_48 : decode cX3_ice 48 = .ok (.iload_n 1, 1) := dk_27 (dk_at dksX3_ice_2 0 rfl rfl)
theorem dX3_ice_49 : decode cX3_ice 49 = .ok (.iaload, 1) := dk_46 (dk_at dksX3_ice_2 1 rfl rfl)
theorem dX3_ice_50 : decode cX3_ice 50 = .ok (.iconst 3, 1) := dk_6 (dk_at dksX3_ice_2 2 rfl rfl)
theorem dX3_ice_51 : decode cX3_ice 51 = .ok (.if_icmp .eq 6, 3) := dk_159 0 6 (dk_at dksX3_ice_2 3 rfl rfl)
theorem dX3_ice_54 : decode cX3_ice 54 = .ok (.bipush (-12), 2) := dk_16 244 (dk_at dksX3_ice_2 6 rfl rfl)
theorem dX3_ice_56 : decode cX3_ice 56 = .ok (.ireturn, 1) := dk_172 (dk_at dksX3_ice_2 8 rfl rfl)
theorem dX3_ice_57 : decode cX3_ice 57 = .ok (.aload_n 0, 1) := dk_42 (dk_at dksX3_ice_2 9 rfl rfl)
theorem dX3_ice_58 : decode cX3_ice 58 = .ok (.iload_n 3, 1) := dk_29 (dk_at dksX3_ice_2 10 rfl rfl)
theorem dX3_ice_59 : decode cX3_ice 59 = .ok (.iconst 0, 1) := dk_3 (dk_at dksX3_ice_2 11 rfl rfl)
theorem dX3_ice_60 : decode cX3_ice 60 = .ok (.iload 4, 2) := dk_21 4 (dk_at dksX3_ice_2 12 rfl rfl)
theorem dX3_ice_62 : decode cX3_ice 62 = .ok (.iload 5, 2) := dk_21 5 (dk_at dksX3_ice_2 14 rfl rfl)
theorem dX3_ice_64 : decode cX3_ice 64 = .ok (.invokevirtual 202, 3) := dk_182 0 202 (dk_at dksX3_ice_2 16 rfl rfl)
theorem dX3_ice_67 : decode cX3_ice 67 = .ok (.istore 6, 2) := dk_54 6 (dk_at dksX3_ice_2 19 rfl rfl)
theorem dX3_ice_69 : decode cX3_ice 69 = .ok (.iload 6, 2) := dk_21 6 (dk_at dksX3_ice_2 21 rfl rfl)
theorem dX3_ice_71 : decode cX3_ice 71 = .ok (.ifCond .ge 6, 3) := dk_156 0 6 (dk_at dksX3_ice_3 0 rfl rfl)
theorem dX3_ice_74 : decode cX3_ice 74 = .ok (.iload 6, 2) := dk_21 6 (dk_at dksX3_ice_3 3 rfl rfl)
theorem dX3_ice_76 : decode cX3_ice 76 = .ok (.ireturn, 1) := dk_172 (dk_at dksX3_ice_3 5 rfl rfl)
theorem dX3_ice_77 : decode cX3_ice 77 = .ok (.iconst 0, 1) := dk_3 (dk_at dksX3_ice_3 6 rfl rfl)
theorem dX3_ice_78 : decode cX3_ice 78 = .ok (.istore 7, 2) := dk_54 7 (dk_at dksX3_ice_3 7 rfl rfl)
theorem dX3_ice_80 : decode cX3_ice 80 = .ok (.iload 7, 2) := dk_21 7 (dk_at dksX3_ice_3 9 rfl rfl)
theorem dX3_ice_82 : decode cX3_ice 82 = .ok (.iload 5, 2) := dk_21 5 (dk_at dksX3_ice_3 11 rfl rfl)
theorem dX3_ice_84 : decode cX3_ice 84 = .ok (.if_icmp .ge 46, 3) := dk_162 0 46 (dk_at dksX3_ice_3 13 rfl rfl)
theorem dX3_ice_87 : decode cX3_ice 87 = .ok (.aload_n 0, 1) := dk_42 (dk_at dksX3_ice_3 16 rfl rfl)
theorem dX3_ice_88 : decode cX3_ice 88 = .ok (.getfield 35, 3) := dk_180 0 35 (dk_at dksX3_ice_3 17 rfl rfl)
theorem dX3_ice_91 : decode cX3_ice 91 = .ok (.bipush 50, 2) := dk_16 50 (dk_at dksX3_ice_3 20 rfl rfl)
theorem dX3_ice_93 : decode cX3_ice 93 = .ok (.iload_n 1, 1) := dk_27 (dk_at dksX3_ice_3 22 rfl rfl)
theorem dX3_ice_94 : decode cX3_ice 94 = .ok (.imul, 1) := dk_104 (dk_at dksX3_ice_3 23 rfl rfl)
theorem dX3_ice_95 : decode cX3_ice 95 = .ok (.iload_n 2, 1) := dk_28 (dk_at dksX3_ice_4 0 rfl rfl)
theorem dX3_ice_96 : decode cX3_ice 96 = .ok (.iadd, 1) := dk_96 (dk_at dksX3_ice_4 1 rfl rfl)
theorem dX3_ice_97 : decode cX3_ice 97 = .ok (.iload 7, 2) := dk_21 7 (dk_at dksX3_ice_4 2 rfl rfl)
theorem dX3_ice_99 : decode cX3_ice 99 = .ok (.iadd, 1) := dk_96 (dk_at dksX3_ice_4 4 rfl rfl)
theorem dX3_ice_100 : decode cX3_ice 100 = .ok (.aload_n 0, 1) := dk_42 (dk_at dksX3_ice_4 5 rfl rfl)
theorem dX3_ice_101 : decode cX3_ice 101 = .ok (.getfield 152, 3) := dk_180 0 152 (dk_at dksX3_ice_4 6 rfl rfl)
theorem dX3_ice_104 : decode cX3_ice 104 = .ok (.bipush 50, 2) := dk_16 50 (dk_at dksX3_ice_4 9 rfl rfl)
theorem dX3_ice_106 : decode cX3_ice 106 = .ok (.iload_n 3, 1) := dk_29 (dk_at dksX3_ice_4 11 rfl rfl)
theorem dX3_ice_107 : decode cX3_ice 107 = .ok (.imul, 1) := dk_104 (dk_at dksX3_ice_4 12 rfl rfl)
theorem dX3_ice_108 : decode cX3_ice 108 = .ok (.iload 4, 2) := dk_21 4 (dk_at dksX3_ice_4 13 rfl rfl)
theorem dX3_ice_110 : decode cX3_ice 110 = .ok (.iadd, 1) := dk_96 (dk_at dksX3_ice_4 15 rfl rfl)
theorem dX3_ice_111 : decode cX3_ice 111 = .ok (.iload 7, 2) := dk_21 7 (dk_at dksX3_ice_4 16 rfl rfl)
theorem dX3_ice_113 : decode cX3_ice 113 = .ok (.iadd, 1) := dk_96 (dk_at dksX3_ice_4 18 rfl rfl)
theorem dX3_ice_114 : decode cX3_ice 114 = .ok (.iaload, 1) := dk_46 (dk_at dksX3_ice_4 19 rfl rfl)
theorem dX3_ice_115 : decode cX3_ice 115 = .ok (.ifCond .eq 7, 3) := dk_153 0 7 (dk_at dksX3_ice_4 20 rfl rfl)
theorem dX3_ice_118 : decode cX3_ice 118 = .ok (.iconst 1, 1) := dk_4 (dk_at dksX3_ice_4 23 rfl rfl)
theorem dX3_ice_119 : decode cX3_ice 119 = .ok (.goto 4, 3) := dk_167 0 4 (dk_at dksX3_ice_5 0 rfl rfl)
theorem dX3_ice_122 : decode cX3_ice 122 = .ok (.iconst 0, 1) := dk_3 (dk_at dksX3_ice_5 3 rfl rfl)
theorem dX3_ice_123 : decode cX3_ice 123 = .ok (.bastore, 1) := dk_84 (dk_at dksX3_ice_5 4 rfl rfl)
theorem dX3_ice_124 : decode cX3_ice 124 = .ok (.iinc 7 1, 3) := dk_132 7 1 (dk_at dksX3_ice_5 5 rfl rfl)
theorem dX3_ice_127 : decode cX3_ice 127 = .ok (.goto (-47), 3) := dk_167 255 209 (dk_at dksX3_ice_5 8 rfl rfl)
theorem dX3_ice_130 : decode cX3_ice 130 = .ok (.iload 5, 2) := dk_21 5 (dk_at dksX3_ice_5 11 rfl rfl)
theorem dX3_ice_132 : decode cX3_ice 132 = .ok (.ireturn, 1) := dk_172 (dk_at dksX3_ice_5 13 rfl rfl)
abbrev cX3_isSheet : ByteArray := prog_19_method_94_code
def yX3_isSheet : MethodName := ⟨RX3, "isSheet", "(I)Z"⟩
def dkwX3_isSheet_0 : List UInt8 := [26, 133, 9, 20, 0, 158, 184, 0, 160, 172]
abbrev dktX3_isSheet_0 : List UInt8 := dkwX3_isSheet_0 ++ []
theorem dksX3_isSheet_0 : cX3_isSheet.data.toList.drop 0 = dktX3_isSheet_0 := by decide +kernel
theorem dX3_isSheet_0 : decode cX3_isSheet 0 = .ok (.iload_n 0, 1) := dk_26 (dk_at dksX3_isSheet_0 0 rfl rfl)
theorem dX3_isSheet_1 : decode cX3_isSheet 1 = .ok (.i2l, 1) := dk_133 (dk_at dksX3_isSheet_0 1 rfl rfl)
theorem dX3_isSheet_2 : decode cX3_isSheet 2 = .ok (.lconst 0, 1) := dk_9 (dk_at dksX3_isSheet_0 2 rfl rfl)
theorem dX3_isSheet_3 : decode cX3_isSheet 3 = .ok (.ldc2_w 158, 3) := dk_20 0 158 (dk_at dksX3_isSheet_0 3 rfl rfl)
theorem dX3_isSheet_6 : decode cX3_isSheet 6 = .ok (.invokestatic 160, 3) := dk_184 0 160 (dk_at dksX3_isSheet_0 6 rfl rfl)
theorem dX3_isSheet_9 : decode cX3_isSheet 9 = .ok (.ireturn, 1) := dk_172 (dk_at dksX3_isSheet_0 9 rfl rfl)
abbrev cX3_finds : ByteArray := prog_19_method_96_code
def yX3_finds : MethodName := ⟨RX3, "finds", "(IIII)I"⟩
def dkwX3_finds_2 : List UInt8 := [167, 0, 4, 3, 172]
abbrev dktX3_finds_2 : List UInt8 := dkwX3_finds_2 ++ []
def dkwX3_finds_1 : List UInt8 := [172, 29, 155, 0, 20, 29, 133, 21, 4, 133, 97, 42, 180, 0, 149, 27, 46, 133, 148, 158, 0, 8, 16, 243]
abbrev dktX3_finds_1 : List UInt8 := dkwX3_finds_1 ++ dktX3_finds_2
def dkwX3_finds_0 : List UInt8 := [42, 180, 0, 146, 27, 46, 156, 0, 6, 16, 245, 172, 42, 180, 0, 146, 27, 46, 28, 159, 0, 6, 16, 244]
abbrev dktX3_finds_0 : List UInt8 := dkwX3_finds_0 ++ dktX3_finds_1
theorem dksX3_finds_0 : cX3_finds.data.toList.drop 0 = dktX3_finds_0 := by decide +kernel
theorem dksX3_finds_1 : cX3_finds.data.toList.drop 24 = dktX3_finds_1 := dk_seg dksX3_finds_0 24 rfl rfl
theorem dksX3_finds_2 : cX3_finds.data.toList.drop 48 = dktX3_finds_2 := dk_seg dksX3_finds_1 24 rfl rfl
theorem dX3_finds_0 : decode cX3_finds 0 = .ok (.aload_n 0, 1) := dk_42 (dk_at dksX3_finds_0 0 rfl rfl)
theorem dX3_finds_1 : decode cX3_finds 1 = .ok (.getfield 146, 3) := dk_180 0 146 (dk_at dksX3_finds_0 1 rfl rfl)
theorem dX3_finds_4 : decode cX3_finds 4 = .ok (.iload_n 1, 1) := dk_27 (dk_at dksX3_finds_0 4 rfl rfl)
theorem dX3_finds_5 : decode cX3_finds 5 = .ok (.iaload, 1) := dk_46 (dk_at dksX3_finds_0 5 rfl rfl)
theorem dX3_finds_6 : decode cX3_finds 6 = .ok (.ifCond .ge 6, 3) := dk_156 0 6 (dk_at dksX3_finds_0 6 rfl rfl)
theorem dX3_finds_9 : decode cX3_finds 9 = .ok (.bipush (-11), 2) := dk_16 245 (dk_at dksX3_finds_0 9 rfl rfl)
theorem dX3_finds_11 : decode cX3_finds 11 = .ok (.ireturn, 1) := dk_172 (dk_at dksX3_finds_0 11 rfl rfl)
theorem dX3_finds_12 : decode cX3_finds 12 = .ok (.aload_n 0, 1) := dk_42 (dk_at dksX3_finds_0 12 rfl rfl)
theorem dX3_finds_13 : decode cX3_finds 13 = .ok (.getfield 146, 3) := dk_180 0 146 (dk_at dksX3_finds_0 13 rfl rfl)
theorem dX3_finds_16 : decode cX3_finds 16 = .ok (.iload_n 1, 1) := dk_27 (dk_at dksX3_finds_0 16 rfl rfl)
theorem dX3_finds_17 : decode cX3_finds 17 = .ok (.iaload, 1) := dk_46 (dk_at dksX3_finds_0 17 rfl rfl)
theorem dX3_finds_18 : decode cX3_finds 18 = .ok (.iload_n 2, 1) := dk_28 (dk_at dksX3_finds_0 18 rfl rfl)
theorem dX3_finds_19 : decode cX3_finds 19 = .ok (.if_icmp .eq 6, 3) := dk_159 0 6 (dk_at dksX3_finds_0 19 rfl rfl)
theorem dX3_finds_22 : decode cX3_finds 22 = .ok (.bipush (-12), 2) := dk_16 244 (dk_at dksX3_finds_0 22 rfl rfl)
theorem dX3_finds_24 : decode cX3_finds 24 = .ok (.ireturn, 1) := dk_172 (dk_at dksX3_finds_1 0 rfl rfl)
theorem dX3_finds_25 : decode cX3_finds 25 = .ok (.iload_n 3, 1) := dk_29 (dk_at dksX3_finds_1 1 rfl rfl)
theorem dX3_finds_26 : decode cX3_finds 26 = .ok (.ifCond .lt 20, 3) := dk_155 0 20 (dk_at dksX3_finds_1 2 rfl rfl)
theorem dX3_finds_29 : decode cX3_finds 29 = .ok (.iload_n 3, 1) := dk_29 (dk_at dksX3_finds_1 5 rfl rfl)
theorem dX3_finds_30 : decode cX3_finds 30 = .ok (.i2l, 1) := dk_133 (dk_at dksX3_finds_1 6 rfl rfl)
theorem dX3_finds_31 : decode cX3_finds 31 = .ok (.iload 4, 2) := dk_21 4 (dk_at dksX3_finds_1 7 rfl rfl)
theorem dX3_finds_33 : decode cX3_finds 33 = .ok (.i2l, 1) := dk_133 (dk_at dksX3_finds_1 9 rfl rfl)
theorem dX3_finds_34 : decode cX3_finds 34 = .ok (.ladd, 1) := dk_97 (dk_at dksX3_finds_1 10 rfl rfl)
theorem dX3_finds_35 : decode cX3_finds 35 = .ok (.aload_n 0, 1) := dk_42 (dk_at dksX3_finds_1 11 rfl rfl)
theorem dX3_finds_36 : decode cX3_finds 36 = .ok (.getfield 149, 3) := dk_180 0 149 (dk_at dksX3_finds_1 12 rfl rfl)
theorem dX3_finds_39 : decode cX3_finds 39 = .ok (.iload_n 1, 1) := dk_27 (dk_at dksX3_finds_1 15 rfl rfl)
theorem dX3_finds_40 : decode cX3_finds 40 = .ok (.iaload, 1) := dk_46 (dk_at dksX3_finds_1 16 rfl rfl)
theorem dX3_finds_41 : decode cX3_finds 41 = .ok (.i2l, 1) := dk_133 (dk_at dksX3_finds_1 17 rfl rfl)
theorem dX3_finds_42 : decode cX3_finds 42 = .ok (.lcmp, 1) := dk_148 (dk_at dksX3_finds_1 18 rfl rfl)
theorem dX3_finds_43 : decode cX3_finds 43 = .ok (.ifCond .le 8, 3) := dk_158 0 8 (dk_at dksX3_finds_1 19 rfl rfl)
theorem dX3_finds_46 : decode cX3_finds 46 = .ok (.bipush (-13), 2) := dk_16 243 (dk_at dksX3_finds_1 22 rfl rfl)
theorem dX3_finds_48 : decode cX3_finds 48 = .ok (.goto 4, 3) := dk_167 0 4 (dk_at dksX3_finds_2 0 rfl rfl)
theorem dX3_finds_51 : decode cX3_finds 51 = .ok (.iconst 0, 1) := dk_3 (dk_at dksX3_finds_2 3 rfl rfl)
theorem dX3_finds_52 : decode cX3_finds 52 = .ok (.ireturn, 1) := dk_172 (dk_at dksX3_finds_2 4 rfl rfl)
abbrev cX3_last : ByteArray := prog_19_method_24_code
def yX3_last : MethodName := ⟨RX3, "last", "(I)I"⟩
def dkwX3_last_2 : List UInt8 := [162, 0, 20, 42, 27, 28, 4, 96, 182, 0, 210, 153, 0, 9, 132, 2, 1, 167, 255, 235, 28, 172]
abbrev dktX3_last_2 : List UInt8 := dkwX3_last_2 ++ []
def dkwX3_last_1 : List UInt8 := [27, 42, 180, 0, 190, 182, 0, 210, 154, 0, 6, 16, 252, 172, 42, 180, 0, 190, 61, 28, 17, 39, 15]
abbrev dktX3_last_1 : List UInt8 := dkwX3_last_1 ++ dktX3_last_2
def dkwX3_last_0 : List UInt8 := [42, 27, 182, 0, 176, 154, 0, 5, 2, 172, 42, 180, 0, 7, 27, 46, 6, 159, 0, 6, 16, 244, 172, 42]
abbrev dktX3_last_0 : List UInt8 := dkwX3_last_0 ++ dktX3_last_1
theorem dksX3_last_0 : cX3_last.data.toList.drop 0 = dktX3_last_0 := by decide +kernel
theorem dksX3_last_1 : cX3_last.data.toList.drop 24 = dktX3_last_1 := dk_seg dksX3_last_0 24 rfl rfl
theorem dksX3_last_2 : cX3_last.data.toList.drop 47 = dktX3_last_2 := dk_seg dksX3_last_1 23 rfl rfl
theorem dX3_last_0 : decode cX3_last 0 = .ok (.aload_n 0, 1) := dk_42 (dk_at dksX3_last_0 0 rfl rfl)
theorem dX3_last_1 : decode cX3_last 1 = .ok (.iload_n 1, 1) := dk_27 (dk_at dksX3_last_0 1 rfl rfl)
theorem dX3_last_2 : decode cX3_last 2 = .ok (.invokevirtual 176, 3) := dk_182 0 176 (dk_at dksX3_last_0 2 rfl rfl)
theorem dX3_last_5 : decode cX3_last 5 = .ok (.ifCond .ne 5, 3) := dk_154 0 5 (dk_at dksX3_last_0 5 rfl rfl)
theorem dX3_last_8 : decode cX3_last 8 = .ok (.iconst (-1), 1) := dk_2 (dk_at dksX3_last_0 8 rfl rfl)
theorem dX3_last_9 : decode cX3_last 9 = .ok (.ireturn, 1) := dk_172 (dk_at dksX3_last_0 9 rfl rfl)
theorem dX3_last_10 : decode cX3_last 10 = .ok (.aload_n 0, 1) := dk_42 (dk_at dksX3_last_0 10 rfl rfl)
theorem dX3_last_11 : decode cX3_last 11 = .ok (.getfield 7, 3) := dk_180 0 7 (dk_at dksX3_last_0 11 rfl rfl)
theorem dX3_last_14 : decode cX3_last 14 = .ok (.iload_n 1, 1) := dk_27 (dk_at dksX3_last_0 14 rfl rfl)
theorem dX3_last_15 : decode cX3_last 15 = .ok (.iaload, 1) := dk_46 (dk_at dksX3_last_0 15 rfl rfl)
theorem dX3_last_16 : decode cX3_last 16 = .ok (.iconst 3, 1) := dk_6 (dk_at dksX3_last_0 16 rfl rfl)
theorem dX3_last_17 : decode cX3_last 17 = .ok (.if_icmp .eq 6, 3) := dk_159 0 6 (dk_at dksX3_last_0 17 rfl rfl)
theorem dX3_last_20 : decode cX3_last 20 = .ok (.bipush (-12), 2) := dk_16 244 (dk_at dksX3_last_0 20 rfl rfl)
theorem dX3_last_22 : decode cX3_last 22 = .ok (.ireturn, 1) := dk_172 (dk_at dksX3_last_0 22 rfl rfl)
theorem dX3_last_23 : decode cX3_last 23 = .ok (.aload_n 0, 1) := dk_42 (dk_at dksX3_last_0 23 rfl rfl)
theorem dX3_last_24 : decode cX3_last 24 = .ok (.iload_n 1, 1) := dk_27 (dk_at dksX3_last_1 0 rfl rfl)
theorem dX3_last_25 : decode cX3_last 25 = .ok (.aload_n 0, 1) := dk_42 (dk_at dksX3_last_1 1 rfl rfl)
theorem dX3_last_26 : decode cX3_last 26 = .ok (.getfield 190, 3) := dk_180 0 190 (dk_at dksX3_last_1 2 rfl rfl)
theorem dX3_last_29 : decode cX3_last 29 = .ok (.invokevirtual 210, 3) := dk_182 0 210 (dk_at dksX3_last_1 5 rfl rfl)
theorem dX3_last_32 : decode cX3_last 32 = .ok (.ifCond .ne 6, 3) := dk_154 0 6 (dk_at dksX3_last_1 8 rfl rfl)
theorem dX3_last_35 : decode cX3_last 35 = .ok (.bipush (-4), 2) := dk_16 252 (dk_at dksX3_last_1 11 rfl rfl)
theorem dX3_last_37 : decode cX3_last 37 = .ok (.ireturn, 1) := dk_172 (dk_at dksX3_last_1 13 rfl rfl)
theorem dX3_last_38 : decode cX3_last 38 = .ok (.aload_n 0, 1) := dk_42 (dk_at dksX3_last_1 14 rfl rfl)
theorem dX3_last_39 : decode cX3_last 39 = .ok (.getfield 190, 3) := dk_180 0 190 (dk_at dksX3_last_1 15 rfl rfl)
theorem dX3_last_42 : decode cX3_last 42 = .ok (.istore_n 2, 1) := dk_61 (dk_at dksX3_last_1 18 rfl rfl)
theorem dX3_last_43 : decode cX3_last 43 = .ok (.iload_n 2, 1) := dk_28 (dk_at dksX3_last_1 19 rfl rfl)
theorem dX3_last_44 : decode cX3_last 44 = .ok (.sipush 9999, 3) := dk_17 39 15 (dk_at dksX3_last_1 20 rfl rfl)
theorem dX3_last_47 : decode cX3_last 47 = .ok (.if_icmp .ge 20, 3) := dk_162 0 20 (dk_at dksX3_last_2 0 rfl rfl)
theorem dX3_last_50 : decode cX3_last 50 = .ok (.aload_n 0, 1) := dk_42 (dk_at dksX3_last_2 3 rfl rfl)
theorem dX3_last_51 : decode cX3_last 51 = .ok (.iload_n 1, 1) := dk_27 (dk_at dksX3_last_2 4 rfl rfl)
theorem dX3_last_52 : decode cX3_last 52 = .ok (.iload_n 2, 1) := dk_28 (dk_at dksX3_last_2 5 rfl rfl)
theorem dX3_last_53 : decode cX3_last 53 = .ok (.iconst 1, 1) := dk_4 (dk_at dksX3_last_2 6 rfl rfl)
theorem dX3_last_54 : decode cX3_last 54 = .ok (.iadd, 1) := dk_96 (dk_at dksX3_last_2 7 rfl rfl)
theorem dX3_last_55 : decode cX3_last 55 = .ok (.invokevirtual 210, 3) := dk_182 0 210 (dk_at dksX3_last_2 8 rfl rfl)
theorem dX3_last_58 : decode cX3_last 58 = .ok (.ifCond .eq 9, 3) := dk_153 0 9 (dk_at dksX3_last_2 11 rfl rfl)
theorem dX3_last_61 : decode cX3_last 61 = .ok (.iinc 2 1, 3) := dk_132 2 1 (dk_at dksX3_last_2 14 rfl rfl)
theorem dX3_last_64 : decode cX3_last 64 = .ok (.goto (-21), 3) := dk_167 255 235 (dk_at dksX3_last_2 17 rfl rfl)
theorem dX3_last_67 : decode cX3_last 67 = .ok (.iload_n 2, 1) := dk_28 (dk_at dksX3_last_2 20 rfl rfl)
theorem dX3_last_68 : decode cX3_last 68 = .ok (.ireturn, 1) := dk_172 (dk_at dksX3_last_2 21 rfl rfl)
abbrev cX3_bearsAt : ByteArray := prog_19_method_23_code
def yX3_bearsAt : MethodName := ⟨RX3, "bearsAt", "(II)Z"⟩
def dkwX3_bearsAt_1 : List UInt8 := [153, 0, 7, 4, 167, 0, 4, 3, 172]
abbrev dktX3_bearsAt_1 : List UInt8 := dkwX3_bearsAt_1 ++ []
def dkwX3_bearsAt_0 : List UInt8 := [42, 180, 0, 7, 27, 46, 6, 160, 0, 20, 42, 180, 0, 35, 16, 50, 27, 104, 28, 184, 0, 206, 96, 51]
abbrev dktX3_bearsAt_0 : List UInt8 := dkwX3_bearsAt_0 ++ dktX3_bearsAt_1
theorem dksX3_bearsAt_0 : cX3_bearsAt.data.toList.drop 0 = dktX3_bearsAt_0 := by decide +kernel
theorem dksX3_bearsAt_1 : cX3_bearsAt.data.toList.drop 24 = dktX3_bearsAt_1 := dk_seg dksX3_bearsAt_0 24 rfl rfl
theorem dX3_bearsAt_0 : decode cX3_bearsAt 0 = .ok (.aload_n 0, 1) := dk_42 (dk_at dksX3_bearsAt_0 0 rfl rfl)
theorem dX3_bearsAt_1 : decode cX3_bearsAt 1 = .ok (.getfield 7, 3) := dk_180 0 7 (dk_at dksX3_bearsAt_0 1 rfl rfl)
theorem dX3_bearsAt_4 : decode cX3_bearsAt 4 = .ok (.iload_n 1, 1) := dk_27 (dk_at dksX3_bearsAt_0 4 rfl rfl)
theorem dX3_bearsAt_5 : decode cX3_bearsAt 5 = .ok (.iaload, 1) := dk_46 (dk_at dksX3_bearsAt_0 5 rfl rfl)
theorem dX3_bearsAt_6 : decode cX3_bearsAt 6 = .ok (.iconst 3, 1) := dk_6 (dk_at dksX3_bearsAt_0 6 rfl rfl)
theorem dX3_bearsAt_7 : decode cX3_bearsAt 7 = .ok (.if_icmp .ne 20, 3) := dk_160 0 20 (dk_at dksX3_bearsAt_0 7 rfl rfl)
theorem dX3_bearsAt_10 : decode cX3_bearsAt 10 = .ok (.aload_n 0, 1) := dk_42 (dk_at dksX3_bearsAt_0 10 rfl rfl)
theorem dX3_bearsAt_11 : decode cX3_bearsAt 11 = .ok (.getfield 35, 3) := dk_180 0 35 (dk_at dksX3_bearsAt_0 11 rfl rfl)
theorem dX3_bearsAt_14 : decode cX3_bearsAt 14 = .ok (.bipush 50, 2) := dk_16 50 (dk_at dksX3_bearsAt_0 14 rfl rfl)
theorem dX3_bearsAt_16 : decode cX3_bearsAt 16 = .ok (.iload_n 1, 1) := dk_27 (dk_at dksX3_bearsAt_0 16 rfl rfl)
theorem dX3_bearsAt_17 : decode cX3_bearsAt 17 = .ok (.imul, 1) := dk_104 (dk_at dksX3_bearsAt_0 17 rfl rfl)
theorem dX3_bearsAt_18 : decode cX3_bearsAt 18 = .ok (.iload_n 2, 1) := dk_28 (dk_at dksX3_bearsAt_0 18 rfl rfl)
theorem dX3_bearsAt_19 : decode cX3_bearsAt 19 = .ok (.invokestatic 206, 3) := dk_184 0 206 (dk_at dksX3_bearsAt_0 19 rfl rfl)
theorem dX3_bearsAt_22 : decode cX3_bearsAt 22 = .ok (.iadd, 1) := dk_96 (dk_at dksX3_bearsAt_0 22 rfl rfl)
theorem dX3_bearsAt_23 : decode cX3_bearsAt 23 = .ok (.baload, 1) := dk_51 (dk_at dksX3_bearsAt_0 23 rfl rfl)
theorem dX3_bearsAt_24 : decode cX3_bearsAt 24 = .ok (.ifCond .eq 7, 3) := dk_153 0 7 (dk_at dksX3_bearsAt_1 0 rfl rfl)
theorem dX3_bearsAt_27 : decode cX3_bearsAt 27 = .ok (.iconst 1, 1) := dk_4 (dk_at dksX3_bearsAt_1 3 rfl rfl)
theorem dX3_bearsAt_28 : decode cX3_bearsAt 28 = .ok (.goto 4, 3) := dk_167 0 4 (dk_at dksX3_bearsAt_1 4 rfl rfl)
theorem dX3_bearsAt_31 : decode cX3_bearsAt 31 = .ok (.iconst 0, 1) := dk_3 (dk_at dksX3_bearsAt_1 7 rfl rfl)
theorem dX3_bearsAt_32 : decode cX3_bearsAt 32 = .ok (.ireturn, 1) := dk_172 (dk_at dksX3_bearsAt_1 8 rfl rfl)
abbrev cX3_weekOf : ByteArray := prog_19_method_5_code
def yX3_weekOf : MethodName := ⟨RX3, "weekOf", "(I)I"⟩
def dkwX3_weekOf_0 : List UInt8 := [26, 16, 24, 108, 16, 7, 108, 16, 50, 112, 172]
abbrev dktX3_weekOf_0 : List UInt8 := dkwX3_weekOf_0 ++ []
theorem dksX3_weekOf_0 : cX3_weekOf.data.toList.drop 0 = dktX3_weekOf_0 := by decide +kernel
theorem dX3_weekOf_0 : decode cX3_weekOf 0 = .ok (.iload_n 0, 1) := dk_26 (dk_at dksX3_weekOf_0 0 rfl rfl)
theorem dX3_weekOf_1 : decode cX3_weekOf 1 = .ok (.bipush 24, 2) := dk_16 24 (dk_at dksX3_weekOf_0 1 rfl rfl)
theorem dX3_weekOf_3 : decode cX3_weekOf 3 = .ok (.idiv, 1) := dk_108 (dk_at dksX3_weekOf_0 3 rfl rfl)
theorem dX3_weekOf_4 : decode cX3_weekOf 4 = .ok (.bipush 7, 2) := dk_16 7 (dk_at dksX3_weekOf_0 4 rfl rfl)
theorem dX3_weekOf_6 : decode cX3_weekOf 6 = .ok (.idiv, 1) := dk_108 (dk_at dksX3_weekOf_0 6 rfl rfl)
theorem dX3_weekOf_7 : decode cX3_weekOf 7 = .ok (.bipush 50, 2) := dk_16 50 (dk_at dksX3_weekOf_0 7 rfl rfl)
theorem dX3_weekOf_9 : decode cX3_weekOf 9 = .ok (.irem, 1) := dk_112 (dk_at dksX3_weekOf_0 9 rfl rfl)
theorem dX3_weekOf_10 : decode cX3_weekOf 10 = .ok (.ireturn, 1) := dk_172 (dk_at dksX3_weekOf_0 10 rfl rfl)
abbrev cX3_place : ByteArray := prog_19_method_31_code
def yX3_place : MethodName := ⟨RX3, "place", "(II)I"⟩
def dkwX3_place_3 : List UInt8 := [182, 0, 216, 172, 42, 27, 182, 0, 219, 172, 42, 27, 182, 0, 222, 172, 42, 27, 182, 0, 225, 172, 2, 172]
abbrev dktX3_place_3 : List UInt8 := dkwX3_place_3 ++ []
def dkwX3_place_2 : List UInt8 := [42, 180, 0, 7, 27, 46, 172, 42, 180, 0, 13, 27, 46, 172, 42, 180, 0, 16, 27, 46, 172, 42, 27]
abbrev dktX3_place_2 : List UInt8 := dkwX3_place_2 ++ dktX3_place_3
def dkwX3_place_1 : List UInt8 := [170, 0, 0, 0, 86, 0, 0, 0, 0, 0, 0, 0, 6, 0, 0, 0, 41, 0, 0, 0, 48, 0, 0, 0, 55, 0, 0, 0, 62, 0, 0, 0, 68, 0, 0, 0, 74, 0, 0, 0, 80]
abbrev dktX3_place_1 : List UInt8 := dkwX3_place_1 ++ dktX3_place_2
def dkwX3_place_0 : List UInt8 := [42, 27, 182, 0, 176, 154, 0, 5, 2, 172, 28]
abbrev dktX3_place_0 : List UInt8 := dkwX3_place_0 ++ dktX3_place_1
theorem dksX3_place_0 : cX3_place.data.toList.drop 0 = dktX3_place_0 := by decide +kernel
theorem dksX3_place_1 : cX3_place.data.toList.drop 11 = dktX3_place_1 := dk_seg dksX3_place_0 11 rfl rfl
theorem dksX3_place_2 : cX3_place.data.toList.drop 52 = dktX3_place_2 := dk_seg dksX3_place_1 41 rfl rfl
theorem dksX3_place_3 : cX3_place.data.toList.drop 75 = dktX3_place_3 := dk_seg dksX3_place_2 23 rfl rfl
theorem dX3_place_0 : decode cX3_place 0 = .ok (.aload_n 0, 1) := dk_42 (dk_at dksX3_place_0 0 rfl rfl)
theorem dX3_place_1 : decode cX3_place 1 = .ok (.iload_n 1, 1) := dk_27 (dk_at dksX3_place_0 1 rfl rfl)
theorem dX3_place_2 : decode cX3_place 2 = .ok (.invokevirtual 176, 3) := dk_182 0 176 (dk_at dksX3_place_0 2 rfl rfl)
theorem dX3_place_5 : decode cX3_place 5 = .ok (.ifCond .ne 5, 3) := dk_154 0 5 (dk_at dksX3_place_0 5 rfl rfl)
theorem dX3_place_8 : decode cX3_place 8 = .ok (.iconst (-1), 1) := dk_2 (dk_at dksX3_place_0 8 rfl rfl)
theorem dX3_place_9 : decode cX3_place 9 = .ok (.ireturn, 1) := dk_172 (dk_at dksX3_place_0 9 rfl rfl)
theorem dX3_place_10 : decode cX3_place 10 = .ok (.iload_n 2, 1) := dk_28 (dk_at dksX3_place_0 10 rfl rfl)
theorem dX3_place_11 : decode cX3_place 11 = .ok (.tableswitch 86 0 6 #[41, 48, 55, 62, 68, 74, 80], 41) := by decide +kernel
theorem dX3_place_52 : decode cX3_place 52 = .ok (.aload_n 0, 1) := dk_42 (dk_at dksX3_place_2 0 rfl rfl)
theorem dX3_place_53 : decode cX3_place 53 = .ok (.getfield 7, 3) := dk_180 0 7 (dk_at dksX3_place_2 1 rfl rfl)
theorem dX3_place_56 : decode cX3_place 56 = .ok (.iload_n 1, 1) := dk_27 (dk_at dksX3_place_2 4 rfl rfl)
theorem dX3_place_57 : decode cX3_place 57 = .ok (.iaload, 1) := dk_46 (dk_at dksX3_place_2 5 rfl rfl)
theorem dX3_place_58 : decode cX3_place 58 = .ok (.ireturn, 1) := dk_172 (dk_at dksX3_place_2 6 rfl rfl)
theorem dX3_place_59 : decode cX3_place 59 = .ok (.aload_n 0, 1) := dk_42 (dk_at dksX3_place_2 7 rfl rfl)
theorem dX3_place_60 : decode cX3_place 60 = .ok (.getfield 13, 3) := dk_180 0 13 (dk_at dksX3_place_2 8 rfl rfl)
theorem dX3_place_63 : decode cX3_place 63 = .ok (.iload_n 1, 1) := dk_27 (dk_at dksX3_place_2 11 rfl rfl)
theorem dX3_place_64 : decode cX3_place 64 = .ok (.iaload, 1) := dk_46 (dk_at dksX3_place_2 12 rfl rfl)
theorem dX3_place_65 : decode cX3_place 65 = .ok (.ireturn, 1) := dk_172 (dk_at dksX3_place_2 13 rfl rfl)
theorem dX3_place_66 : decode cX3_place 66 = .ok (.aload_n 0, 1) := dk_42 (dk_at dksX3_place_2 14 rfl rfl)
theorem dX3_place_67 : decode cX3_place 67 = .ok (.getfield 16, 3) := dk_180 0 16 (dk_at dksX3_place_2 15 rfl rfl)
theorem dX3_place_70 : decode cX3_place 70 = .ok (.iload_n 1, 1) := dk_27 (dk_at dksX3_place_2 18 rfl rfl)
theorem dX3_place_71 : decode cX3_place 71 = .ok (.iaload, 1) := dk_46 (dk_at dksX3_place_2 19 rfl rfl)
theorem dX3_place_72 : decode cX3_place 72 = .ok (.ireturn, 1) := dk_172 (dk_at dksX3_place_2 20 rfl rfl)
theorem dX3_place_73 : decode cX3_place 73 = .ok (.aload_n 0, 1) := dk_42 (dk_at dksX3_place_2 21 rfl rfl)
theorem dX3_place_74 : decode cX3_place 74 = .ok (.iload_n 1, 1) := dk_27 (dk_at dksX3_place_2 22 rfl rfl)
theorem dX3_place_75 : decode cX3_place 75 = .ok (.invokevirtual 216, 3) := dk_182 0 216 (dk_at dksX3_place_3 0 rfl rfl)
theorem dX3_place_78 : decode cX3_place 78 = .ok (.ireturn, 1) := dk_172 (dk_at dksX3_place_3 3 rfl rfl)
theorem dX3_place_79 : decode cX3_place 79 = .ok (.aload_n 0, 1) := dk_42 (dk_at dksX3_place_3 4 rfl rfl)
theorem dX3_place_80 : decode cX3_place 80 = .ok (.iload_n 1, 1) := dk_27 (dk_at dksX3_place_3 5 rfl rfl)
theorem dX3_place_81 : decode cX3_place 81 = .ok (.invokevirtual 219, 3) := dk_182 0 219 (dk_at dksX3_place_3 6 rfl rfl)
theorem dX3_place_84 : decode cX3_place 84 = .ok (.ireturn, 1) := dk_172 (dk_at dksX3_place_3 9 rfl rfl)
theorem dX3_place_85 : decode cX3_place 85 = .ok (.aload_n 0, 1) := dk_42 (dk_at dksX3_place_3 10 rfl rfl)
theorem dX3_place_86 : decode cX3_place 86 = .ok (.iload_n 1, 1) := dk_27 (dk_at dksX3_place_3 11 rfl rfl)
theorem dX3_place_87 : decode cX3_place 87 = .ok (.invokevirtual 222, 3) := dk_182 0 222 (dk_at dksX3_place_3 12 rfl rfl)
theorem dX3_place_90 : decode cX3_place 90 = .ok (.ireturn, 1) := dk_172 (dk_at dksX3_place_3 15 rfl rfl)
theorem dX3_place_91 : decode cX3_place 91 = .ok (.aload_n 0, 1) := dk_42 (dk_at dksX3_place_3 16 rfl rfl)
theorem dX3_place_92 : decode cX3_place 92 = .ok (.iload_n 1, 1) := dk_27 (dk_at dksX3_place_3 17 rfl rfl)
theorem dX3_place_93 : decode cX3_place 93 = .ok (.invokevirtual 225, 3) := dk_182 0 225 (dk_at dksX3_place_3 18 rfl rfl)
theorem dX3_place_96 : decode cX3_place 96 = .ok (.ireturn, 1) := dk_172 (dk_at dksX3_place_3 21 rfl rfl)
theorem dX3_place_97 : decode cX3_place 97 = .ok (.iconst (-1), 1) := dk_2 (dk_at dksX3_place_3 22 rfl rfl)
theorem dX3_place_98 : decode cX3_place 98 = .ok (.ireturn, 1) := dk_172 (dk_at dksX3_place_3 23 rfl rfl)
abbrev cX3_there : ByteArray := prog_19_method_26_code
def yX3_there : MethodName := ⟨RX3, "there", "(I)I"⟩
def dkwX3_there_1 : List UInt8 := [167, 0, 4, 3, 96, 61, 132, 3, 1, 167, 255, 227, 28, 172]
abbrev dktX3_there_1 : List UInt8 := dkwX3_there_1 ++ []
def dkwX3_there_0 : List UInt8 := [3, 61, 3, 62, 29, 42, 180, 0, 213, 162, 0, 27, 28, 42, 180, 0, 62, 29, 46, 27, 160, 0, 7, 4]
abbrev dktX3_there_0 : List UInt8 := dkwX3_there_0 ++ dktX3_there_1
theorem dksX3_there_0 : cX3_there.data.toList.drop 0 = dktX3_there_0 := by decide +kernel
theorem dksX3_there_1 : cX3_there.data.toList.drop 24 = dktX3_there_1 := dk_seg dksX3_there_0 24 rfl rfl
theorem dX3_there_0 : decode cX3_there 0 = .ok (.iconst 0, 1) := dk_3 (dk_at dksX3_there_0 0 rfl rfl)
theorem dX3_there_1 : decode cX3_there 1 = .ok (.istore_n 2, 1) := dk_61 (dk_at dksX3_there_0 1 rfl rfl)
theorem dX3_there_2 : decode cX3_there 2 = .ok (.iconst 0, 1) := dk_3 (dk_at dksX3_there_0 2 rfl rfl)
theorem dX3_there_3 : decode cX3_there 3 = .ok (.istore_n 3, 1) := dk_62 (dk_at dksX3_there_0 3 rfl rfl)
theorem dX3_there_4 : decode cX3_there 4 = .ok (.iload_n 3, 1) := dk_29 (dk_at dksX3_there_0 4 rfl rfl)
theorem dX3_there_5 : decode cX3_there 5 = .ok (.aload_n 0, 1) := dk_42 (dk_at dksX3_there_0 5 rfl rfl)
theorem dX3_there_6 : decode cX3_there 6 = .ok (.getfield 213, 3) := dk_180 0 213 (dk_at dksX3_there_0 6 rfl rfl)
theorem dX3_there_9 : decode cX3_there 9 = .ok (.if_icmp .ge 27, 3) := dk_162 0 27 (dk_at dksX3_there_0 9 rfl rfl)
theorem dX3_there_12 : decode cX3_there 12 = .ok (.iload_n 2, 1) := dk_28 (dk_at dksX3_there_0 12 rfl rfl)
theorem dX3_there_13 : decode cX3_there 13 = .ok (.aload_n 0, 1) := dk_42 (dk_at dksX3_there_0 13 rfl rfl)
theorem dX3_there_14 : decode cX3_there 14 = .ok (.getfield 62, 3) := dk_180 0 62 (dk_at dksX3_there_0 14 rfl rfl)
theorem dX3_there_17 : decode cX3_there 17 = .ok (.iload_n 3, 1) := dk_29 (dk_at dksX3_there_0 17 rfl rfl)
theorem dX3_there_18 : decode cX3_there 18 = .ok (.iaload, 1) := dk_46 (dk_at dksX3_there_0 18 rfl rfl)
theorem dX3_there_19 : decode cX3_there 19 = .ok (.iload_n 1, 1) := dk_27 (dk_at dksX3_there_0 19 rfl rfl)
theorem dX3_there_20 : decode cX3_there 20 = .ok (.if_icmp .ne 7, 3) := dk_160 0 7 (dk_at dksX3_there_0 20 rfl rfl)
theorem dX3_there_23 : decode cX3_there 23 = .ok (.iconst 1, 1) := dk_4 (dk_at dksX3_there_0 23 rfl rfl)
theorem dX3_there_24 : decode cX3_there 24 = .ok (.goto 4, 3) := dk_167 0 4 (dk_at dksX3_there_1 0 rfl rfl)
theorem dX3_there_27 : decode cX3_there 27 = .ok (.iconst 0, 1) := dk_3 (dk_at dksX3_there_1 3 rfl rfl)
theorem dX3_there_28 : decode cX3_there 28 = .ok (.iadd, 1) := dk_96 (dk_at dksX3_there_1 4 rfl rfl)
theorem dX3_there_29 : decode cX3_there 29 = .ok (.istore_n 2, 1) := dk_61 (dk_at dksX3_there_1 5 rfl rfl)
theorem dX3_there_30 : decode cX3_there 30 = .ok (.iinc 3 1, 3) := dk_132 3 1 (dk_at dksX3_there_1 6 rfl rfl)
theorem dX3_there_33 : decode cX3_there 33 = .ok (.goto (-29), 3) := dk_167 255 227 (dk_at dksX3_there_1 9 rfl rfl)
theorem dX3_there_36 : decode cX3_there 36 = .ok (.iload_n 2, 1) := dk_28 (dk_at dksX3_there_1 12 rfl rfl)
theorem dX3_there_37 : decode cX3_there 37 = .ok (.ireturn, 1) := dk_172 (dk_at dksX3_there_1 13 rfl rfl)
abbrev cX3_behind : ByteArray := prog_19_method_27_code
def yX3_behind : MethodName := ⟨RX3, "behind", "(I)I"⟩
def dkwX3_behind_1 : List UInt8 := [180, 0, 68, 29, 51, 153, 0, 7, 4, 167, 0, 4, 3, 96, 61, 132, 3, 1, 167, 255, 218, 28, 172]
abbrev dktX3_behind_1 : List UInt8 := dkwX3_behind_1 ++ []
def dkwX3_behind_0 : List UInt8 := [3, 61, 3, 62, 29, 42, 180, 0, 213, 162, 0, 36, 28, 42, 180, 0, 62, 29, 46, 27, 160, 0, 16, 42]
abbrev dktX3_behind_0 : List UInt8 := dkwX3_behind_0 ++ dktX3_behind_1
theorem dksX3_behind_0 : cX3_behind.data.toList.drop 0 = dktX3_behind_0 := by decide +kernel
theorem dksX3_behind_1 : cX3_behind.data.toList.drop 24 = dktX3_behind_1 := dk_seg dksX3_behind_0 24 rfl rfl
theorem dX3_behind_0 : decode cX3_behind 0 = .ok (.iconst 0, 1) := dk_3 (dk_at dksX3_behind_0 0 rfl rfl)
theorem dX3_behind_1 : decode cX3_behind 1 = .ok (.istore_n 2, 1) := dk_61 (dk_at dksX3_behind_0 1 rfl rfl)
theorem dX3_behind_2 : decode cX3_behind 2 = .ok (.iconst 0, 1) := dk_3 (dk_at dksX3_behind_0 2 rfl rfl)
theorem dX3_behind_3 : decode cX3_behind 3 = .ok (.istore_n 3, 1) := dk_62 (dk_at dksX3_behind_0 3 rfl rfl)
theorem dX3_behind_4 : decode cX3_behind 4 = .ok (.iload_n 3, 1) := dk_29 (dk_at dksX3_behind_0 4 rfl rfl)
theorem dX3_behind_5 : decode cX3_behind 5 = .ok (.aload_n 0, 1) := dk_42 (dk_at dksX3_behind_0 5 rfl rfl)
theorem dX3_behind_6 : decode cX3_behind 6 = .ok (.getfield 213, 3) := dk_180 0 213 (dk_at dksX3_behind_0 6 rfl rfl)
theorem dX3_behind_9 : decode cX3_behind 9 = .ok (.if_icmp .ge 36, 3) := dk_162 0 36 (dk_at dksX3_behind_0 9 rfl rfl)
theorem dX3_behind_12 : decode cX3_behind 12 = .ok (.iload_n 2, 1) := dk_28 (dk_at dksX3_behind_0 12 rfl rfl)
theorem dX3_behind_13 : decode cX3_behind 13 = .ok (.aload_n 0, 1) := dk_42 (dk_at dksX3_behind_0 13 rfl rfl)
theorem dX3_behind_14 : decode cX3_behind 14 = .ok (.getfield 62, 3) := dk_180 0 62 (dk_at dksX3_behind_0 14 rfl rfl)
theorem dX3_behind_17 : decode cX3_behind 17 = .ok (.iload_n 3, 1) := dk_29 (dk_at dksX3_behind_0 17 rfl rfl)
theorem dX3_behind_18 : decode cX3_behind 18 = .ok (.iaload, 1) := dk_46 (dk_at dksX3_behind_0 18 rfl rfl)
theorem dX3_behind_19 : decode cX3_behind 19 = .ok (.iload_n 1, 1) := dk_27 (dk_at dksX3_behind_0 19 rfl rfl)
theorem dX3_behind_20 : decode cX3_behind 20 = .ok (.if_icmp .ne 16, 3) := dk_160 0 16 (dk_at dksX3_behind_0 20 rfl rfl)
theorem dX3_behind_23 : decode cX3_behind 23 = .ok (.aload_n 0, 1) := dk_42 (dk_at dksX3_behind_0 23 rfl rfl)
theorem dX3_behind_24 : decode cX3_behind 24 = .ok (.getfield 68, 3) := dk_180 0 68 (dk_at dksX3_behind_1 0 rfl rfl)
theorem dX3_behind_27 : decode cX3_behind 27 = .ok (.iload_n 3, 1) := dk_29 (dk_at dksX3_behind_1 3 rfl rfl)
theorem dX3_behind_28 : decode cX3_behind 28 = .ok (.baload, 1) := dk_51 (dk_at dksX3_behind_1 4 rfl rfl)
theorem dX3_behind_29 : decode cX3_behind 29 = .ok (.ifCond .eq 7, 3) := dk_153 0 7 (dk_at dksX3_behind_1 5 rfl rfl)
theorem dX3_behind_32 : decode cX3_behind 32 = .ok (.iconst 1, 1) := dk_4 (dk_at dksX3_behind_1 8 rfl rfl)
theorem dX3_behind_33 : decode cX3_behind 33 = .ok (.goto 4, 3) := dk_167 0 4 (dk_at dksX3_behind_1 9 rfl rfl)
theorem dX3_behind_36 : decode cX3_behind 36 = .ok (.iconst 0, 1) := dk_3 (dk_at dksX3_behind_1 12 rfl rfl)
theorem dX3_behind_37 : decode cX3_behind 37 = .ok (.iadd, 1) := dk_96 (dk_at dksX3_behind_1 13 rfl rfl)
theorem dX3_behind_38 : decode cX3_behind 38 = .ok (.istore_n 2, 1) := dk_61 (dk_at dksX3_behind_1 14 rfl rfl)
theorem dX3_behind_39 : decode cX3_behind 39 = .ok (.iinc 3 1, 3) := dk_132 3 1 (dk_at dksX3_behind_1 15 rfl rfl)
theorem dX3_behind_42 : decode cX3_behind 42 = .ok (.goto (-38), 3) := dk_167 255 218 (dk_at dksX3_behind_1 18 rfl rfl)
theorem dX3_behind_45 : decode cX3_behind 45 = .ok (.iload_n 2, 1) := dk_28 (dk_at dksX3_behind_1 21 rfl rfl)
theorem dX3_behind_46 : decode cX3_behind 46 = .ok (.ireturn, 1) := dk_172 (dk_at dksX3_behind_1 22 rfl rfl)
abbrev cX3_coming : ByteArray := prog_19_method_28_code
def yX3_coming : MethodName := ⟨RX3, "coming", "(I)I"⟩
def dkwX3_coming_0 : List UInt8 := [42, 16, 100, 27, 96, 182, 0, 216, 172]
abbrev dktX3_coming_0 : List UInt8 := dkwX3_coming_0 ++ []
theorem dksX3_coming_0 : cX3_coming.data.toList.drop 0 = dktX3_coming_0 := by decide +kernel
theorem dX3_coming_0 : decode cX3_coming 0 = .ok (.aload_n 0, 1) := dk_42 (dk_at dksX3_coming_0 0 rfl rfl)
theorem dX3_coming_1 : decode cX3_coming 1 = .ok (.bipush 100, 2) := dk_16 100 (dk_at dksX3_coming_0 1 rfl rfl)
theorem dX3_coming_3 : decode cX3_coming 3 = .ok (.iload_n 1, 1) := dk_27 (dk_at dksX3_coming_0 3 rfl rfl)
theorem dX3_coming_4 : decode cX3_coming 4 = .ok (.iadd, 1) := dk_96 (dk_at dksX3_coming_0 4 rfl rfl)
theorem dX3_coming_5 : decode cX3_coming 5 = .ok (.invokevirtual 216, 3) := dk_182 0 216 (dk_at dksX3_coming_0 5 rfl rfl)
theorem dX3_coming_8 : decode cX3_coming 8 = .ok (.ireturn, 1) := dk_172 (dk_at dksX3_coming_0 8 rfl rfl)
abbrev cX3_bitsKnown : ByteArray := prog_19_method_30_code
def yX3_bitsKnown : MethodName := ⟨RX3, "bitsKnown", "(I)I"⟩
def dkwX3_bitsKnown_0 : List UInt8 := [42, 180, 0, 7, 27, 46, 154, 0, 7, 3, 167, 0, 9, 42, 180, 0, 28, 27, 46, 172]
abbrev dktX3_bitsKnown_0 : List UInt8 := dkwX3_bitsKnown_0 ++ []
theorem dksX3_bitsKnown_0 : cX3_bitsKnown.data.toList.drop 0 = dktX3_bitsKnown_0 := by decide +kernel
theorem dX3_bitsKnown_0 : decode cX3_bitsKnown 0 = .ok (.aload_n 0, 1) := dk_42 (dk_at dksX3_bitsKnown_0 0 rfl rfl)
theorem dX3_bitsKnown_1 : decode cX3_bitsKnown 1 = .ok (.getfield 7, 3) := dk_180 0 7 (dk_at dksX3_bitsKnown_0 1 rfl rfl)
theorem dX3_bitsKnown_4 : decode cX3_bitsKnown 4 = .ok (.iload_n 1, 1) := dk_27 (dk_at dksX3_bitsKnown_0 4 rfl rfl)
theorem dX3_bitsKnown_5 : decode cX3_bitsKnown 5 = .ok (.iaload, 1) := dk_46 (dk_at dksX3_bitsKnown_0 5 rfl rfl)
theorem dX3_bitsKnown_6 : decode cX3_bitsKnown 6 = .ok (.ifCond .ne 7, 3) := dk_154 0 7 (dk_at dksX3_bitsKnown_0 6 rfl rfl)
theorem dX3_bitsKnown_9 : decode cX3_bitsKnown 9 = .ok (.iconst 0, 1) := dk_3 (dk_at dksX3_bitsKnown_0 9 rfl rfl)
theorem dX3_bitsKnown_10 : decode cX3_bitsKnown 10 = .ok (.goto 9, 3) := dk_167 0 9 (dk_at dksX3_bitsKnown_0 10 rfl rfl)
theorem dX3_bitsKnown_13 : decode cX3_bitsKnown 13 = .ok (.aload_n 0, 1) := dk_42 (dk_at dksX3_bitsKnown_0 13 rfl rfl)
theorem dX3_bitsKnown_14 : decode cX3_bitsKnown 14 = .ok (.getfield 28, 3) := dk_180 0 28 (dk_at dksX3_bitsKnown_0 14 rfl rfl)
theorem dX3_bitsKnown_17 : decode cX3_bitsKnown 17 = .ok (.iload_n 1, 1) := dk_27 (dk_at dksX3_bitsKnown_0 17 rfl rfl)
theorem dX3_bitsKnown_18 : decode cX3_bitsKnown 18 = .ok (.iaload, 1) := dk_46 (dk_at dksX3_bitsKnown_0 18 rfl rfl)
theorem dX3_bitsKnown_19 : decode cX3_bitsKnown 19 = .ok (.ireturn, 1) := dk_172 (dk_at dksX3_bitsKnown_0 19 rfl rfl)
abbrev cX3_person : ByteArray := prog_19_method_33_code
def yX3_person : MethodName := ⟨RX3, "person", "(II)I"⟩
def dkwX3_person_2 : List UInt8 := [42, 27, 28, 2, 182, 0, 231, 172]
abbrev dktX3_person_2 : List UInt8 := dkwX3_person_2 ++ []
def dkwX3_person_1 : List UInt8 := [4, 182, 0, 228, 154, 0, 6, 16, 254, 172, 42, 180, 0, 213, 16, 16, 160, 0, 8, 16, 253, 167, 0, 10]
abbrev dktX3_person_1 : List UInt8 := dkwX3_person_1 ++ dktX3_person_2
def dkwX3_person_0 : List UInt8 := [27, 133, 10, 20, 0, 164, 184, 0, 160, 153, 0, 11, 42, 28, 182, 0, 176, 154, 0, 5, 2, 172, 42, 28]
abbrev dktX3_person_0 : List UInt8 := dkwX3_person_0 ++ dktX3_person_1
theorem dksX3_person_0 : cX3_person.data.toList.drop 0 = dktX3_person_0 := by decide +kernel
theorem dksX3_person_1 : cX3_person.data.toList.drop 24 = dktX3_person_1 := dk_seg dksX3_person_0 24 rfl rfl
theorem dksX3_person_2 : cX3_person.data.toList.drop 48 = dktX3_person_2 := dk_seg dksX3_person_1 24 rfl rfl
theorem dX3_person_0 : decode cX3_person 0 = .ok (.iload_n 1, 1) := dk_27 (dk_at dksX3_person_0 0 rfl rfl)
theorem dX3_person_1 : decode cX3_person 1 = .ok (.i2l, 1) := dk_133 (dk_at dksX3_person_0 1 rfl rfl)
theorem dX3_person_2 : decode cX3_person 2 = .ok (.lconst 1, 1) := dk_10 (dk_at dksX3_person_0 2 rfl rfl)
theorem dX3_person_3 : decode cX3_person 3 = .ok (.ldc2_w 164, 3) := dk_20 0 164 (dk_at dksX3_person_0 3 rfl rfl)
theorem dX3_person_6 : decode cX3_person 6 = .ok (.invokestatic 160, 3) := dk_184 0 160 (dk_at dksX3_person_0 6 rfl rfl)
theorem dX3_person_9 : decode cX3_person 9 = .ok (.ifCond .eq 11, 3) := dk_153 0 11 (dk_at dksX3_person_0 9 rfl rfl)
theorem dX3_person_12 : decode cX3_person 12 = .ok (.aload_n 0, 1) := dk_42 (dk_at dksX3_person_0 12 rfl rfl)
theorem dX3_person_13 : decode cX3_person 13 = .ok (.iload_n 2, 1) := dk_28 (dk_at dksX3_person_0 13 rfl rfl)
theorem dX3_person_14 : decode cX3_person 14 = .ok (.invokevirtual 176, 3) := dk_182 0 176 (dk_at dksX3_person_0 14 rfl rfl)
theorem dX3_person_17 : decode cX3_person 17 = .ok (.ifCond .ne 5, 3) := dk_154 0 5 (dk_at dksX3_person_0 17 rfl rfl)
theorem dX3_person_20 : decode cX3_person 20 = .ok (.iconst (-1), 1) := dk_2 (dk_at dksX3_person_0 20 rfl rfl)
theorem dX3_person_21 : decode cX3_person 21 = .ok (.ireturn, 1) := dk_172 (dk_at dksX3_person_0 21 rfl rfl)
theorem dX3_person_22 : decode cX3_person 22 = .ok (.aload_n 0, 1) := dk_42 (dk_at dksX3_person_0 22 rfl rfl)
theorem dX3_person_23 : decode cX3_person 23 = .ok (.iload_n 2, 1) := dk_28 (dk_at dksX3_person_0 23 rfl rfl)
theorem dX3_person_24 : decode cX3_person 24 = .ok (.iconst 1, 1) := dk_4 (dk_at dksX3_person_1 0 rfl rfl)
theorem dX3_person_25 : decode cX3_person 25 = .ok (.invokevirtual 228, 3) := dk_182 0 228 (dk_at dksX3_person_1 1 rfl rfl)
theorem dX3_person_28 : decode cX3_person 28 = .ok (.ifCond .ne 6, 3) := dk_154 0 6 (dk_at dksX3_person_1 4 rfl rfl)
theorem dX3_person_31 : decode cX3_person 31 = .ok (.bipush (-2), 2) := dk_16 254 (dk_at dksX3_person_1 7 rfl rfl)
theorem dX3_person_33 : decode cX3_person 33 = .ok (.ireturn, 1) := dk_172 (dk_at dksX3_person_1 9 rfl rfl)
theorem dX3_person_34 : decode cX3_person 34 = .ok (.aload_n 0, 1) := dk_42 (dk_at dksX3_person_1 10 rfl rfl)
theorem dX3_person_35 : decode cX3_person 35 = .ok (.getfield 213, 3) := dk_180 0 213 (dk_at dksX3_person_1 11 rfl rfl)
theorem dX3_person_38 : decode cX3_person 38 = .ok (.bipush 16, 2) := dk_16 16 (dk_at dksX3_person_1 14 rfl rfl)
theorem dX3_person_40 : decode cX3_person 40 = .ok (.if_icmp .ne 8, 3) := dk_160 0 8 (dk_at dksX3_person_1 16 rfl rfl)
theorem dX3_person_43 : decode cX3_person 43 = .ok (.bipush (-3), 2) := dk_16 253 (dk_at dksX3_person_1 19 rfl rfl)
theorem dX3_person_45 : decode cX3_person 45 = .ok (.goto 10, 3) := dk_167 0 10 (dk_at dksX3_person_1 21 rfl rfl)
theorem dX3_person_48 : decode cX3_person 48 = .ok (.aload_n 0, 1) := dk_42 (dk_at dksX3_person_2 0 rfl rfl)
theorem dX3_person_49 : decode cX3_person 49 = .ok (.iload_n 1, 1) := dk_27 (dk_at dksX3_person_2 1 rfl rfl)
theorem dX3_person_50 : decode cX3_person 50 = .ok (.iload_n 2, 1) := dk_28 (dk_at dksX3_person_2 2 rfl rfl)
theorem dX3_person_51 : decode cX3_person 51 = .ok (.iconst (-1), 1) := dk_2 (dk_at dksX3_person_2 3 rfl rfl)
theorem dX3_person_52 : decode cX3_person 52 = .ok (.invokevirtual 231, 3) := dk_182 0 231 (dk_at dksX3_person_2 4 rfl rfl)
theorem dX3_person_55 : decode cX3_person 55 = .ok (.ireturn, 1) := dk_172 (dk_at dksX3_person_2 7 rfl rfl)
abbrev cX3_hasBeds : ByteArray := prog_19_method_29_code
def yX3_hasBeds : MethodName := ⟨RX3, "hasBeds", "(II)Z"⟩
def dkwX3_hasBeds_1 : List UInt8 := [182, 0, 222, 96, 28, 96, 42, 180, 0, 16, 27, 46, 163, 0, 7, 4, 167, 0, 4, 3, 172]
abbrev dktX3_hasBeds_1 : List UInt8 := dkwX3_hasBeds_1 ++ []
def dkwX3_hasBeds_0 : List UInt8 := [42, 180, 0, 7, 27, 46, 153, 0, 31, 42, 27, 182, 0, 216, 42, 27, 182, 0, 219, 100, 42, 27]
abbrev dktX3_hasBeds_0 : List UInt8 := dkwX3_hasBeds_0 ++ dktX3_hasBeds_1
theorem dksX3_hasBeds_0 : cX3_hasBeds.data.toList.drop 0 = dktX3_hasBeds_0 := by decide +kernel
theorem dksX3_hasBeds_1 : cX3_hasBeds.data.toList.drop 22 = dktX3_hasBeds_1 := dk_seg dksX3_hasBeds_0 22 rfl rfl
theorem dX3_hasBeds_0 : decode cX3_hasBeds 0 = .ok (.aload_n 0, 1) := dk_42 (dk_at dksX3_hasBeds_0 0 rfl rfl)
theorem dX3_hasBeds_1 : decode cX3_hasBeds 1 = .ok (.getfield 7, 3) := dk_180 0 7 (dk_at dksX3_hasBeds_0 1 rfl rfl)
theorem dX3_hasBeds_4 : decode cX3_hasBeds 4 = .ok (.iload_n 1, 1) := dk_27 (dk_at dksX3_hasBeds_0 4 rfl rfl)
theorem dX3_hasBeds_5 : decode cX3_hasBeds 5 = .ok (.iaload, 1) := dk_46 (dk_at dksX3_hasBeds_0 5 rfl rfl)
theorem dX3_hasBeds_6 : decode cX3_hasBeds 6 = .ok (.ifCond .eq 31, 3) := dk_153 0 31 (dk_at dksX3_hasBeds_0 6 rfl rfl)
theorem dX3_hasBeds_9 : decode cX3_hasBeds 9 = .ok (.aload_n 0, 1) := dk_42 (dk_at dksX3_hasBeds_0 9 rfl rfl)
theorem dX3_hasBeds_10 : decode cX3_hasBeds 10 = .ok (.iload_n 1, 1) := dk_27 (dk_at dksX3_hasBeds_0 10 rfl rfl)
theorem dX3_hasBeds_11 : decode cX3_hasBeds 11 = .ok (.invokevirtual 216, 3) := dk_182 0 216 (dk_at dksX3_hasBeds_0 11 rfl rfl)
theorem dX3_hasBeds_14 : decode cX3_hasBeds 14 = .ok (.aload_n 0, 1) := dk_42 (dk_at dksX3_hasBeds_0 14 rfl rfl)
theorem dX3_hasBeds_15 : decode cX3_hasBeds 15 = .ok (.iload_n 1, 1) := dk_27 (dk_at dksX3_hasBeds_0 15 rfl rfl)
theorem dX3_hasBeds_16 : decode cX3_hasBeds 16 = .ok (.invokevirtual 219, 3) := dk_182 0 219 (dk_at dksX3_hasBeds_0 16 rfl rfl)
theorem dX3_hasBeds_19 : decode cX3_hasBeds 19 = .ok (.isub, 1) := dk_100 (dk_at dksX3_hasBeds_0 19 rfl rfl)
theorem dX3_hasBeds_20 : decode cX3_hasBeds 20 = .ok (.aload_n 0, 1) := dk_42 (dk_at dksX3_hasBeds_0 20 rfl rfl)
theorem dX3_hasBeds_21 : decode cX3_hasBeds 21 = .ok (.iload_n 1, 1) := dk_27 (dk_at dksX3_hasBeds_0 21 rfl rfl)
theorem dX3_hasBeds_22 : decode cX3_hasBeds 22 = .ok (.invokevirtual 222, 3) := dk_182 0 222 (dk_at dksX3_hasBeds_1 0 rfl rfl)
theorem dX3_hasBeds_25 : decode cX3_hasBeds 25 = .ok (.iadd, 1) := dk_96 (dk_at dksX3_hasBeds_1 3 rfl rfl)
theorem dX3_hasBeds_26 : decode cX3_hasBeds 26 = .ok (.iload_n 2, 1) := dk_28 (dk_at dksX3_hasBeds_1 4 rfl rfl)
theorem dX3_hasBeds_27 : decode cX3_hasBeds 27 = .ok (.iadd, 1) := dk_96 (dk_at dksX3_hasBeds_1 5 rfl rfl)
theorem dX3_hasBeds_28 : decode cX3_hasBeds 28 = .ok (.aload_n 0, 1) := dk_42 (dk_at dksX3_hasBeds_1 6 rfl rfl)
theorem dX3_hasBeds_29 : decode cX3_hasBeds 29 = .ok (.getfield 16, 3) := dk_180 0 16 (dk_at dksX3_hasBeds_1 7 rfl rfl)
theorem dX3_hasBeds_32 : decode cX3_hasBeds 32 = .ok (.iload_n 1, 1) := dk_27 (dk_at dksX3_hasBeds_1 10 rfl rfl)
theorem dX3_hasBeds_33 : decode cX3_hasBeds 33 = .ok (.iaload, 1) := dk_46 (dk_at dksX3_hasBeds_1 11 rfl rfl)
theorem dX3_hasBeds_34 : decode cX3_hasBeds 34 = .ok (.if_icmp .gt 7, 3) := dk_163 0 7 (dk_at dksX3_hasBeds_1 12 rfl rfl)
theorem dX3_hasBeds_37 : decode cX3_hasBeds 37 = .ok (.iconst 1, 1) := dk_4 (dk_at dksX3_hasBeds_1 15 rfl rfl)
theorem dX3_hasBeds_38 : decode cX3_hasBeds 38 = .ok (.goto 4, 3) := dk_167 0 4 (dk_at dksX3_hasBeds_1 16 rfl rfl)
theorem dX3_hasBeds_41 : decode cX3_hasBeds 41 = .ok (.iconst 0, 1) := dk_3 (dk_at dksX3_hasBeds_1 19 rfl rfl)
theorem dX3_hasBeds_42 : decode cX3_hasBeds 42 = .ok (.ireturn, 1) := dk_172 (dk_at dksX3_hasBeds_1 20 rfl rfl)
abbrev cX3_comes : ByteArray := prog_19_method_32_code
def yX3_comes : MethodName := ⟨RX3, "comes", "(III)I"⟩
def dkwX3_comes_3 : List UInt8 := [181, 0, 213, 42, 180, 0, 213, 4, 100, 172]
abbrev dktX3_comes_3 : List UInt8 := dkwX3_comes_3 ++ []
def dkwX3_comes_2 : List UInt8 := [180, 0, 213, 3, 84, 42, 180, 0, 71, 42, 180, 0, 213, 2, 79, 42, 89, 180, 0, 213, 4, 96]
abbrev dktX3_comes_2 : List UInt8 := dkwX3_comes_2 ++ dktX3_comes_3
def dkwX3_comes_1 : List UInt8 := [42, 180, 0, 213, 28, 79, 42, 180, 0, 65, 42, 180, 0, 213, 16, 252, 79, 42, 180, 0, 68, 42]
abbrev dktX3_comes_1 : List UInt8 := dkwX3_comes_1 ++ dktX3_comes_2
def dkwX3_comes_0 : List UInt8 := [42, 180, 0, 56, 42, 180, 0, 213, 27, 79, 42, 180, 0, 59, 42, 180, 0, 213, 29, 79, 42, 180, 0, 62]
abbrev dktX3_comes_0 : List UInt8 := dkwX3_comes_0 ++ dktX3_comes_1
theorem dksX3_comes_0 : cX3_comes.data.toList.drop 0 = dktX3_comes_0 := by decide +kernel
theorem dksX3_comes_1 : cX3_comes.data.toList.drop 24 = dktX3_comes_1 := dk_seg dksX3_comes_0 24 rfl rfl
theorem dksX3_comes_2 : cX3_comes.data.toList.drop 46 = dktX3_comes_2 := dk_seg dksX3_comes_1 22 rfl rfl
theorem dksX3_comes_3 : cX3_comes.data.toList.drop 68 = dktX3_comes_3 := dk_seg dksX3_comes_2 22 rfl rfl
theorem dX3_comes_0 : decode cX3_comes 0 = .ok (.aload_n 0, 1) := dk_42 (dk_at dksX3_comes_0 0 rfl rfl)
theorem dX3_comes_1 : decode cX3_comes 1 = .ok (.getfield 56, 3) := dk_180 0 56 (dk_at dksX3_comes_0 1 rfl rfl)
theorem dX3_comes_4 : decode cX3_comes 4 = .ok (.aload_n 0, 1) := dk_42 (dk_at dksX3_comes_0 4 rfl rfl)
theorem dX3_comes_5 : decode cX3_comes 5 = .ok (.getfield 213, 3) := dk_180 0 213 (dk_at dksX3_comes_0 5 rfl rfl)
theorem dX3_comes_8 : decode cX3_comes 8 = .ok (.iload_n 1, 1) := dk_27 (dk_at dksX3_comes_0 8 rfl rfl)
theorem dX3_comes_9 : decode cX3_comes 9 = .ok (.iastore, 1) := dk_79 (dk_at dksX3_comes_0 9 rfl rfl)
theorem dX3_comes_10 : decode cX3_comes 10 = .ok (.aload_n 0, 1) := dk_42 (dk_at dksX3_comes_0 10 rfl rfl)
theorem dX3_comes_11 : decode cX3_comes 11 = .ok (.getfield 59, 3) := dk_180 0 59 (dk_at dksX3_comes_0 11 rfl rfl)
theorem dX3_comes_14 : decode cX3_comes 14 = .ok (.aload_n 0, 1) := dk_42 (dk_at dksX3_comes_0 14 rfl rfl)
theorem dX3_comes_15 : decode cX3_comes 15 = .ok (.getfield 213, 3) := dk_180 0 213 (dk_at dksX3_comes_0 15 rfl rfl)
theorem dX3_comes_18 : decode cX3_comes 18 = .ok (.iload_n 3, 1) := dk_29 (dk_at dksX3_comes_0 18 rfl rfl)
theorem dX3_comes_19 : decode cX3_comes 19 = .ok (.iastore, 1) := dk_79 (dk_at dksX3_comes_0 19 rfl rfl)
theorem dX3_comes_20 : decode cX3_comes 20 = .ok (.aload_n 0, 1) := dk_42 (dk_at dksX3_comes_0 20 rfl rfl)
theorem dX3_comes_21 : decode cX3_comes 21 = .ok (.getfield 62, 3) := dk_180 0 62 (dk_at dksX3_comes_0 21 rfl rfl)
theorem dX3_comes_24 : decode cX3_comes 24 = .ok (.aload_n 0, 1) := dk_42 (dk_at dksX3_comes_1 0 rfl rfl)
theorem dX3_comes_25 : decode cX3_comes 25 = .ok (.getfield 213, 3) := dk_180 0 213 (dk_at dksX3_comes_1 1 rfl rfl)
theorem dX3_comes_28 : decode cX3_comes 28 = .ok (.iload_n 2, 1) := dk_28 (dk_at dksX3_comes_1 4 rfl rfl)
theorem dX3_comes_29 : decode cX3_comes 29 = .ok (.iastore, 1) := dk_79 (dk_at dksX3_comes_1 5 rfl rfl)
theorem dX3_comes_30 : decode cX3_comes 30 = .ok (.aload_n 0, 1) := dk_42 (dk_at dksX3_comes_1 6 rfl rfl)
theorem dX3_comes_31 : decode cX3_comes 31 = .ok (.getfield 65, 3) := dk_180 0 65 (dk_at dksX3_comes_1 7 rfl rfl)
theorem dX3_comes_34 : decode cX3_comes 34 = .ok (.aload_n 0, 1) := dk_42 (dk_at dksX3_comes_1 10 rfl rfl)
theorem dX3_comes_35 : decode cX3_comes 35 = .ok (.getfield 213, 3) := dk_180 0 213 (dk_at dksX3_comes_1 11 rfl rfl)
theorem dX3_comes_38 : decode cX3_comes 38 = .ok (.bipush (-4), 2) := dk_16 252 (dk_at dksX3_comes_1 14 rfl rfl)
theorem dX3_comes_40 : decode cX3_comes 40 = .ok (.iastore, 1) := dk_79 (dk_at dksX3_comes_1 16 rfl rfl)
theorem dX3_comes_41 : decode cX3_comes 41 = .ok (.aload_n 0, 1) := dk_42 (dk_at dksX3_comes_1 17 rfl rfl)
theorem dX3_comes_42 : decode cX3_comes 42 = .ok (.getfield 68, 3) := dk_180 0 68 (dk_at dksX3_comes_1 18 rfl rfl)
theorem dX3_comes_45 : decode cX3_comes 45 = .ok (.aload_n 0, 1) := dk_42 (dk_at dksX3_comes_1 21 rfl rfl)
theorem dX3_comes_46 : decode cX3_comes 46 = .ok (.getfield 213, 3) := dk_180 0 213 (dk_at dksX3_comes_2 0 rfl rfl)
theorem dX3_comes_49 : decode cX3_comes 49 = .ok (.iconst 0, 1) := dk_3 (dk_at dksX3_comes_2 3 rfl rfl)
theorem dX3_comes_50 : decode cX3_comes 50 = .ok (.bastore, 1) := dk_84 (dk_at dksX3_comes_2 4 rfl rfl)
theorem dX3_comes_51 : decode cX3_comes 51 = .ok (.aload_n 0, 1) := dk_42 (dk_at dksX3_comes_2 5 rfl rfl)
theorem dX3_comes_52 : decode cX3_comes 52 = .ok (.getfield 71, 3) := dk_180 0 71 (dk_at dksX3_comes_2 6 rfl rfl)
theorem dX3_comes_55 : decode cX3_comes 55 = .ok (.aload_n 0, 1) := dk_42 (dk_at dksX3_comes_2 9 rfl rfl)
theorem dX3_comes_56 : decode cX3_comes 56 = .ok (.getfield 213, 3) := dk_180 0 213 (dk_at dksX3_comes_2 10 rfl rfl)
theorem dX3_comes_59 : decode cX3_comes 59 = .ok (.iconst (-1), 1) := dk_2 (dk_at dksX3_comes_2 13 rfl rfl)
theorem dX3_comes_60 : decode cX3_comes 60 = .ok (.iastore, 1) := dk_79 (dk_at dksX3_comes_2 14 rfl rfl)
theorem dX3_comes_61 : decode cX3_comes 61 = .ok (.aload_n 0, 1) := dk_42 (dk_at dksX3_comes_2 15 rfl rfl)
theorem dX3_comes_62 : decode cX3_comes 62 = .ok (.dup, 1) := dk_89 (dk_at dksX3_comes_2 16 rfl rfl)
theorem dX3_comes_63 : decode cX3_comes 63 = .ok (.getfield 213, 3) := dk_180 0 213 (dk_at dksX3_comes_2 17 rfl rfl)
theorem dX3_comes_66 : decode cX3_comes 66 = .ok (.iconst 1, 1) := dk_4 (dk_at dksX3_comes_2 20 rfl rfl)
theorem dX3_comes_67 : decode cX3_comes 67 = .ok (.iadd, 1) := dk_96 (dk_at dksX3_comes_2 21 rfl rfl)
theorem dX3_comes_68 : decode cX3_comes 68 = .ok (.putfield 213, 3) := dk_181 0 213 (dk_at dksX3_comes_3 0 rfl rfl)
theorem dX3_comes_71 : decode cX3_comes 71 = .ok (.aload_n 0, 1) := dk_42 (dk_at dksX3_comes_3 3 rfl rfl)
theorem dX3_comes_72 : decode cX3_comes 72 = .ok (.getfield 213, 3) := dk_180 0 213 (dk_at dksX3_comes_3 4 rfl rfl)
theorem dX3_comes_75 : decode cX3_comes 75 = .ok (.iconst 1, 1) := dk_4 (dk_at dksX3_comes_3 7 rfl rfl)
theorem dX3_comes_76 : decode cX3_comes 76 = .ok (.isub, 1) := dk_100 (dk_at dksX3_comes_3 8 rfl rfl)
theorem dX3_comes_77 : decode cX3_comes 77 = .ok (.ireturn, 1) := dk_172 (dk_at dksX3_comes_3 9 rfl rfl)
abbrev cX3_child : ByteArray := prog_19_method_35_code
def yX3_child : MethodName := ⟨RX3, "child", "(II)I"⟩
def dkwX3_child_3 : List UInt8 := [27, 42, 180, 0, 62, 28, 46, 28, 182, 0, 231, 172]
abbrev dktX3_child_3 : List UInt8 := dkwX3_child_3 ++ []
def dkwX3_child_2 : List UInt8 := [182, 0, 228, 154, 0, 6, 16, 254, 172, 42, 180, 0, 213, 16, 16, 160, 0, 8, 16, 253, 167, 0, 15, 42]
abbrev dktX3_child_2 : List UInt8 := dkwX3_child_2 ++ dktX3_child_3
def dkwX3_child_1 : List UInt8 := [28, 46, 155, 0, 5, 2, 172, 42, 28, 182, 0, 238, 153, 0, 17, 42, 42, 180, 0, 62, 28, 46, 4]
abbrev dktX3_child_1 : List UInt8 := dkwX3_child_1 ++ dktX3_child_2
def dkwX3_child_0 : List UInt8 := [27, 133, 10, 20, 0, 164, 184, 0, 160, 153, 0, 20, 42, 28, 182, 0, 235, 153, 0, 12, 42, 180, 0, 59]
abbrev dktX3_child_0 : List UInt8 := dkwX3_child_0 ++ dktX3_child_1
theorem dksX3_child_0 : cX3_child.data.toList.drop 0 = dktX3_child_0 := by decide +kernel
theorem dksX3_child_1 : cX3_child.data.toList.drop 24 = dktX3_child_1 := dk_seg dksX3_child_0 24 rfl rfl
theorem dksX3_child_2 : cX3_child.data.toList.drop 47 = dktX3_child_2 := dk_seg dksX3_child_1 23 rfl rfl
theorem dksX3_child_3 : cX3_child.data.toList.drop 71 = dktX3_child_3 := dk_seg dksX3_child_2 24 rfl rfl
theorem dX3_child_0 : decode cX3_child 0 = .ok (.iload_n 1, 1) := dk_27 (dk_at dksX3_child_0 0 rfl rfl)
theorem dX3_child_1 : decode cX3_child 1 = .ok (.i2l, 1) := dk_133 (dk_at dksX3_child_0 1 rfl rfl)
theorem dX3_child_2 : decode cX3_child 2 = .ok (.lconst 1, 1) := dk_10 (dk_at dksX3_child_0 2 rfl rfl)
theorem dX3_child_3 : decode cX3_child 3 = .ok (.ldc2_w 164, 3) := dk_20 0 164 (dk_at dksX3_child_0 3 rfl rfl)
theorem dX3_child_6 : decode cX3_child 6 = .ok (.invokestatic 160, 3) := dk_184 0 160 (dk_at dksX3_child_0 6 rfl rfl)
theorem dX3_child_9 : decode cX3_child 9 = .ok (.ifCond .eq 20, 3) := dk_153 0 20 (dk_at dksX3_child_0 9 rfl rfl)
theorem dX3_child_12 : decode cX3_child 12 = .ok (.aload_n 0, 1) := dk_42 (dk_at dksX3_child_0 12 rfl rfl)
theorem dX3_child_13 : decode cX3_child 13 = .ok (.iload_n 2, 1) := dk_28 (dk_at dksX3_child_0 13 rfl rfl)
theorem dX3_child_14 : decode cX3_child 14 = .ok (.invokevirtual 235, 3) := dk_182 0 235 (dk_at dksX3_child_0 14 rfl rfl)
theorem dX3_child_17 : decode cX3_child 17 = .ok (.ifCond .eq 12, 3) := dk_153 0 12 (dk_at dksX3_child_0 17 rfl rfl)
theorem dX3_child_20 : decode cX3_child 20 = .ok (.aload_n 0, 1) := dk_42 (dk_at dksX3_child_0 20 rfl rfl)
theorem dX3_child_21 : decode cX3_child 21 = .ok (.getfield 59, 3) := dk_180 0 59 (dk_at dksX3_child_0 21 rfl rfl)
theorem dX3_child_24 : decode cX3_child 24 = .ok (.iload_n 2, 1) := dk_28 (dk_at dksX3_child_1 0 rfl rfl)
theorem dX3_child_25 : decode cX3_child 25 = .ok (.iaload, 1) := dk_46 (dk_at dksX3_child_1 1 rfl rfl)
theorem dX3_child_26 : decode cX3_child 26 = .ok (.ifCond .lt 5, 3) := dk_155 0 5 (dk_at dksX3_child_1 2 rfl rfl)
theorem dX3_child_29 : decode cX3_child 29 = .ok (.iconst (-1), 1) := dk_2 (dk_at dksX3_child_1 5 rfl rfl)
theorem dX3_child_30 : decode cX3_child 30 = .ok (.ireturn, 1) := dk_172 (dk_at dksX3_child_1 6 rfl rfl)
theorem dX3_child_31 : decode cX3_child 31 = .ok (.aload_n 0, 1) := dk_42 (dk_at dksX3_child_1 7 rfl rfl)
theorem dX3_child_32 : decode cX3_child 32 = .ok (.iload_n 2, 1) := dk_28 (dk_at dksX3_child_1 8 rfl rfl)
theorem dX3_child_33 : decode cX3_child 33 = .ok (.invokevirtual 238, 3) := dk_182 0 238 (dk_at dksX3_child_1 9 rfl rfl)
theorem dX3_child_36 : decode cX3_child 36 = .ok (.ifCond .eq 17, 3) := dk_153 0 17 (dk_at dksX3_child_1 12 rfl rfl)
theorem dX3_child_39 : decode cX3_child 39 = .ok (.aload_n 0, 1) := dk_42 (dk_at dksX3_child_1 15 rfl rfl)
theorem dX3_child_40 : decode cX3_child 40 = .ok (.aload_n 0, 1) := dk_42 (dk_at dksX3_child_1 16 rfl rfl)
theorem dX3_child_41 : decode cX3_child 41 = .ok (.getfield 62, 3) := dk_180 0 62 (dk_at dksX3_child_1 17 rfl rfl)
theorem dX3_child_44 : decode cX3_child 44 = .ok (.iload_n 2, 1) := dk_28 (dk_at dksX3_child_1 20 rfl rfl)
theorem dX3_child_45 : decode cX3_child 45 = .ok (.iaload, 1) := dk_46 (dk_at dksX3_child_1 21 rfl rfl)
theorem dX3_child_46 : decode cX3_child 46 = .ok (.iconst 1, 1) := dk_4 (dk_at dksX3_child_1 22 rfl rfl)
theorem dX3_child_47 : decode cX3_child 47 = .ok (.invokevirtual 228, 3) := dk_182 0 228 (dk_at dksX3_child_2 0 rfl rfl)
theorem dX3_child_50 : decode cX3_child 50 = .ok (.ifCond .ne 6, 3) := dk_154 0 6 (dk_at dksX3_child_2 3 rfl rfl)
theorem dX3_child_53 : decode cX3_child 53 = .ok (.bipush (-2), 2) := dk_16 254 (dk_at dksX3_child_2 6 rfl rfl)
theorem dX3_child_55 : decode cX3_child 55 = .ok (.ireturn, 1) := dk_172 (dk_at dksX3_child_2 8 rfl rfl)
theorem dX3_child_56 : decode cX3_child 56 = .ok (.aload_n 0, 1) := dk_42 (dk_at dksX3_child_2 9 rfl rfl)
theorem dX3_child_57 : decode cX3_child 57 = .ok (.getfield 213, 3) := dk_180 0 213 (dk_at dksX3_child_2 10 rfl rfl)
theorem dX3_child_60 : decode cX3_child 60 = .ok (.bipush 16, 2) := dk_16 16 (dk_at dksX3_child_2 13 rfl rfl)
theorem dX3_child_62 : decode cX3_child 62 = .ok (.if_icmp .ne 8, 3) := dk_160 0 8 (dk_at dksX3_child_2 15 rfl rfl)
theorem dX3_child_65 : decode cX3_child 65 = .ok (.bipush (-3), 2) := dk_16 253 (dk_at dksX3_child_2 18 rfl rfl)
theorem dX3_child_67 : decode cX3_child 67 = .ok (.goto 15, 3) := dk_167 0 15 (dk_at dksX3_child_2 20 rfl rfl)
theorem dX3_child_70 : decode cX3_child 70 = .ok (.aload_n 0, 1) := dk_42 (dk_at dksX3_child_2 23 rfl rfl)
theorem dX3_child_71 : decode cX3_child 71 = .ok (.iload_n 1, 1) := dk_27 (dk_at dksX3_child_3 0 rfl rfl)
theorem dX3_child_72 : decode cX3_child 72 = .ok (.aload_n 0, 1) := dk_42 (dk_at dksX3_child_3 1 rfl rfl)
theorem dX3_child_73 : decode cX3_child 73 = .ok (.getfield 62, 3) := dk_180 0 62 (dk_at dksX3_child_3 2 rfl rfl)
theorem dX3_child_76 : decode cX3_child 76 = .ok (.iload_n 2, 1) := dk_28 (dk_at dksX3_child_3 5 rfl rfl)
theorem dX3_child_77 : decode cX3_child 77 = .ok (.iaload, 1) := dk_46 (dk_at dksX3_child_3 6 rfl rfl)
theorem dX3_child_78 : decode cX3_child 78 = .ok (.iload_n 2, 1) := dk_28 (dk_at dksX3_child_3 7 rfl rfl)
theorem dX3_child_79 : decode cX3_child 79 = .ok (.invokevirtual 231, 3) := dk_182 0 231 (dk_at dksX3_child_3 8 rfl rfl)
theorem dX3_child_82 : decode cX3_child 82 = .ok (.ireturn, 1) := dk_172 (dk_at dksX3_child_3 11 rfl rfl)
abbrev cX3_isPerson : ByteArray := prog_19_method_25_code
def yX3_isPerson : MethodName := ⟨RX3, "isPerson", "(I)Z"⟩
def dkwX3_isPerson_0 : List UInt8 := [27, 133, 9, 42, 180, 0, 213, 4, 100, 133, 184, 0, 160, 172]
abbrev dktX3_isPerson_0 : List UInt8 := dkwX3_isPerson_0 ++ []
theorem dksX3_isPerson_0 : cX3_isPerson.data.toList.drop 0 = dktX3_isPerson_0 := by decide +kernel
theorem dX3_isPerson_0 : decode cX3_isPerson 0 = .ok (.iload_n 1, 1) := dk_27 (dk_at dksX3_isPerson_0 0 rfl rfl)
theorem dX3_isPerson_1 : decode cX3_isPerson 1 = .ok (.i2l, 1) := dk_133 (dk_at dksX3_isPerson_0 1 rfl rfl)
theorem dX3_isPerson_2 : decode cX3_isPerson 2 = .ok (.lconst 0, 1) := dk_9 (dk_at dksX3_isPerson_0 2 rfl rfl)
theorem dX3_isPerson_3 : decode cX3_isPerson 3 = .ok (.aload_n 0, 1) := dk_42 (dk_at dksX3_isPerson_0 3 rfl rfl)
theorem dX3_isPerson_4 : decode cX3_isPerson 4 = .ok (.getfield 213, 3) := dk_180 0 213 (dk_at dksX3_isPerson_0 4 rfl rfl)
theorem dX3_isPerson_7 : decode cX3_isPerson 7 = .ok (.iconst 1, 1) := dk_4 (dk_at dksX3_isPerson_0 7 rfl rfl)
theorem dX3_isPerson_8 : decode cX3_isPerson 8 = .ok (.isub, 1) := dk_100 (dk_at dksX3_isPerson_0 8 rfl rfl)
theorem dX3_isPerson_9 : decode cX3_isPerson 9 = .ok (.i2l, 1) := dk_133 (dk_at dksX3_isPerson_0 9 rfl rfl)
theorem dX3_isPerson_10 : decode cX3_isPerson 10 = .ok (.invokestatic 160, 3) := dk_184 0 160 (dk_at dksX3_isPerson_0 10 rfl rfl)
theorem dX3_isPerson_13 : decode cX3_isPerson 13 = .ok (.ireturn, 1) := dk_172 (dk_at dksX3_isPerson_0 13 rfl rfl)
abbrev cX3_isAt : ByteArray := prog_19_method_34_code
def yX3_isAt : MethodName := ⟨RX3, "isAt", "(I)Z"⟩
def dkwX3_isAt_0 : List UInt8 := [42, 180, 0, 62, 27, 46, 16, 16, 162, 0, 7, 4, 167, 0, 4, 3, 172]
abbrev dktX3_isAt_0 : List UInt8 := dkwX3_isAt_0 ++ []
theorem dksX3_isAt_0 : cX3_isAt.data.toList.drop 0 = dktX3_isAt_0 := by decide +kernel
theorem dX3_isAt_0 : decode cX3_isAt 0 = .ok (.aload_n 0, 1) := dk_42 (dk_at dksX3_isAt_0 0 rfl rfl)
theorem dX3_isAt_1 : decode cX3_isAt 1 = .ok (.getfield 62, 3) := dk_180 0 62 (dk_at dksX3_isAt_0 1 rfl rfl)
theorem dX3_isAt_4 : decode cX3_isAt 4 = .ok (.iload_n 1, 1) := dk_27 (dk_at dksX3_isAt_0 4 rfl rfl)
theorem dX3_isAt_5 : decode cX3_isAt 5 = .ok (.iaload, 1) := dk_46 (dk_at dksX3_isAt_0 5 rfl rfl)
theorem dX3_isAt_6 : decode cX3_isAt 6 = .ok (.bipush 16, 2) := dk_16 16 (dk_at dksX3_isAt_0 6 rfl rfl)
theorem dX3_isAt_8 : decode cX3_isAt 8 = .ok (.if_icmp .ge 7, 3) := dk_162 0 7 (dk_at dksX3_isAt_0 8 rfl rfl)
theorem dX3_isAt_11 : decode cX3_isAt 11 = .ok (.iconst 1, 1) := dk_4 (dk_at dksX3_isAt_0 11 rfl rfl)
theorem dX3_isAt_12 : decode cX3_isAt 12 = .ok (.goto 4, 3) := dk_167 0 4 (dk_at dksX3_isAt_0 12 rfl rfl)
theorem dX3_isAt_15 : decode cX3_isAt 15 = .ok (.iconst 0, 1) := dk_3 (dk_at dksX3_isAt_0 15 rfl rfl)
theorem dX3_isAt_16 : decode cX3_isAt 16 = .ok (.ireturn, 1) := dk_172 (dk_at dksX3_isAt_0 16 rfl rfl)
abbrev cX3_where : ByteArray := prog_19_method_36_code
def yX3_where : MethodName := ⟨RX3, "where", "(I)I"⟩
def dkwX3_where_0 : List UInt8 := [42, 27, 182, 0, 235, 153, 0, 12, 42, 180, 0, 62, 27, 46, 167, 0, 4, 2, 172]
abbrev dktX3_where_0 : List UInt8 := dkwX3_where_0 ++ []
theorem dksX3_where_0 : cX3_where.data.toList.drop 0 = dktX3_where_0 := by decide +kernel
theorem dX3_where_0 : decode cX3_where 0 = .ok (.aload_n 0, 1) := dk_42 (dk_at dksX3_where_0 0 rfl rfl)
theorem dX3_where_1 : decode cX3_where 1 = .ok (.iload_n 1, 1) := dk_27 (dk_at dksX3_where_0 1 rfl rfl)
theorem dX3_where_2 : decode cX3_where 2 = .ok (.invokevirtual 235, 3) := dk_182 0 235 (dk_at dksX3_where_0 2 rfl rfl)
theorem dX3_where_5 : decode cX3_where 5 = .ok (.ifCond .eq 12, 3) := dk_153 0 12 (dk_at dksX3_where_0 5 rfl rfl)
theorem dX3_where_8 : decode cX3_where 8 = .ok (.aload_n 0, 1) := dk_42 (dk_at dksX3_where_0 8 rfl rfl)
theorem dX3_where_9 : decode cX3_where 9 = .ok (.getfield 62, 3) := dk_180 0 62 (dk_at dksX3_where_0 9 rfl rfl)
theorem dX3_where_12 : decode cX3_where 12 = .ok (.iload_n 1, 1) := dk_27 (dk_at dksX3_where_0 12 rfl rfl)
theorem dX3_where_13 : decode cX3_where 13 = .ok (.iaload, 1) := dk_46 (dk_at dksX3_where_0 13 rfl rfl)
theorem dX3_where_14 : decode cX3_where 14 = .ok (.goto 4, 3) := dk_167 0 4 (dk_at dksX3_where_0 14 rfl rfl)
theorem dX3_where_17 : decode cX3_where 17 = .ok (.iconst (-1), 1) := dk_2 (dk_at dksX3_where_0 17 rfl rfl)
theorem dX3_where_18 : decode cX3_where 18 = .ok (.ireturn, 1) := dk_172 (dk_at dksX3_where_0 18 rfl rfl)
abbrev cX3_told : ByteArray := prog_19_method_38_code
def yX3_told : MethodName := ⟨RX3, "told", "(II)I"⟩
def dkwX3_told_5 : List UInt8 := [184, 0, 160, 153, 0, 12, 42, 180, 0, 65, 27, 46, 167, 0, 5, 16, 252, 172, 2, 172]
abbrev dktX3_told_5 : List UInt8 := dkwX3_told_5 ++ []
def dkwX3_told_4 : List UInt8 := [27, 51, 153, 0, 7, 4, 167, 0, 4, 3, 172, 42, 180, 0, 62, 27, 46, 133, 20, 0, 244, 20, 0, 246]
abbrev dktX3_told_4 : List UInt8 := dkwX3_told_4 ++ dktX3_told_5
def dkwX3_told_3 : List UInt8 := [180, 0, 59, 27, 46, 172, 42, 27, 182, 0, 241, 172, 42, 27, 182, 0, 238, 153, 0, 16, 42, 180, 0, 68]
abbrev dktX3_told_3 : List UInt8 := dkwX3_told_3 ++ dktX3_told_4
def dkwX3_told_2 : List UInt8 := [42, 180, 0, 56, 27, 46, 172, 42, 180, 0, 59, 27, 46, 156, 0, 8, 16, 252, 167, 0, 9, 42]
abbrev dktX3_told_2 : List UInt8 := dkwX3_told_2 ++ dktX3_told_3
def dkwX3_told_1 : List UInt8 := [170, 0, 0, 0, 121, 0, 0, 0, 0, 0, 0, 0, 4, 0, 0, 0, 33, 0, 0, 0, 40, 0, 0, 0, 61, 0, 0, 0, 67, 0, 0, 0, 90]
abbrev dktX3_told_1 : List UInt8 := dkwX3_told_1 ++ dktX3_told_2
def dkwX3_told_0 : List UInt8 := [42, 27, 182, 0, 235, 154, 0, 5, 2, 172, 28]
abbrev dktX3_told_0 : List UInt8 := dkwX3_told_0 ++ dktX3_told_1
theorem dksX3_told_0 : cX3_told.data.toList.drop 0 = dktX3_told_0 := by decide +kernel
theorem dksX3_told_1 : cX3_told.data.toList.drop 11 = dktX3_told_1 := dk_seg dksX3_told_0 11 rfl rfl
theorem dksX3_told_2 : cX3_told.data.toList.drop 44 = dktX3_told_2 := dk_seg dksX3_told_1 33 rfl rfl
theorem dksX3_told_3 : cX3_told.data.toList.drop 66 = dktX3_told_3 := dk_seg dksX3_told_2 22 rfl rfl
theorem dksX3_told_4 : cX3_told.data.toList.drop 90 = dktX3_told_4 := dk_seg dksX3_told_3 24 rfl rfl
theorem dksX3_told_5 : cX3_told.data.toList.drop 114 = dktX3_told_5 := dk_seg dksX3_told_4 24 rfl rfl
theorem dX3_told_0 : decode cX3_told 0 = .ok (.aload_n 0, 1) := dk_42 (dk_at dksX3_told_0 0 rfl rfl)
theorem dX3_told_1 : decode cX3_told 1 = .ok (.iload_n 1, 1) := dk_27 (dk_at dksX3_told_0 1 rfl rfl)
theorem dX3_told_2 : decode cX3_told 2 = .ok (.invokevirtual 235, 3) := dk_182 0 235 (dk_at dksX3_told_0 2 rfl rfl)
theorem dX3_told_5 : decode cX3_told 5 = .ok (.ifCond .ne 5, 3) := dk_154 0 5 (dk_at dksX3_told_0 5 rfl rfl)
theorem dX3_told_8 : decode cX3_told 8 = .ok (.iconst (-1), 1) := dk_2 (dk_at dksX3_told_0 8 rfl rfl)
theorem dX3_told_9 : decode cX3_told 9 = .ok (.ireturn, 1) := dk_172 (dk_at dksX3_told_0 9 rfl rfl)
theorem dX3_told_10 : decode cX3_told 10 = .ok (.iload_n 2, 1) := dk_28 (dk_at dksX3_told_0 10 rfl rfl)
theorem dX3_told_11 : decode cX3_told 11 = .ok (.tableswitch 121 0 4 #[33, 40, 61, 67, 90], 33) := by decide +kernel
theorem dX3_told_44 : decode cX3_told 44 = .ok (.aload_n 0, 1) := dk_42 (dk_at dksX3_told_2 0 rfl rfl)
theorem dX3_told_45 : decode cX3_told 45 = .ok (.getfield 56, 3) := dk_180 0 56 (dk_at dksX3_told_2 1 rfl rfl)
theorem dX3_told_48 : decode cX3_told 48 = .ok (.iload_n 1, 1) := dk_27 (dk_at dksX3_told_2 4 rfl rfl)
theorem dX3_told_49 : decode cX3_told 49 = .ok (.iaload, 1) := dk_46 (dk_at dksX3_told_2 5 rfl rfl)
theorem dX3_told_50 : decode cX3_told 50 = .ok (.ireturn, 1) := dk_172 (dk_at dksX3_told_2 6 rfl rfl)
theorem dX3_told_51 : decode cX3_told 51 = .ok (.aload_n 0, 1) := dk_42 (dk_at dksX3_told_2 7 rfl rfl)
theorem dX3_told_52 : decode cX3_told 52 = .ok (.getfield 59, 3) := dk_180 0 59 (dk_at dksX3_told_2 8 rfl rfl)
theorem dX3_told_55 : decode cX3_told 55 = .ok (.iload_n 1, 1) := dk_27 (dk_at dksX3_told_2 11 rfl rfl)
theorem dX3_told_56 : decode cX3_told 56 = .ok (.iaload, 1) := dk_46 (dk_at dksX3_told_2 12 rfl rfl)
theorem dX3_told_57 : decode cX3_told 57 = .ok (.ifCond .ge 8, 3) := dk_156 0 8 (dk_at dksX3_told_2 13 rfl rfl)
theorem dX3_told_60 : decode cX3_told 60 = .ok (.bipush (-4), 2) := dk_16 252 (dk_at dksX3_told_2 16 rfl rfl)
theorem dX3_told_62 : decode cX3_told 62 = .ok (.goto 9, 3) := dk_167 0 9 (dk_at dksX3_told_2 18 rfl rfl)
theorem dX3_told_65 : decode cX3_told 65 = .ok (.aload_n 0, 1) := dk_42 (dk_at dksX3_told_2 21 rfl rfl)
theorem dX3_told_66 : decode cX3_told 66 = .ok (.getfield 59, 3) := dk_180 0 59 (dk_at dksX3_told_3 0 rfl rfl)
theorem dX3_told_69 : decode cX3_told 69 = .ok (.iload_n 1, 1) := dk_27 (dk_at dksX3_told_3 3 rfl rfl)
theorem dX3_told_70 : decode cX3_told 70 = .ok (.iaload, 1) := dk_46 (dk_at dksX3_told_3 4 rfl rfl)
theorem dX3_told_71 : decode cX3_told 71 = .ok (.ireturn, 1) := dk_172 (dk_at dksX3_told_3 5 rfl rfl)
theorem dX3_told_72 : decode cX3_told 72 = .ok (.aload_n 0, 1) := dk_42 (dk_at dksX3_told_3 6 rfl rfl)
theorem dX3_told_73 : decode cX3_told 73 = .ok (.iload_n 1, 1) := dk_27 (dk_at dksX3_told_3 7 rfl rfl)
theorem dX3_told_74 : decode cX3_told 74 = .ok (.invokevirtual 241, 3) := dk_182 0 241 (dk_at dksX3_told_3 8 rfl rfl)
theorem dX3_told_77 : decode cX3_told 77 = .ok (.ireturn, 1) := dk_172 (dk_at dksX3_told_3 11 rfl rfl)
theorem dX3_told_78 : decode cX3_told 78 = .ok (.aload_n 0, 1) := dk_42 (dk_at dksX3_told_3 12 rfl rfl)
theorem dX3_told_79 : decode cX3_told 79 = .ok (.iload_n 1, 1) := dk_27 (dk_at dksX3_told_3 13 rfl rfl)
theorem dX3_told_80 : decode cX3_told 80 = .ok (.invokevirtual 238, 3) := dk_182 0 238 (dk_at dksX3_told_3 14 rfl rfl)
theorem dX3_told_83 : decode cX3_told 83 = .ok (.ifCond .eq 16, 3) := dk_153 0 16 (dk_at dksX3_told_3 17 rfl rfl)
theorem dX3_told_86 : decode cX3_told 86 = .ok (.aload_n 0, 1) := dk_42 (dk_at dksX3_told_3 20 rfl rfl)
theorem dX3_told_87 : decode cX3_told 87 = .ok (.getfield 68, 3) := dk_180 0 68 (dk_at dksX3_told_3 21 rfl rfl)
theorem dX3_told_90 : decode cX3_told 90 = .ok (.iload_n 1, 1) := dk_27 (dk_at dksX3_told_4 0 rfl rfl)
theorem dX3_told_91 : decode cX3_told 91 = .ok (.baload, 1) := dk_51 (dk_at dksX3_told_4 1 rfl rfl)
theorem dX3_told_92 : decode cX3_told 92 = .ok (.ifCond .eq 7, 3) := dk_153 0 7 (dk_at dksX3_told_4 2 rfl rfl)
theorem dX3_told_95 : decode cX3_told 95 = .ok (.iconst 1, 1) := dk_4 (dk_at dksX3_told_4 5 rfl rfl)
theorem dX3_told_96 : decode cX3_told 96 = .ok (.goto 4, 3) := dk_167 0 4 (dk_at dksX3_told_4 6 rfl rfl)
theorem dX3_told_99 : decode cX3_told 99 = .ok (.iconst 0, 1) := dk_3 (dk_at dksX3_told_4 9 rfl rfl)
theorem dX3_told_100 : decode cX3_told 100 = .ok (.ireturn, 1) := dk_172 (dk_at dksX3_told_4 10 rfl rfl)
theorem dX3_told_101 : decode cX3_told 101 = .ok (.aload_n 0, 1) := dk_42 (dk_at dksX3_told_4 11 rfl rfl)
theorem dX3_told_102 : decode cX3_told 102 = .ok (.getfield 62, 3) := dk_180 0 62 (dk_at dksX3_told_4 12 rfl rfl)
theorem dX3_told_105 : decode cX3_told 105 = .ok (.iload_n 1, 1) := dk_27 (dk_at dksX3_told_4 15 rfl rfl)
theorem dX3_told_106 : decode cX3_told 106 = .ok (.iaload, 1) := dk_46 (dk_at dksX3_told_4 16 rfl rfl)
theorem dX3_told_107 : decode cX3_told 107 = .ok (.i2l, 1) := dk_133 (dk_at dksX3_told_4 17 rfl rfl)
theorem dX3_told_108 : decode cX3_told 108 = .ok (.ldc2_w 244, 3) := dk_20 0 244 (dk_at dksX3_told_4 18 rfl rfl)
theorem dX3_told_111 : decode cX3_told 111 = .ok (.ldc2_w 246, 3) := dk_20 0 246 (dk_at dksX3_told_4 21 rfl rfl)
theorem dX3_told_114 : decode cX3_told 114 = .ok (.invokestatic 160, 3) := dk_184 0 160 (dk_at dksX3_told_5 0 rfl rfl)
theorem dX3_told_117 : decode cX3_told 117 = .ok (.ifCond .eq 12, 3) := dk_153 0 12 (dk_at dksX3_told_5 3 rfl rfl)
theorem dX3_told_120 : decode cX3_told 120 = .ok (.aload_n 0, 1) := dk_42 (dk_at dksX3_told_5 6 rfl rfl)
theorem dX3_told_121 : decode cX3_told 121 = .ok (.getfield 65, 3) := dk_180 0 65 (dk_at dksX3_told_5 7 rfl rfl)
theorem dX3_told_124 : decode cX3_told 124 = .ok (.iload_n 1, 1) := dk_27 (dk_at dksX3_told_5 10 rfl rfl)
theorem dX3_told_125 : decode cX3_told 125 = .ok (.iaload, 1) := dk_46 (dk_at dksX3_told_5 11 rfl rfl)
theorem dX3_told_126 : decode cX3_told 126 = .ok (.goto 5, 3) := dk_167 0 5 (dk_at dksX3_told_5 12 rfl rfl)
theorem dX3_told_129 : decode cX3_told 129 = .ok (.bipush (-4), 2) := dk_16 252 (dk_at dksX3_told_5 15 rfl rfl)
theorem dX3_told_131 : decode cX3_told 131 = .ok (.ireturn, 1) := dk_172 (dk_at dksX3_told_5 17 rfl rfl)
theorem dX3_told_132 : decode cX3_told 132 = .ok (.iconst (-1), 1) := dk_2 (dk_at dksX3_told_5 18 rfl rfl)
theorem dX3_told_133 : decode cX3_told 133 = .ok (.ireturn, 1) := dk_172 (dk_at dksX3_told_5 19 rfl rfl)
abbrev cX3_childrenOf : ByteArray := prog_19_method_37_code
def yX3_childrenOf : MethodName := ⟨RX3, "childrenOf", "(I)I"⟩
def dkwX3_childrenOf_1 : List UInt8 := [167, 0, 4, 3, 96, 61, 132, 3, 1, 167, 255, 227, 28, 172]
abbrev dktX3_childrenOf_1 : List UInt8 := dkwX3_childrenOf_1 ++ []
def dkwX3_childrenOf_0 : List UInt8 := [3, 61, 3, 62, 29, 42, 180, 0, 213, 162, 0, 27, 28, 42, 180, 0, 59, 29, 46, 27, 160, 0, 7, 4]
abbrev dktX3_childrenOf_0 : List UInt8 := dkwX3_childrenOf_0 ++ dktX3_childrenOf_1
theorem dksX3_childrenOf_0 : cX3_childrenOf.data.toList.drop 0 = dktX3_childrenOf_0 := by decide +kernel
theorem dksX3_childrenOf_1 : cX3_childrenOf.data.toList.drop 24 = dktX3_childrenOf_1 := dk_seg dksX3_childrenOf_0 24 rfl rfl
theorem dX3_childrenOf_0 : decode cX3_childrenOf 0 = .ok (.iconst 0, 1) := dk_3 (dk_at dksX3_childrenOf_0 0 rfl rfl)
theorem dX3_childrenOf_1 : decode cX3_childrenOf 1 = .ok (.istore_n 2, 1) := dk_61 (dk_at dksX3_childrenOf_0 1 rfl rfl)
theorem dX3_childrenOf_2 : decode cX3_childrenOf 2 = .ok (.iconst 0, 1) := dk_3 (dk_at dksX3_childrenOf_0 2 rfl rfl)
theorem dX3_childrenOf_3 : decode cX3_childrenOf 3 = .ok (.istore_n 3, 1) := dk_62 (dk_at dksX3_childrenOf_0 3 rfl rfl)
theorem dX3_childrenOf_4 : decode cX3_childrenOf 4 = .ok (.iload_n 3, 1) := dk_29 (dk_at dksX3_childrenOf_0 4 rfl rfl)
theorem dX3_childrenOf_5 : decode cX3_childrenOf 5 = .ok (.aload_n 0, 1) := dk_42 (dk_at dksX3_childrenOf_0 5 rfl rfl)
theorem dX3_childrenOf_6 : decode cX3_childrenOf 6 = .ok (.getfield 213, 3) := dk_180 0 213 (dk_at dksX3_childrenOf_0 6 rfl rfl)
theorem dX3_childrenOf_9 : decode cX3_childrenOf 9 = .ok (.if_icmp .ge 27, 3) := dk_162 0 27 (dk_at dksX3_childrenOf_0 9 rfl rfl)
theorem dX3_childrenOf_12 : decode cX3_childrenOf 12 = .ok (.iload_n 2, 1) := dk_28 (dk_at dksX3_childrenOf_0 12 rfl rfl)
theorem dX3_childrenOf_13 : decode cX3_childrenOf 13 = .ok (.aload_n 0, 1) := dk_42 (dk_at dksX3_childrenOf_0 13 rfl rfl)
theorem dX3_childrenOf_14 : decode cX3_childrenOf 14 = .ok (.getfield 59, 3) := dk_180 0 59 (dk_at dksX3_childrenOf_0 14 rfl rfl)
theorem dX3_childrenOf_17 : decode cX3_childrenOf 17 = .ok (.iload_n 3, 1) := dk_29 (dk_at dksX3_childrenOf_0 17 rfl rfl)
theorem dX3_childrenOf_18 : decode cX3_childrenOf 18 = .ok (.iaload, 1) := dk_46 (dk_at dksX3_childrenOf_0 18 rfl rfl)
theorem dX3_childrenOf_19 : decode cX3_childrenOf 19 = .ok (.iload_n 1, 1) := dk_27 (dk_at dksX3_childrenOf_0 19 rfl rfl)
theorem dX3_childrenOf_20 : decode cX3_childrenOf 20 = .ok (.if_icmp .ne 7, 3) := dk_160 0 7 (dk_at dksX3_childrenOf_0 20 rfl rfl)
theorem dX3_childrenOf_23 : decode cX3_childrenOf 23 = .ok (.iconst 1, 1) := dk_4 (dk_at dksX3_childrenOf_0 23 rfl rfl)
theorem dX3_childrenOf_24 : decode cX3_childrenOf 24 = .ok (.goto 4, 3) := dk_167 0 4 (dk_at dksX3_childrenOf_1 0 rfl rfl)
theorem dX3_childrenOf_27 : decode cX3_childrenOf 27 = .ok (.iconst 0, 1) := dk_3 (dk_at dksX3_childrenOf_1 3 rfl rfl)
theorem dX3_childrenOf_28 : decode cX3_childrenOf 28 = .ok (.iadd, 1) := dk_96 (dk_at dksX3_childrenOf_1 4 rfl rfl)
theorem dX3_childrenOf_29 : decode cX3_childrenOf 29 = .ok (.istore_n 2, 1) := dk_61 (dk_at dksX3_childrenOf_1 5 rfl rfl)
theorem dX3_childrenOf_30 : decode cX3_childrenOf 30 = .ok (.iinc 3 1, 3) := dk_132 3 1 (dk_at dksX3_childrenOf_1 6 rfl rfl)
theorem dX3_childrenOf_33 : decode cX3_childrenOf 33 = .ok (.goto (-29), 3) := dk_167 255 227 (dk_at dksX3_childrenOf_1 9 rfl rfl)
theorem dX3_childrenOf_36 : decode cX3_childrenOf 36 = .ok (.iload_n 2, 1) := dk_28 (dk_at dksX3_childrenOf_1 12 rfl rfl)
theorem dX3_childrenOf_37 : decode cX3_childrenOf 37 = .ok (.ireturn, 1) := dk_172 (dk_at dksX3_childrenOf_1 13 rfl rfl)
abbrev cX3_go : ByteArray := prog_19_method_43_code
def yX3_go : MethodName := ⟨RX3, "go", "(II)I"⟩
def dkwX3_go_7 : List UInt8 := [132, 6, 1, 167, 255, 178, 29, 172]
abbrev dktX3_go_7 : List UInt8 := dkwX3_go_7 ++ []
def dkwX3_go_6 : List UInt8 := [21, 5, 79, 42, 180, 0, 74, 21, 6, 28, 79, 42, 180, 0, 77, 21, 6, 42, 180, 0, 190, 79]
abbrev dktX3_go_6 : List UInt8 := dkwX3_go_6 ++ dktX3_go_7
def dkwX3_go_5 : List UInt8 := [79, 42, 180, 0, 65, 21, 6, 29, 79, 42, 180, 0, 68, 21, 6, 3, 84, 42, 180, 0, 71, 21, 6]
abbrev dktX3_go_5 : List UInt8 := dkwX3_go_5 ++ dktX3_go_6
def dkwX3_go_4 : List UInt8 := [162, 0, 75, 21, 4, 21, 6, 122, 4, 126, 4, 160, 0, 58, 42, 180, 0, 62, 21, 6, 16, 100, 28, 96]
abbrev dktX3_go_4 : List UInt8 := dkwX3_go_4 ++ dktX3_go_5
def dkwX3_go_3 : List UInt8 := [154, 0, 6, 16, 254, 172, 42, 180, 0, 62, 27, 46, 54, 5, 3, 54, 6, 21, 6, 42, 180, 0, 213]
abbrev dktX3_go_3 : List UInt8 := dkwX3_go_3 ++ dktX3_go_4
def dkwX3_go_2 : List UInt8 := [27, 182, 0, 248, 54, 4, 29, 16, 252, 159, 0, 16, 42, 28, 21, 4, 184, 1, 1, 182, 0, 228]
abbrev dktX3_go_2 : List UInt8 := dkwX3_go_2 ++ dktX3_go_3
def dkwX3_go_1 : List UInt8 := [155, 0, 5, 2, 172, 42, 27, 182, 0, 238, 154, 0, 6, 16, 254, 172, 42, 27, 28, 182, 0, 254, 62, 42]
abbrev dktX3_go_1 : List UInt8 := dkwX3_go_1 ++ dktX3_go_2
def dkwX3_go_0 : List UInt8 := [42, 27, 182, 0, 235, 153, 0, 20, 42, 28, 182, 0, 176, 153, 0, 12, 42, 180, 0, 59, 27, 46]
abbrev dktX3_go_0 : List UInt8 := dkwX3_go_0 ++ dktX3_go_1
theorem dksX3_go_0 : cX3_go.data.toList.drop 0 = dktX3_go_0 := by decide +kernel
theorem dksX3_go_1 : cX3_go.data.toList.drop 22 = dktX3_go_1 := dk_seg dksX3_go_0 22 rfl rfl
theorem dksX3_go_2 : cX3_go.data.toList.drop 46 = dktX3_go_2 := dk_seg dksX3_go_1 24 rfl rfl
theorem dksX3_go_3 : cX3_go.data.toList.drop 68 = dktX3_go_3 := dk_seg dksX3_go_2 22 rfl rfl
theorem dksX3_go_4 : cX3_go.data.toList.drop 91 = dktX3_go_4 := dk_seg dksX3_go_3 23 rfl rfl
theorem dksX3_go_5 : cX3_go.data.toList.drop 115 = dktX3_go_5 := dk_seg dksX3_go_4 24 rfl rfl
theorem dksX3_go_6 : cX3_go.data.toList.drop 138 = dktX3_go_6 := dk_seg dksX3_go_5 23 rfl rfl
theorem dksX3_go_7 : cX3_go.data.toList.drop 160 = dktX3_go_7 := dk_seg dksX3_go_6 22 rfl rfl
theorem dX3_go_0 : decode cX3_go 0 = .ok (.aload_n 0, 1) := dk_42 (dk_at dksX3_go_0 0 rfl rfl)
theorem dX3_go_1 : decode cX3_go 1 = .ok (.iload_n 1, 1) := dk_27 (dk_at dksX3_go_0 1 rfl rfl)
theorem dX3_go_2 : decode cX3_go 2 = .ok (.invokevirtual 235, 3) := dk_182 0 235 (dk_at dksX3_go_0 2 rfl rfl)
theorem dX3_go_5 : decode cX3_go 5 = .ok (.ifCond .eq 20, 3) := dk_153 0 20 (dk_at dksX3_go_0 5 rfl rfl)
theorem dX3_go_8 : decode cX3_go 8 = .ok (.aload_n 0, 1) := dk_42 (dk_at dksX3_go_0 8 rfl rfl)
theorem dX3_go_9 : decode cX3_go 9 = .ok (.iload_n 2, 1) := dk_28 (dk_at dksX3_go_0 9 rfl rfl)
theorem dX3_go_10 : decode cX3_go 10 = .ok (.invokevirtual 176, 3) := dk_182 0 176 (dk_at dksX3_go_0 10 rfl rfl)
theorem dX3_go_13 : decode cX3_go 13 = .ok (.ifCond .eq 12, 3) := dk_153 0 12 (dk_at dksX3_go_0 13 rfl rfl)
theorem dX3_go_16 : decode cX3_go 16 = .ok (.aload_n 0, 1) := dk_42 (dk_at dksX3_go_0 16 rfl rfl)
theorem dX3_go_17 : decode cX3_go 17 = .ok (.getfield 59, 3) := dk_180 0 59 (dk_at dksX3_go_0 17 rfl rfl)
theorem dX3_go_20 : decode cX3_go 20 = .ok (.iload_n 1, 1) := dk_27 (dk_at dksX3_go_0 20 rfl rfl)
theorem dX3_go_21 : decode cX3_go 21 = .ok (.iaload, 1) := dk_46 (dk_at dksX3_go_0 21 rfl rfl)
theorem dX3_go_22 : decode cX3_go 22 = .ok (.ifCond .lt 5, 3) := dk_155 0 5 (dk_at dksX3_go_1 0 rfl rfl)
theorem dX3_go_25 : decode cX3_go 25 = .ok (.iconst (-1), 1) := dk_2 (dk_at dksX3_go_1 3 rfl rfl)
theorem dX3_go_26 : decode cX3_go 26 = .ok (.ireturn, 1) := dk_172 (dk_at dksX3_go_1 4 rfl rfl)
theorem dX3_go_27 : decode cX3_go 27 = .ok (.aload_n 0, 1) := dk_42 (dk_at dksX3_go_1 5 rfl rfl)
theorem dX3_go_28 : decode cX3_go 28 = .ok (.iload_n 1, 1) := dk_27 (dk_at dksX3_go_1 6 rfl rfl)
theorem dX3_go_29 : decode cX3_go 29 = .ok (.invokevirtual 238, 3) := dk_182 0 238 (dk_at dksX3_go_1 7 rfl rfl)
theorem dX3_go_32 : decode cX3_go 32 = .ok (.ifCond .ne 6, 3) := dk_154 0 6 (dk_at dksX3_go_1 10 rfl rfl)
theorem dX3_go_35 : decode cX3_go 35 = .ok (.bipush (-2), 2) := dk_16 254 (dk_at dksX3_go_1 13 rfl rfl)
theorem dX3_go_37 : decode cX3_go 37 = .ok (.ireturn, 1) := dk_172 (dk_at dksX3_go_1 15 rfl rfl)
theorem dX3_go_38 : decode cX3_go 38 = .ok (.aload_n 0, 1) := dk_42 (dk_at dksX3_go_1 16 rfl rfl)
theorem dX3_go_39 : decode cX3_go 39 = .ok (.iload_n 1, 1) := dk_27 (dk_at dksX3_go_1 17 rfl rfl)
theorem dX3_go_40 : decode cX3_go 40 = .ok (.iload_n 2, 1) := dk_28 (dk_at dksX3_go_1 18 rfl rfl)
theorem dX3_go_41 : decode cX3_go 41 = .ok (.invokevirtual 254, 3) := dk_182 0 254 (dk_at dksX3_go_1 19 rfl rfl)
theorem dX3_go_44 : decode cX3_go 44 = .ok (.istore_n 3, 1) := dk_62 (dk_at dksX3_go_1 22 rfl rfl)
theorem dX3_go_45 : decode cX3_go 45 = .ok (.aload_n 0, 1) := dk_42 (dk_at dksX3_go_1 23 rfl rfl)
theorem dX3_go_46 : decode cX3_go 46 = .ok (.iload_n 1, 1) := dk_27 (dk_at dksX3_go_2 0 rfl rfl)
theorem dX3_go_47 : decode cX3_go 47 = .ok (.invokevirtual 248, 3) := dk_182 0 248 (dk_at dksX3_go_2 1 rfl rfl)
theorem dX3_go_50 : decode cX3_go 50 = .ok (.istore 4, 2) := dk_54 4 (dk_at dksX3_go_2 4 rfl rfl)
theorem dX3_go_52 : decode cX3_go 52 = .ok (.iload_n 3, 1) := dk_29 (dk_at dksX3_go_2 6 rfl rfl)
theorem dX3_go_53 : decode cX3_go 53 = .ok (.bipush (-4), 2) := dk_16 252 (dk_at dksX3_go_2 7 rfl rfl)
theorem dX3_go_55 : decode cX3_go 55 = .ok (.if_icmp .eq 16, 3) := dk_159 0 16 (dk_at dksX3_go_2 9 rfl rfl)
theorem dX3_go_58 : decode cX3_go 58 = .ok (.aload_n 0, 1) := dk_42 (dk_at dksX3_go_2 12 rfl rfl)
theorem dX3_go_59 : decode cX3_go 59 = .ok (.iload_n 2, 1) := dk_28 (dk_at dksX3_go_2 13 rfl rfl)
theorem dX3_go_60 : decode cX3_go 60 = .ok (.iload 4, 2) := dk_21 4 (dk_at dksX3_go_2 14 rfl rfl)
theorem dX3_go_62 : decode cX3_go 62 = .ok (.invokestatic 257, 3) := dk_184 1 1 (dk_at dksX3_go_2 16 rfl rfl)
theorem dX3_go_65 : decode cX3_go 65 = .ok (.invokevirtual 228, 3) := dk_182 0 228 (dk_at dksX3_go_2 19 rfl rfl)
theorem dX3_go_68 : decode cX3_go 68 = .ok (.ifCond .ne 6, 3) := dk_154 0 6 (dk_at dksX3_go_3 0 rfl rfl)
theorem dX3_go_71 : decode cX3_go 71 = .ok (.bipush (-2), 2) := dk_16 254 (dk_at dksX3_go_3 3 rfl rfl)
theorem dX3_go_73 : decode cX3_go 73 = .ok (.ireturn, 1) := dk_172 (dk_at dksX3_go_3 5 rfl rfl)
theorem dX3_go_74 : decode cX3_go 74 = .ok (.aload_n 0, 1) := dk_42 (dk_at dksX3_go_3 6 rfl rfl)
theorem dX3_go_75 : decode cX3_go 75 = .ok (.getfield 62, 3) := dk_180 0 62 (dk_at dksX3_go_3 7 rfl rfl)
theorem dX3_go_78 : decode cX3_go 78 = .ok (.iload_n 1, 1) := dk_27 (dk_at dksX3_go_3 10 rfl rfl)
theorem dX3_go_79 : decode cX3_go 79 = .ok (.iaload, 1) := dk_46 (dk_at dksX3_go_3 11 rfl rfl)
theorem dX3_go_80 : decode cX3_go 80 = .ok (.istore 5, 2) := dk_54 5 (dk_at dksX3_go_3 12 rfl rfl)
theorem dX3_go_82 : decode cX3_go 82 = .ok (.iconst 0, 1) := dk_3 (dk_at dksX3_go_3 14 rfl rfl)
theorem dX3_go_83 : decode cX3_go 83 = .ok (.istore 6, 2) := dk_54 6 (dk_at dksX3_go_3 15 rfl rfl)
theorem dX3_go_85 : decode cX3_go 85 = .ok (.iload 6, 2) := dk_21 6 (dk_at dksX3_go_3 17 rfl rfl)
theorem dX3_go_87 : decode cX3_go 87 = .ok (.aload_n 0, 1) := dk_42 (dk_at dksX3_go_3 19 rfl rfl)
theorem dX3_go_88 : decode cX3_go 88 = .ok (.getfield 213, 3) := dk_180 0 213 (dk_at dksX3_go_3 20 rfl rfl)
theorem dX3_go_91 : decode cX3_go 91 = .ok (.if_icmp .ge 75, 3) := dk_162 0 75 (dk_at dksX3_go_4 0 rfl rfl)
theorem dX3_go_94 : decode cX3_go 94 = .ok (.iload 4, 2) := dk_21 4 (dk_at dksX3_go_4 3 rfl rfl)
theorem dX3_go_96 : decode cX3_go 96 = .ok (.iload 6, 2) := dk_21 6 (dk_at dksX3_go_4 5 rfl rfl)
theorem dX3_go_98 : decode cX3_go 98 = .ok (.ishr, 1) := dk_122 (dk_at dksX3_go_4 7 rfl rfl)
theorem dX3_go_99 : decode cX3_go 99 = .ok (.iconst 1, 1) := dk_4 (dk_at dksX3_go_4 8 rfl rfl)
theorem dX3_go_100 : decode cX3_go 100 = .ok (.iand, 1) := dk_126 (dk_at dksX3_go_4 9 rfl rfl)
theorem dX3_go_101 : decode cX3_go 101 = .ok (.iconst 1, 1) := dk_4 (dk_at dksX3_go_4 10 rfl rfl)
theorem dX3_go_102 : decode cX3_go 102 = .ok (.if_icmp .ne 58, 3) := dk_160 0 58 (dk_at dksX3_go_4 11 rfl rfl)
theorem dX3_go_105 : decode cX3_go 105 = .ok (.aload_n 0, 1) := dk_42 (dk_at dksX3_go_4 14 rfl rfl)
theorem dX3_go_106 : decode cX3_go 106 = .ok (.getfield 62, 3) := dk_180 0 62 (dk_at dksX3_go_4 15 rfl rfl)
theorem dX3_go_109 : decode cX3_go 109 = .ok (.iload 6, 2) := dk_21 6 (dk_at dksX3_go_4 18 rfl rfl)
theorem dX3_go_111 : decode cX3_go 111 = .ok (.bipush 100, 2) := dk_16 100 (dk_at dksX3_go_4 20 rfl rfl)
theorem dX3_go_113 : decode cX3_go 113 = .ok (.iload_n 2, 1) := dk_28 (dk_at dksX3_go_4 22 rfl rfl)
theorem dX3_go_114 : decode cX3_go 114 = .ok (.iadd, 1) := dk_96 (dk_at dksX3_go_4 23 rfl rfl)
theorem dX3_go_115 : decode cX3_go 115 = .ok (.iastore, 1) := dk_79 (dk_at dksX3_go_5 0 rfl rfl)
theorem dX3_go_116 : decode cX3_go 116 = .ok (.aload_n 0, 1) := dk_42 (dk_at dksX3_go_5 1 rfl rfl)
theorem dX3_go_117 : decode cX3_go 117 = .ok (.getfield 65, 3) := dk_180 0 65 (dk_at dksX3_go_5 2 rfl rfl)
theorem dX3_go_120 : decode cX3_go 120 = .ok (.iload 6, 2) := dk_21 6 (dk_at dksX3_go_5 5 rfl rfl)
theorem dX3_go_122 : decode cX3_go 122 = .ok (.iload_n 3, 1) := dk_29 (dk_at dksX3_go_5 7 rfl rfl)
theorem dX3_go_123 : decode cX3_go 123 = .ok (.iastore, 1) := dk_79 (dk_at dksX3_go_5 8 rfl rfl)
theorem dX3_go_124 : decode cX3_go 124 = .ok (.aload_n 0, 1) := dk_42 (dk_at dksX3_go_5 9 rfl rfl)
theorem dX3_go_125 : decode cX3_go 125 = .ok (.getfield 68, 3) := dk_180 0 68 (dk_at dksX3_go_5 10 rfl rfl)
theorem dX3_go_128 : decode cX3_go 128 = .ok (.iload 6, 2) := dk_21 6 (dk_at dksX3_go_5 13 rfl rfl)
theorem dX3_go_130 : decode cX3_go 130 = .ok (.iconst 0, 1) := dk_3 (dk_at dksX3_go_5 15 rfl rfl)
theorem dX3_go_131 : decode cX3_go 131 = .ok (.bastore, 1) := dk_84 (dk_at dksX3_go_5 16 rfl rfl)
theorem dX3_go_132 : decode cX3_go 132 = .ok (.aload_n 0, 1) := dk_42 (dk_at dksX3_go_5 17 rfl rfl)
theorem dX3_go_133 : decode cX3_go 133 = .ok (.getfield 71, 3) := dk_180 0 71 (dk_at dksX3_go_5 18 rfl rfl)
theorem dX3_go_136 : decode cX3_go 136 = .ok (.iload 6, 2) := dk_21 6 (dk_at dksX3_go_5 21 rfl rfl)
theorem dX3_go_138 : decode cX3_go 138 = .ok (.iload 5, 2) := dk_21 5 (dk_at dksX3_go_6 0 rfl rfl)
theorem dX3_go_140 : decode cX3_go 140 = .ok (.iastore, 1) := dk_79 (dk_at dksX3_go_6 2 rfl rfl)
theorem dX3_go_141 : decode cX3_go 141 = .ok (.aload_n 0, 1) := dk_42 (dk_at dksX3_go_6 3 rfl rfl)
theorem dX3_go_142 : decode cX3_go 142 = .ok (.getfield 74, 3) := dk_180 0 74 (dk_at dksX3_go_6 4 rfl rfl)
theorem dX3_go_145 : decode cX3_go 145 = .ok (.iload 6, 2) := dk_21 6 (dk_at dksX3_go_6 7 rfl rfl)
theorem dX3_go_147 : decode cX3_go 147 = .ok (.iload_n 2, 1) := dk_28 (dk_at dksX3_go_6 9 rfl rfl)
theorem dX3_go_148 : decode cX3_go 148 = .ok (.iastore, 1) := dk_79 (dk_at dksX3_go_6 10 rfl rfl)
theorem dX3_go_149 : decode cX3_go 149 = .ok (.aload_n 0, 1) := dk_42 (dk_at dksX3_go_6 11 rfl rfl)
theorem dX3_go_150 : decode cX3_go 150 = .ok (.getfield 77, 3) := dk_180 0 77 (dk_at dksX3_go_6 12 rfl rfl)
theorem dX3_go_153 : decode cX3_go 153 = .ok (.iload 6, 2) := dk_21 6 (dk_at dksX3_go_6 15 rfl rfl)
theorem dX3_go_155 : decode cX3_go 155 = .ok (.aload_n 0, 1) := dk_42 (dk_at dksX3_go_6 17 rfl rfl)
theorem dX3_go_156 : decode cX3_go 156 = .ok (.getfield 190, 3) := dk_180 0 190 (dk_at dksX3_go_6 18 rfl rfl)
theorem dX3_go_159 : decode cX3_go 159 = .ok (.iastore, 1) := dk_79 (dk_at dksX3_go_6 21 rfl rfl)
theorem dX3_go_160 : decode cX3_go 160 = .ok (.iinc 6 1, 3) := dk_132 6 1 (dk_at dksX3_go_7 0 rfl rfl)
theorem dX3_go_163 : decode cX3_go 163 = .ok (.goto (-78), 3) := dk_167 255 178 (dk_at dksX3_go_7 3 rfl rfl)
theorem dX3_go_166 : decode cX3_go 166 = .ok (.iload_n 3, 1) := dk_29 (dk_at dksX3_go_7 6 rfl rfl)
theorem dX3_go_167 : decode cX3_go 167 = .ok (.ireturn, 1) := dk_172 (dk_at dksX3_go_7 7 rfl rfl)
abbrev cX3_arrives : ByteArray := prog_19_method_42_code
def yX3_arrives : MethodName := ⟨RX3, "arrives", "(II)I"⟩
def dkwX3_arrives_2 : List UInt8 := [154, 0, 8, 16, 252, 167, 0, 16, 42, 180, 0, 190, 21, 4, 96, 42, 27, 182, 0, 251, 96, 172]
abbrev dktX3_arrives_2 : List UInt8 := dkwX3_arrives_2 ++ []
def dkwX3_arrives_1 : List UInt8 := [153, 0, 27, 42, 29, 42, 180, 0, 190, 182, 0, 210, 153, 0, 15, 42, 28, 42, 180, 0, 190, 182, 0, 210]
abbrev dktX3_arrives_1 : List UInt8 := dkwX3_arrives_1 ++ dktX3_arrives_2
def dkwX3_arrives_0 : List UInt8 := [42, 180, 0, 62, 27, 46, 62, 42, 180, 0, 38, 16, 16, 29, 104, 28, 96, 46, 54, 4, 21, 4]
abbrev dktX3_arrives_0 : List UInt8 := dkwX3_arrives_0 ++ dktX3_arrives_1
theorem dksX3_arrives_0 : cX3_arrives.data.toList.drop 0 = dktX3_arrives_0 := by decide +kernel
theorem dksX3_arrives_1 : cX3_arrives.data.toList.drop 22 = dktX3_arrives_1 := dk_seg dksX3_arrives_0 22 rfl rfl
theorem dksX3_arrives_2 : cX3_arrives.data.toList.drop 46 = dktX3_arrives_2 := dk_seg dksX3_arrives_1 24 rfl rfl
theorem dX3_arrives_0 : decode cX3_arrives 0 = .ok (.aload_n 0, 1) := dk_42 (dk_at dksX3_arrives_0 0 rfl rfl)
theorem dX3_arrives_1 : decode cX3_arrives 1 = .ok (.getfield 62, 3) := dk_180 0 62 (dk_at dksX3_arrives_0 1 rfl rfl)
theorem dX3_arrives_4 : decode cX3_arrives 4 = .ok (.iload_n 1, 1) := dk_27 (dk_at dksX3_arrives_0 4 rfl rfl)
theorem dX3_arrives_5 : decode cX3_arrives 5 = .ok (.iaload, 1) := dk_46 (dk_at dksX3_arrives_0 5 rfl rfl)
theorem dX3_arrives_6 : decode cX3_arrives 6 = .ok (.istore_n 3, 1) := dk_62 (dk_at dksX3_arrives_0 6 rfl rfl)
theorem dX3_arrives_7 : decode cX3_arrives 7 = .ok (.aload_n 0, 1) := dk_42 (dk_at dksX3_arrives_0 7 rfl rfl)
theorem dX3_arrives_8 : decode cX3_arrives 8 = .ok (.getfield 38, 3) := dk_180 0 38 (dk_at dksX3_arrives_0 8 rfl rfl)
theorem dX3_arrives_11 : decode cX3_arrives 11 = .ok (.bipush 16, 2) := dk_16 16 (dk_at dksX3_arrives_0 11 rfl rfl)
theorem dX3_arrives_13 : decode cX3_arrives 13 = .ok (.iload_n 3, 1) := dk_29 (dk_at dksX3_arrives_0 13 rfl rfl)
theorem dX3_arrives_14 : decode cX3_arrives 14 = .ok (.imul, 1) := dk_104 (dk_at dksX3_arrives_0 14 rfl rfl)
theorem dX3_arrives_15 : decode cX3_arrives 15 = .ok (.iload_n 2, 1) := dk_28 (dk_at dksX3_arrives_0 15 rfl rfl)
theorem dX3_arrives_16 : decode cX3_arrives 16 = .ok (.iadd, 1) := dk_96 (dk_at dksX3_arrives_0 16 rfl rfl)
theorem dX3_arrives_17 : decode cX3_arrives 17 = .ok (.iaload, 1) := dk_46 (dk_at dksX3_arrives_0 17 rfl rfl)
theorem dX3_arrives_18 : decode cX3_arrives 18 = .ok (.istore 4, 2) := dk_54 4 (dk_at dksX3_arrives_0 18 rfl rfl)
theorem dX3_arrives_20 : decode cX3_arrives 20 = .ok (.iload 4, 2) := dk_21 4 (dk_at dksX3_arrives_0 20 rfl rfl)
theorem dX3_arrives_22 : decode cX3_arrives 22 = .ok (.ifCond .eq 27, 3) := dk_153 0 27 (dk_at dksX3_arrives_1 0 rfl rfl)
theorem dX3_arrives_25 : decode cX3_arrives 25 = .ok (.aload_n 0, 1) := dk_42 (dk_at dksX3_arrives_1 3 rfl rfl)
theorem dX3_arrives_26 : decode cX3_arrives 26 = .ok (.iload_n 3, 1) := dk_29 (dk_at dksX3_arrives_1 4 rfl rfl)
theorem dX3_arrives_27 : decode cX3_arrives 27 = .ok (.aload_n 0, 1) := dk_42 (dk_at dksX3_arrives_1 5 rfl rfl)
theorem dX3_arrives_28 : decode cX3_arrives 28 = .ok (.getfield 190, 3) := dk_180 0 190 (dk_at dksX3_arrives_1 6 rfl rfl)
theorem dX3_arrives_31 : decode cX3_arrives 31 = .ok (.invokevirtual 210, 3) := dk_182 0 210 (dk_at dksX3_arrives_1 9 rfl rfl)
theorem dX3_arrives_34 : decode cX3_arrives 34 = .ok (.ifCond .eq 15, 3) := dk_153 0 15 (dk_at dksX3_arrives_1 12 rfl rfl)
theorem dX3_arrives_37 : decode cX3_arrives 37 = .ok (.aload_n 0, 1) := dk_42 (dk_at dksX3_arrives_1 15 rfl rfl)
theorem dX3_arrives_38 : decode cX3_arrives 38 = .ok (.iload_n 2, 1) := dk_28 (dk_at dksX3_arrives_1 16 rfl rfl)
theorem dX3_arrives_39 : decode cX3_arrives 39 = .ok (.aload_n 0, 1) := dk_42 (dk_at dksX3_arrives_1 17 rfl rfl)
theorem dX3_arrives_40 : decode cX3_arrives 40 = .ok (.getfield 190, 3) := dk_180 0 190 (dk_at dksX3_arrives_1 18 rfl rfl)
theorem dX3_arrives_43 : decode cX3_arrives 43 = .ok (.invokevirtual 210, 3) := dk_182 0 210 (dk_at dksX3_arrives_1 21 rfl rfl)
theorem dX3_arrives_46 : decode cX3_arrives 46 = .ok (.ifCond .ne 8, 3) := dk_154 0 8 (dk_at dksX3_arrives_2 0 rfl rfl)
theorem dX3_arrives_49 : decode cX3_arrives 49 = .ok (.bipush (-4), 2) := dk_16 252 (dk_at dksX3_arrives_2 3 rfl rfl)
theorem dX3_arrives_51 : decode cX3_arrives 51 = .ok (.goto 16, 3) := dk_167 0 16 (dk_at dksX3_arrives_2 5 rfl rfl)
theorem dX3_arrives_54 : decode cX3_arrives 54 = .ok (.aload_n 0, 1) := dk_42 (dk_at dksX3_arrives_2 8 rfl rfl)
theorem dX3_arrives_55 : decode cX3_arrives 55 = .ok (.getfield 190, 3) := dk_180 0 190 (dk_at dksX3_arrives_2 9 rfl rfl)
theorem dX3_arrives_58 : decode cX3_arrives 58 = .ok (.iload 4, 2) := dk_21 4 (dk_at dksX3_arrives_2 12 rfl rfl)
theorem dX3_arrives_60 : decode cX3_arrives 60 = .ok (.iadd, 1) := dk_96 (dk_at dksX3_arrives_2 14 rfl rfl)
theorem dX3_arrives_61 : decode cX3_arrives 61 = .ok (.aload_n 0, 1) := dk_42 (dk_at dksX3_arrives_2 15 rfl rfl)
theorem dX3_arrives_62 : decode cX3_arrives 62 = .ok (.iload_n 1, 1) := dk_27 (dk_at dksX3_arrives_2 16 rfl rfl)
theorem dX3_arrives_63 : decode cX3_arrives 63 = .ok (.invokevirtual 251, 3) := dk_182 0 251 (dk_at dksX3_arrives_2 17 rfl rfl)
theorem dX3_arrives_66 : decode cX3_arrives 66 = .ok (.iadd, 1) := dk_96 (dk_at dksX3_arrives_2 20 rfl rfl)
theorem dX3_arrives_67 : decode cX3_arrives 67 = .ok (.ireturn, 1) := dk_172 (dk_at dksX3_arrives_2 21 rfl rfl)
abbrev cX3_slow : ByteArray := prog_19_method_41_code
def yX3_slow : MethodName := ⟨RX3, "slow", "(I)I"⟩
def dkwX3_slow_2 : List UInt8 := [132, 3, 1, 167, 255, 209, 28, 172]
abbrev dktX3_slow_2 : List UInt8 := dkwX3_slow_2 ++ []
def dkwX3_slow_1 : List UInt8 := [122, 4, 126, 4, 160, 0, 17, 42, 180, 0, 56, 29, 46, 7, 162, 0, 7, 4, 167, 0, 4, 3, 96, 61]
abbrev dktX3_slow_1 : List UInt8 := dkwX3_slow_1 ++ dktX3_slow_2
def dkwX3_slow_0 : List UInt8 := [3, 61, 3, 62, 29, 42, 180, 0, 213, 162, 0, 45, 28, 29, 27, 159, 0, 30, 42, 27, 182, 0, 248, 29]
abbrev dktX3_slow_0 : List UInt8 := dkwX3_slow_0 ++ dktX3_slow_1
theorem dksX3_slow_0 : cX3_slow.data.toList.drop 0 = dktX3_slow_0 := by decide +kernel
theorem dksX3_slow_1 : cX3_slow.data.toList.drop 24 = dktX3_slow_1 := dk_seg dksX3_slow_0 24 rfl rfl
theorem dksX3_slow_2 : cX3_slow.data.toList.drop 48 = dktX3_slow_2 := dk_seg dksX3_slow_1 24 rfl rfl
theorem dX3_slow_0 : decode cX3_slow 0 = .ok (.iconst 0, 1) := dk_3 (dk_at dksX3_slow_0 0 rfl rfl)
theorem dX3_slow_1 : decode cX3_slow 1 = .ok (.istore_n 2, 1) := dk_61 (dk_at dksX3_slow_0 1 rfl rfl)
theorem dX3_slow_2 : decode cX3_slow 2 = .ok (.iconst 0, 1) := dk_3 (dk_at dksX3_slow_0 2 rfl rfl)
theorem dX3_slow_3 : decode cX3_slow 3 = .ok (.istore_n 3, 1) := dk_62 (dk_at dksX3_slow_0 3 rfl rfl)
theorem dX3_slow_4 : decode cX3_slow 4 = .ok (.iload_n 3, 1) := dk_29 (dk_at dksX3_slow_0 4 rfl rfl)
theorem dX3_slow_5 : decode cX3_slow 5 = .ok (.aload_n 0, 1) := dk_42 (dk_at dksX3_slow_0 5 rfl rfl)
theorem dX3_slow_6 : decode cX3_slow 6 = .ok (.getfield 213, 3) := dk_180 0 213 (dk_at dksX3_slow_0 6 rfl rfl)
theorem dX3_slow_9 : decode cX3_slow 9 = .ok (.if_icmp .ge 45, 3) := dk_162 0 45 (dk_at dksX3_slow_0 9 rfl rfl)
theorem dX3_slow_12 : decode cX3_slow 12 = .ok (.iload_n 2, 1) := dk_28 (dk_at dksX3_slow_0 12 rfl rfl)
theorem dX3_slow_13 : decode cX3_slow 13 = .ok (.iload_n 3, 1) := dk_29 (dk_at dksX3_slow_0 13 rfl rfl)
theorem dX3_slow_14 : decode cX3_slow 14 = .ok (.iload_n 1, 1) := dk_27 (dk_at dksX3_slow_0 14 rfl rfl)
theorem dX3_slow_15 : decode cX3_slow 15 = .ok (.if_icmp .eq 30, 3) := dk_159 0 30 (dk_at dksX3_slow_0 15 rfl rfl)
theorem dX3_slow_18 : decode cX3_slow 18 = .ok (.aload_n 0, 1) := dk_42 (dk_at dksX3_slow_0 18 rfl rfl)
theorem dX3_slow_19 : decode cX3_slow 19 = .ok (.iload_n 1, 1) := dk_27 (dk_at dksX3_slow_0 19 rfl rfl)
theorem dX3_slow_20 : decode cX3_slow 20 = .ok (.invokevirtual 248, 3) := dk_182 0 248 (dk_at dksX3_slow_0 20 rfl rfl)
theorem dX3_slow_23 : decode cX3_slow 23 = .ok (.iload_n 3, 1) := dk_29 (dk_at dksX3_slow_0 23 rfl rfl)
theorem dX3_slow_24 : decode cX3_slow 24 = .ok (.ishr, 1) := dk_122 (dk_at dksX3_slow_1 0 rfl rfl)
theorem dX3_slow_25 : decode cX3_slow 25 = .ok (.iconst 1, 1) := dk_4 (dk_at dksX3_slow_1 1 rfl rfl)
theorem dX3_slow_26 : decode cX3_slow 26 = .ok (.iand, 1) := dk_126 (dk_at dksX3_slow_1 2 rfl rfl)
theorem dX3_slow_27 : decode cX3_slow 27 = .ok (.iconst 1, 1) := dk_4 (dk_at dksX3_slow_1 3 rfl rfl)
theorem dX3_slow_28 : decode cX3_slow 28 = .ok (.if_icmp .ne 17, 3) := dk_160 0 17 (dk_at dksX3_slow_1 4 rfl rfl)
theorem dX3_slow_31 : decode cX3_slow 31 = .ok (.aload_n 0, 1) := dk_42 (dk_at dksX3_slow_1 7 rfl rfl)
theorem dX3_slow_32 : decode cX3_slow 32 = .ok (.getfield 56, 3) := dk_180 0 56 (dk_at dksX3_slow_1 8 rfl rfl)
theorem dX3_slow_35 : decode cX3_slow 35 = .ok (.iload_n 3, 1) := dk_29 (dk_at dksX3_slow_1 11 rfl rfl)
theorem dX3_slow_36 : decode cX3_slow 36 = .ok (.iaload, 1) := dk_46 (dk_at dksX3_slow_1 12 rfl rfl)
theorem dX3_slow_37 : decode cX3_slow 37 = .ok (.iconst 4, 1) := dk_7 (dk_at dksX3_slow_1 13 rfl rfl)
theorem dX3_slow_38 : decode cX3_slow 38 = .ok (.if_icmp .ge 7, 3) := dk_162 0 7 (dk_at dksX3_slow_1 14 rfl rfl)
theorem dX3_slow_41 : decode cX3_slow 41 = .ok (.iconst 1, 1) := dk_4 (dk_at dksX3_slow_1 17 rfl rfl)
theorem dX3_slow_42 : decode cX3_slow 42 = .ok (.goto 4, 3) := dk_167 0 4 (dk_at dksX3_slow_1 18 rfl rfl)
theorem dX3_slow_45 : decode cX3_slow 45 = .ok (.iconst 0, 1) := dk_3 (dk_at dksX3_slow_1 21 rfl rfl)
theorem dX3_slow_46 : decode cX3_slow 46 = .ok (.iadd, 1) := dk_96 (dk_at dksX3_slow_1 22 rfl rfl)
theorem dX3_slow_47 : decode cX3_slow 47 = .ok (.istore_n 2, 1) := dk_61 (dk_at dksX3_slow_1 23 rfl rfl)
theorem dX3_slow_48 : decode cX3_slow 48 = .ok (.iinc 3 1, 3) := dk_132 3 1 (dk_at dksX3_slow_2 0 rfl rfl)
theorem dX3_slow_51 : decode cX3_slow 51 = .ok (.goto (-47), 3) := dk_167 255 209 (dk_at dksX3_slow_2 3 rfl rfl)
theorem dX3_slow_54 : decode cX3_slow 54 = .ok (.iload_n 2, 1) := dk_28 (dk_at dksX3_slow_2 6 rfl rfl)
theorem dX3_slow_55 : decode cX3_slow 55 = .ok (.ireturn, 1) := dk_172 (dk_at dksX3_slow_2 7 rfl rfl)
abbrev cX3_party : ByteArray := prog_19_method_39_code
def yX3_party : MethodName := ⟨RX3, "party", "(I)I"⟩
def dkwX3_party_2 : List UInt8 := [3, 128, 61, 132, 3, 1, 167, 255, 210, 28, 172]
abbrev dktX3_party_2 : List UInt8 := dkwX3_party_2 ++ []
def dkwX3_party_1 : List UInt8 := [160, 0, 24, 42, 180, 0, 62, 29, 46, 42, 180, 0, 62, 27, 46, 160, 0, 9, 4, 29, 120, 167, 0, 4]
abbrev dktX3_party_1 : List UInt8 := dkwX3_party_1 ++ dktX3_party_2
def dkwX3_party_0 : List UInt8 := [4, 27, 120, 61, 3, 62, 29, 42, 180, 0, 213, 162, 0, 44, 28, 42, 180, 0, 59, 29, 46, 27]
abbrev dktX3_party_0 : List UInt8 := dkwX3_party_0 ++ dktX3_party_1
theorem dksX3_party_0 : cX3_party.data.toList.drop 0 = dktX3_party_0 := by decide +kernel
theorem dksX3_party_1 : cX3_party.data.toList.drop 22 = dktX3_party_1 := dk_seg dksX3_party_0 22 rfl rfl
theorem dksX3_party_2 : cX3_party.data.toList.drop 46 = dktX3_party_2 := dk_seg dksX3_party_1 24 rfl rfl
theorem dX3_party_0 : decode cX3_party 0 = .ok (.iconst 1, 1) := dk_4 (dk_at dksX3_party_0 0 rfl rfl)
theorem dX3_party_1 : decode cX3_party 1 = .ok (.iload_n 1, 1) := dk_27 (dk_at dksX3_party_0 1 rfl rfl)
theorem dX3_party_2 : decode cX3_party 2 = .ok (.ishl, 1) := dk_120 (dk_at dksX3_party_0 2 rfl rfl)
theorem dX3_party_3 : decode cX3_party 3 = .ok (.istore_n 2, 1) := dk_61 (dk_at dksX3_party_0 3 rfl rfl)
theorem dX3_party_4 : decode cX3_party 4 = .ok (.iconst 0, 1) := dk_3 (dk_at dksX3_party_0 4 rfl rfl)
theorem dX3_party_5 : decode cX3_party 5 = .ok (.istore_n 3, 1) := dk_62 (dk_at dksX3_party_0 5 rfl rfl)
theorem dX3_party_6 : decode cX3_party 6 = .ok (.iload_n 3, 1) := dk_29 (dk_at dksX3_party_0 6 rfl rfl)
theorem dX3_party_7 : decode cX3_party 7 = .ok (.aload_n 0, 1) := dk_42 (dk_at dksX3_party_0 7 rfl rfl)
theorem dX3_party_8 : decode cX3_party 8 = .ok (.getfield 213, 3) := dk_180 0 213 (dk_at dksX3_party_0 8 rfl rfl)
theorem dX3_party_11 : decode cX3_party 11 = .ok (.if_icmp .ge 44, 3) := dk_162 0 44 (dk_at dksX3_party_0 11 rfl rfl)
theorem dX3_party_14 : decode cX3_party 14 = .ok (.iload_n 2, 1) := dk_28 (dk_at dksX3_party_0 14 rfl rfl)
theorem dX3_party_15 : decode cX3_party 15 = .ok (.aload_n 0, 1) := dk_42 (dk_at dksX3_party_0 15 rfl rfl)
theorem dX3_party_16 : decode cX3_party 16 = .ok (.getfield 59, 3) := dk_180 0 59 (dk_at dksX3_party_0 16 rfl rfl)
theorem dX3_party_19 : decode cX3_party 19 = .ok (.iload_n 3, 1) := dk_29 (dk_at dksX3_party_0 19 rfl rfl)
theorem dX3_party_20 : decode cX3_party 20 = .ok (.iaload, 1) := dk_46 (dk_at dksX3_party_0 20 rfl rfl)
theorem dX3_party_21 : decode cX3_party 21 = .ok (.iload_n 1, 1) := dk_27 (dk_at dksX3_party_0 21 rfl rfl)
theorem dX3_party_22 : decode cX3_party 22 = .ok (.if_icmp .ne 24, 3) := dk_160 0 24 (dk_at dksX3_party_1 0 rfl rfl)
theorem dX3_party_25 : decode cX3_party 25 = .ok (.aload_n 0, 1) := dk_42 (dk_at dksX3_party_1 3 rfl rfl)
theorem dX3_party_26 : decode cX3_party 26 = .ok (.getfield 62, 3) := dk_180 0 62 (dk_at dksX3_party_1 4 rfl rfl)
theorem dX3_party_29 : decode cX3_party 29 = .ok (.iload_n 3, 1) := dk_29 (dk_at dksX3_party_1 7 rfl rfl)
theorem dX3_party_30 : decode cX3_party 30 = .ok (.iaload, 1) := dk_46 (dk_at dksX3_party_1 8 rfl rfl)
theorem dX3_party_31 : decode cX3_party 31 = .ok (.aload_n 0, 1) := dk_42 (dk_at dksX3_party_1 9 rfl rfl)
theorem dX3_party_32 : decode cX3_party 32 = .ok (.getfield 62, 3) := dk_180 0 62 (dk_at dksX3_party_1 10 rfl rfl)
theorem dX3_party_35 : decode cX3_party 35 = .ok (.iload_n 1, 1) := dk_27 (dk_at dksX3_party_1 13 rfl rfl)
theorem dX3_party_36 : decode cX3_party 36 = .ok (.iaload, 1) := dk_46 (dk_at dksX3_party_1 14 rfl rfl)
theorem dX3_party_37 : decode cX3_party 37 = .ok (.if_icmp .ne 9, 3) := dk_160 0 9 (dk_at dksX3_party_1 15 rfl rfl)
theorem dX3_party_40 : decode cX3_party 40 = .ok (.iconst 1, 1) := dk_4 (dk_at dksX3_party_1 18 rfl rfl)
theorem dX3_party_41 : decode cX3_party 41 = .ok (.iload_n 3, 1) := dk_29 (dk_at dksX3_party_1 19 rfl rfl)
theorem dX3_party_42 : decode cX3_party 42 = .ok (.ishl, 1) := dk_120 (dk_at dksX3_party_1 20 rfl rfl)
theorem dX3_party_43 : decode cX3_party 43 = .ok (.goto 4, 3) := dk_167 0 4 (dk_at dksX3_party_1 21 rfl rfl)
theorem dX3_party_46 : decode cX3_party 46 = .ok (.iconst 0, 1) := dk_3 (dk_at dksX3_party_2 0 rfl rfl)
theorem dX3_party_47 : decode cX3_party 47 = .ok (.ior, 1) := dk_128 (dk_at dksX3_party_2 1 rfl rfl)
theorem dX3_party_48 : decode cX3_party 48 = .ok (.istore_n 2, 1) := dk_61 (dk_at dksX3_party_2 2 rfl rfl)
theorem dX3_party_49 : decode cX3_party 49 = .ok (.iinc 3 1, 3) := dk_132 3 1 (dk_at dksX3_party_2 3 rfl rfl)
theorem dX3_party_52 : decode cX3_party 52 = .ok (.goto (-46), 3) := dk_167 255 210 (dk_at dksX3_party_2 6 rfl rfl)
theorem dX3_party_55 : decode cX3_party 55 = .ok (.iload_n 2, 1) := dk_28 (dk_at dksX3_party_2 9 rfl rfl)
theorem dX3_party_56 : decode cX3_party 56 = .ok (.ireturn, 1) := dk_172 (dk_at dksX3_party_2 10 rfl rfl)
abbrev cX3_many : ByteArray := prog_19_method_40_code
def yX3_many : MethodName := ⟨RX3, "many", "(I)I"⟩
def dkwX3_many_1 : List UInt8 := [27, 172]
abbrev dktX3_many_1 : List UInt8 := dkwX3_many_1 ++ []
def dkwX3_many_0 : List UInt8 := [3, 60, 3, 61, 28, 16, 16, 162, 0, 17, 27, 26, 28, 122, 4, 126, 96, 60, 132, 2, 1, 167, 255, 239]
abbrev dktX3_many_0 : List UInt8 := dkwX3_many_0 ++ dktX3_many_1
theorem dksX3_many_0 : cX3_many.data.toList.drop 0 = dktX3_many_0 := by decide +kernel
theorem dksX3_many_1 : cX3_many.data.toList.drop 24 = dktX3_many_1 := dk_seg dksX3_many_0 24 rfl rfl
theorem dX3_many_0 : decode cX3_many 0 = .ok (.iconst 0, 1) := dk_3 (dk_at dksX3_many_0 0 rfl rfl)
theorem dX3_many_1 : decode cX3_many 1 = .ok (.istore_n 1, 1) := dk_60 (dk_at dksX3_many_0 1 rfl rfl)
theorem dX3_many_2 : decode cX3_many 2 = .ok (.iconst 0, 1) := dk_3 (dk_at dksX3_many_0 2 rfl rfl)
theorem dX3_many_3 : decode cX3_many 3 = .ok (.istore_n 2, 1) := dk_61 (dk_at dksX3_many_0 3 rfl rfl)
theorem dX3_many_4 : decode cX3_many 4 = .ok (.iload_n 2, 1) := dk_28 (dk_at dksX3_many_0 4 rfl rfl)
theorem dX3_many_5 : decode cX3_many 5 = .ok (.bipush 16, 2) := dk_16 16 (dk_at dksX3_many_0 5 rfl rfl)
theorem dX3_many_7 : decode cX3_many 7 = .ok (.if_icmp .ge 17, 3) := dk_162 0 17 (dk_at dksX3_many_0 7 rfl rfl)
theorem dX3_many_10 : decode cX3_many 10 = .ok (.iload_n 1, 1) := dk_27 (dk_at dksX3_many_0 10 rfl rfl)
theorem dX3_many_11 : decode cX3_many 11 = .ok (.iload_n 0, 1) := dk_26 (dk_at dksX3_many_0 11 rfl rfl)
theorem dX3_many_12 : decode cX3_many 12 = .ok (.iload_n 2, 1) := dk_28 (dk_at dksX3_many_0 12 rfl rfl)
theorem dX3_many_13 : decode cX3_many 13 = .ok (.ishr, 1) := dk_122 (dk_at dksX3_many_0 13 rfl rfl)
theorem dX3_many_14 : decode cX3_many 14 = .ok (.iconst 1, 1) := dk_4 (dk_at dksX3_many_0 14 rfl rfl)
theorem dX3_many_15 : decode cX3_many 15 = .ok (.iand, 1) := dk_126 (dk_at dksX3_many_0 15 rfl rfl)
theorem dX3_many_16 : decode cX3_many 16 = .ok (.iadd, 1) := dk_96 (dk_at dksX3_many_0 16 rfl rfl)
theorem dX3_many_17 : decode cX3_many 17 = .ok (.istore_n 1, 1) := dk_60 (dk_at dksX3_many_0 17 rfl rfl)
theorem dX3_many_18 : decode cX3_many 18 = .ok (.iinc 2 1, 3) := dk_132 2 1 (dk_at dksX3_many_0 18 rfl rfl)
theorem dX3_many_21 : decode cX3_many 21 = .ok (.goto (-17), 3) := dk_167 255 239 (dk_at dksX3_many_0 21 rfl rfl)
theorem dX3_many_24 : decode cX3_many 24 = .ok (.iload_n 1, 1) := dk_27 (dk_at dksX3_many_1 0 rfl rfl)
theorem dX3_many_25 : decode cX3_many 25 = .ok (.ireturn, 1) := dk_172 (dk_at dksX3_many_1 1 rfl rfl)
abbrev cX3_hide : ByteArray := prog_19_method_44_code
def yX3_hide : MethodName := ⟨RX3, "hide", "(IZ)I"⟩
def dkwX3_hide_4 : List UInt8 := [84, 21, 4, 153, 0, 7, 4, 167, 0, 4, 3, 172]
abbrev dktX3_hide_4 : List UInt8 := dkwX3_hide_4 ++ []
def dkwX3_hide_3 : List UInt8 := [161, 0, 18, 167, 0, 12, 42, 29, 4, 182, 0, 228, 154, 0, 6, 16, 253, 172, 42, 180, 0, 68, 27, 28]
abbrev dktX3_hide_3 : List UInt8 := dkwX3_hide_3 ++ dktX3_hide_4
def dkwX3_hide_2 : List UInt8 := [51, 54, 4, 21, 4, 28, 159, 0, 36, 28, 153, 0, 20, 42, 29, 182, 0, 219, 42, 180, 0, 19, 29, 46]
abbrev dktX3_hide_2 : List UInt8 := dkwX3_hide_2 ++ dktX3_hide_3
def dkwX3_hide_1 : List UInt8 := [180, 0, 62, 27, 46, 62, 42, 180, 0, 7, 29, 46, 5, 159, 0, 6, 16, 244, 172, 42, 180, 0, 68, 27]
abbrev dktX3_hide_1 : List UInt8 := dkwX3_hide_1 ++ dktX3_hide_2
def dkwX3_hide_0 : List UInt8 := [42, 27, 182, 0, 235, 154, 0, 5, 2, 172, 42, 27, 182, 0, 238, 154, 0, 6, 16, 254, 172, 42]
abbrev dktX3_hide_0 : List UInt8 := dkwX3_hide_0 ++ dktX3_hide_1
theorem dksX3_hide_0 : cX3_hide.data.toList.drop 0 = dktX3_hide_0 := by decide +kernel
theorem dksX3_hide_1 : cX3_hide.data.toList.drop 22 = dktX3_hide_1 := dk_seg dksX3_hide_0 22 rfl rfl
theorem dksX3_hide_2 : cX3_hide.data.toList.drop 46 = dktX3_hide_2 := dk_seg dksX3_hide_1 24 rfl rfl
theorem dksX3_hide_3 : cX3_hide.data.toList.drop 70 = dktX3_hide_3 := dk_seg dksX3_hide_2 24 rfl rfl
theorem dksX3_hide_4 : cX3_hide.data.toList.drop 94 = dktX3_hide_4 := dk_seg dksX3_hide_3 24 rfl rfl
theorem dX3_hide_0 : decode cX3_hide 0 = .ok (.aload_n 0, 1) := dk_42 (dk_at dksX3_hide_0 0 rfl rfl)
theorem dX3_hide_1 : decode cX3_hide 1 = .ok (.iload_n 1, 1) := dk_27 (dk_at dksX3_hide_0 1 rfl rfl)
theorem dX3_hide_2 : decode cX3_hide 2 = .ok (.invokevirtual 235, 3) := dk_182 0 235 (dk_at dksX3_hide_0 2 rfl rfl)
theorem dX3_hide_5 : decode cX3_hide 5 = .ok (.ifCond .ne 5, 3) := dk_154 0 5 (dk_at dksX3_hide_0 5 rfl rfl)
theorem dX3_hide_8 : decode cX3_hide 8 = .ok (.iconst (-1), 1) := dk_2 (dk_at dksX3_hide_0 8 rfl rfl)
theorem dX3_hide_9 : decode cX3_hide 9 = .ok (.ireturn, 1) := dk_172 (dk_at dksX3_hide_0 9 rfl rfl)
theorem dX3_hide_10 : decode cX3_hide 10 = .ok (.aload_n 0, 1) := dk_42 (dk_at dksX3_hide_0 10 rfl rfl)
theorem dX3_hide_11 : decode cX3_hide 11 = .ok (.iload_n 1, 1) := dk_27 (dk_at dksX3_hide_0 11 rfl rfl)
theorem dX3_hide_12 : decode cX3_hide 12 = .ok (.invokevirtual 238, 3) := dk_182 0 238 (dk_at dksX3_hide_0 12 rfl rfl)
theorem dX3_hide_15 : decode cX3_hide 15 = .ok (.ifCond .ne 6, 3) := dk_154 0 6 (dk_at dksX3_hide_0 15 rfl rfl)
theorem dX3_hide_18 : decode cX3_hide 18 = .ok (.bipush (-2), 2) := dk_16 254 (dk_at dksX3_hide_0 18 rfl rfl)
theorem dX3_hide_20 : decode cX3_hide 20 = .ok (.ireturn, 1) := dk_172 (dk_at dksX3_hide_0 20 rfl rfl)
theorem dX3_hide_21 : decode cX3_hide 21 = .ok (.aload_n 0, 1) := dk_42 (dk_at dksX3_hide_0 21 rfl rfl)
theorem dX3_hide_22 : decode cX3_hide 22 = .ok (.getfield 62, 3) := dk_180 0 62 (dk_at dksX3_hide_1 0 rfl rfl)
theorem dX3_hide_25 : decode cX3_hide 25 = .ok (.iload_n 1, 1) := dk_27 (dk_at dksX3_hide_1 3 rfl rfl)
theorem dX3_hide_26 : decode cX3_hide 26 = .ok (.iaload, 1) := dk_46 (dk_at dksX3_hide_1 4 rfl rfl)
theorem dX3_hide_27 : decode cX3_hide 27 = .ok (.istore_n 3, 1) := dk_62 (dk_at dksX3_hide_1 5 rfl rfl)
theorem dX3_hide_28 : decode cX3_hide 28 = .ok (.aload_n 0, 1) := dk_42 (dk_at dksX3_hide_1 6 rfl rfl)
theorem dX3_hide_29 : decode cX3_hide 29 = .ok (.getfield 7, 3) := dk_180 0 7 (dk_at dksX3_hide_1 7 rfl rfl)
theorem dX3_hide_32 : decode cX3_hide 32 = .ok (.iload_n 3, 1) := dk_29 (dk_at dksX3_hide_1 10 rfl rfl)
theorem dX3_hide_33 : decode cX3_hide 33 = .ok (.iaload, 1) := dk_46 (dk_at dksX3_hide_1 11 rfl rfl)
theorem dX3_hide_34 : decode cX3_hide 34 = .ok (.iconst 2, 1) := dk_5 (dk_at dksX3_hide_1 12 rfl rfl)
theorem dX3_hide_35 : decode cX3_hide 35 = .ok (.if_icmp .eq 6, 3) := dk_159 0 6 (dk_at dksX3_hide_1 13 rfl rfl)
theorem dX3_hide_38 : decode cX3_hide 38 = .ok (.bipush (-12), 2) := dk_16 244 (dk_at dksX3_hide_1 16 rfl rfl)
theorem dX3_hide_40 : decode cX3_hide 40 = .ok (.ireturn, 1) := dk_172 (dk_at dksX3_hide_1 18 rfl rfl)
theorem dX3_hide_41 : decode cX3_hide 41 = .ok (.aload_n 0, 1) := dk_42 (dk_at dksX3_hide_1 19 rfl rfl)
theorem dX3_hide_42 : decode cX3_hide 42 = .ok (.getfield 68, 3) := dk_180 0 68 (dk_at dksX3_hide_1 20 rfl rfl)
theorem dX3_hide_45 : decode cX3_hide 45 = .ok (.iload_n 1, 1) := dk_27 (dk_at dksX3_hide_1 23 rfl rfl)
theorem dX3_hide_46 : decode cX3_hide 46 = .ok (.baload, 1) := dk_51 (dk_at dksX3_hide_2 0 rfl rfl)
theorem dX3_hide_47 : decode cX3_hide 47 = .ok (.istore 4, 2) := dk_54 4 (dk_at dksX3_hide_2 1 rfl rfl)
theorem dX3_hide_49 : decode cX3_hide 49 = .ok (.iload 4, 2) := dk_21 4 (dk_at dksX3_hide_2 3 rfl rfl)
theorem dX3_hide_51 : decode cX3_hide 51 = .ok (.iload_n 2, 1) := dk_28 (dk_at dksX3_hide_2 5 rfl rfl)
theorem dX3_hide_52 : decode cX3_hide 52 = .ok (.if_icmp .eq 36, 3) := dk_159 0 36 (dk_at dksX3_hide_2 6 rfl rfl)
theorem dX3_hide_55 : decode cX3_hide 55 = .ok (.iload_n 2, 1) := dk_28 (dk_at dksX3_hide_2 9 rfl rfl)
theorem dX3_hide_56 : decode cX3_hide 56 = .ok (.ifCond .eq 20, 3) := dk_153 0 20 (dk_at dksX3_hide_2 10 rfl rfl)
theorem dX3_hide_59 : decode cX3_hide 59 = .ok (.aload_n 0, 1) := dk_42 (dk_at dksX3_hide_2 13 rfl rfl)
theorem dX3_hide_60 : decode cX3_hide 60 = .ok (.iload_n 3, 1) := dk_29 (dk_at dksX3_hide_2 14 rfl rfl)
theorem dX3_hide_61 : decode cX3_hide 61 = .ok (.invokevirtual 219, 3) := dk_182 0 219 (dk_at dksX3_hide_2 15 rfl rfl)
theorem dX3_hide_64 : decode cX3_hide 64 = .ok (.aload_n 0, 1) := dk_42 (dk_at dksX3_hide_2 18 rfl rfl)
theorem dX3_hide_65 : decode cX3_hide 65 = .ok (.getfield 19, 3) := dk_180 0 19 (dk_at dksX3_hide_2 19 rfl rfl)
theorem dX3_hide_68 : decode cX3_hide 68 = .ok (.iload_n 3, 1) := dk_29 (dk_at dksX3_hide_2 22 rfl rfl)
theorem dX3_hide_69 : decode cX3_hide 69 = .ok (.iaload, 1) := dk_46 (dk_at dksX3_hide_2 23 rfl rfl)
theorem dX3_hide_70 : decode cX3_hide 70 = .ok (.if_icmp .lt 18, 3) := dk_161 0 18 (dk_at dksX3_hide_3 0 rfl rfl)
theorem dX3_hide_73 : decode cX3_hide 73 = .ok (.goto 12, 3) := dk_167 0 12 (dk_at dksX3_hide_3 3 rfl rfl)
theorem dX3_hide_76 : decode cX3_hide 76 = .ok (.aload_n 0, 1) := dk_42 (dk_at dksX3_hide_3 6 rfl rfl)
theorem dX3_hide_77 : decode cX3_hide 77 = .ok (.iload_n 3, 1) := dk_29 (dk_at dksX3_hide_3 7 rfl rfl)
theorem dX3_hide_78 : decode cX3_hide 78 = .ok (.iconst 1, 1) := dk_4 (dk_at dksX3_hide_3 8 rfl rfl)
theorem dX3_hide_79 : decode cX3_hide 79 = .ok (.invokevirtual 228, 3) := dk_182 0 228 (dk_at dksX3_hide_3 9 rfl rfl)
theorem dX3_hide_82 : decode cX3_hide 82 = .ok (.ifCond .ne 6, 3) := dk_154 0 6 (dk_at dksX3_hide_3 12 rfl rfl)
theorem dX3_hide_85 : decode cX3_hide 85 = .ok (.bipush (-3), 2) := dk_16 253 (dk_at dksX3_hide_3 15 rfl rfl)
theorem dX3_hide_87 : decode cX3_hide 87 = .ok (.ireturn, 1) := dk_172 (dk_at dksX3_hide_3 17 rfl rfl)
theorem dX3_hide_88 : decode cX3_hide 88 = .ok (.aload_n 0, 1) := dk_42 (dk_at dksX3_hide_3 18 rfl rfl)
theorem dX3_hide_89 : decode cX3_hide 89 = .ok (.getfield 68, 3) := dk_180 0 68 (dk_at dksX3_hide_3 19 rfl rfl)
theorem dX3_hide_92 : decode cX3_hide 92 = .ok (.iload_n 1, 1) := dk_27 (dk_at dksX3_hide_3 22 rfl rfl)
theorem dX3_hide_93 : decode cX3_hide 93 = .ok (.iload_n 2, 1) := dk_28 (dk_at dksX3_hide_3 23 rfl rfl)
theorem dX3_hide_94 : decode cX3_hide 94 = .ok (.bastore, 1) := dk_84 (dk_at dksX3_hide_4 0 rfl rfl)
theorem dX3_hide_95 : decode cX3_hide 95 = .ok (.iload 4, 2) := dk_21 4 (dk_at dksX3_hide_4 1 rfl rfl)
theorem dX3_hide_97 : decode cX3_hide 97 = .ok (.ifCond .eq 7, 3) := dk_153 0 7 (dk_at dksX3_hide_4 3 rfl rfl)
theorem dX3_hide_100 : decode cX3_hide 100 = .ok (.iconst 1, 1) := dk_4 (dk_at dksX3_hide_4 6 rfl rfl)
theorem dX3_hide_101 : decode cX3_hide 101 = .ok (.goto 4, 3) := dk_167 0 4 (dk_at dksX3_hide_4 7 rfl rfl)
theorem dX3_hide_104 : decode cX3_hide 104 = .ok (.iconst 0, 1) := dk_3 (dk_at dksX3_hide_4 10 rfl rfl)
theorem dX3_hide_105 : decode cX3_hide 105 = .ok (.ireturn, 1) := dk_172 (dk_at dksX3_hide_4 11 rfl rfl)
abbrev cX3_over : ByteArray := prog_19_method_45_code
def yX3_over : MethodName := ⟨RX3, "over", "(I)I"⟩
def dkwX3_over_3 : List UInt8 := [46, 79, 132, 3, 1, 167, 255, 218, 28, 184, 1, 1, 172]
abbrev dktX3_over_3 : List UInt8 := dkwX3_over_3 ++ []
def dkwX3_over_2 : List UInt8 := [180, 0, 62, 29, 28, 29, 122, 4, 126, 4, 160, 0, 9, 17, 0, 201, 167, 0, 9, 42, 180, 0, 62, 29]
abbrev dktX3_over_2 : List UInt8 := dkwX3_over_2 ++ dktX3_over_3
def dkwX3_over_1 : List UInt8 := [154, 0, 6, 16, 254, 172, 42, 27, 182, 0, 248, 61, 3, 62, 29, 42, 180, 0, 213, 162, 0, 36, 42]
abbrev dktX3_over_1 : List UInt8 := dkwX3_over_1 ++ dktX3_over_2
def dkwX3_over_0 : List UInt8 := [42, 27, 182, 0, 235, 153, 0, 12, 42, 180, 0, 59, 27, 46, 155, 0, 5, 2, 172, 42, 27, 182, 0, 238]
abbrev dktX3_over_0 : List UInt8 := dkwX3_over_0 ++ dktX3_over_1
theorem dksX3_over_0 : cX3_over.data.toList.drop 0 = dktX3_over_0 := by decide +kernel
theorem dksX3_over_1 : cX3_over.data.toList.drop 24 = dktX3_over_1 := dk_seg dksX3_over_0 24 rfl rfl
theorem dksX3_over_2 : cX3_over.data.toList.drop 47 = dktX3_over_2 := dk_seg dksX3_over_1 23 rfl rfl
theorem dksX3_over_3 : cX3_over.data.toList.drop 71 = dktX3_over_3 := dk_seg dksX3_over_2 24 rfl rfl
theorem dX3_over_0 : decode cX3_over 0 = .ok (.aload_n 0, 1) := dk_42 (dk_at dksX3_over_0 0 rfl rfl)
theorem dX3_over_1 : decode cX3_over 1 = .ok (.iload_n 1, 1) := dk_27 (dk_at dksX3_over_0 1 rfl rfl)
theorem dX3_over_2 : decode cX3_over 2 = .ok (.invokevirtual 235, 3) := dk_182 0 235 (dk_at dksX3_over_0 2 rfl rfl)
theorem dX3_over_5 : decode cX3_over 5 = .ok (.ifCond .eq 12, 3) := dk_153 0 12 (dk_at dksX3_over_0 5 rfl rfl)
theorem dX3_over_8 : decode cX3_over 8 = .ok (.aload_n 0, 1) := dk_42 (dk_at dksX3_over_0 8 rfl rfl)
theorem dX3_over_9 : decode cX3_over 9 = .ok (.getfield 59, 3) := dk_180 0 59 (dk_at dksX3_over_0 9 rfl rfl)
theorem dX3_over_12 : decode cX3_over 12 = .ok (.iload_n 1, 1) := dk_27 (dk_at dksX3_over_0 12 rfl rfl)
theorem dX3_over_13 : decode cX3_over 13 = .ok (.iaload, 1) := dk_46 (dk_at dksX3_over_0 13 rfl rfl)
theorem dX3_over_14 : decode cX3_over 14 = .ok (.ifCond .lt 5, 3) := dk_155 0 5 (dk_at dksX3_over_0 14 rfl rfl)
theorem dX3_over_17 : decode cX3_over 17 = .ok (.iconst (-1), 1) := dk_2 (dk_at dksX3_over_0 17 rfl rfl)
theorem dX3_over_18 : decode cX3_over 18 = .ok (.ireturn, 1) := dk_172 (dk_at dksX3_over_0 18 rfl rfl)
theorem dX3_over_19 : decode cX3_over 19 = .ok (.aload_n 0, 1) := dk_42 (dk_at dksX3_over_0 19 rfl rfl)
theorem dX3_over_20 : decode cX3_over 20 = .ok (.iload_n 1, 1) := dk_27 (dk_at dksX3_over_0 20 rfl rfl)
theorem dX3_over_21 : decode cX3_over 21 = .ok (.invokevirtual 238, 3) := dk_182 0 238 (dk_at dksX3_over_0 21 rfl rfl)
theorem dX3_over_24 : decode cX3_over 24 = .ok (.ifCond .ne 6, 3) := dk_154 0 6 (dk_at dksX3_over_1 0 rfl rfl)
theorem dX3_over_27 : decode cX3_over 27 = .ok (.bipush (-2), 2) := dk_16 254 (dk_at dksX3_over_1 3 rfl rfl)
theorem dX3_over_29 : decode cX3_over 29 = .ok (.ireturn, 1) := dk_172 (dk_at dksX3_over_1 5 rfl rfl)
theorem dX3_over_30 : decode cX3_over 30 = .ok (.aload_n 0, 1) := dk_42 (dk_at dksX3_over_1 6 rfl rfl)
theorem dX3_over_31 : decode cX3_over 31 = .ok (.iload_n 1, 1) := dk_27 (dk_at dksX3_over_1 7 rfl rfl)
theorem dX3_over_32 : decode cX3_over 32 = .ok (.invokevirtual 248, 3) := dk_182 0 248 (dk_at dksX3_over_1 8 rfl rfl)
theorem dX3_over_35 : decode cX3_over 35 = .ok (.istore_n 2, 1) := dk_61 (dk_at dksX3_over_1 11 rfl rfl)
theorem dX3_over_36 : decode cX3_over 36 = .ok (.iconst 0, 1) := dk_3 (dk_at dksX3_over_1 12 rfl rfl)
theorem dX3_over_37 : decode cX3_over 37 = .ok (.istore_n 3, 1) := dk_62 (dk_at dksX3_over_1 13 rfl rfl)
theorem dX3_over_38 : decode cX3_over 38 = .ok (.iload_n 3, 1) := dk_29 (dk_at dksX3_over_1 14 rfl rfl)
theorem dX3_over_39 : decode cX3_over 39 = .ok (.aload_n 0, 1) := dk_42 (dk_at dksX3_over_1 15 rfl rfl)
theorem dX3_over_40 : decode cX3_over 40 = .ok (.getfield 213, 3) := dk_180 0 213 (dk_at dksX3_over_1 16 rfl rfl)
theorem dX3_over_43 : decode cX3_over 43 = .ok (.if_icmp .ge 36, 3) := dk_162 0 36 (dk_at dksX3_over_1 19 rfl rfl)
theorem dX3_over_46 : decode cX3_over 46 = .ok (.aload_n 0, 1) := dk_42 (dk_at dksX3_over_1 22 rfl rfl)
theorem dX3_over_47 : decode cX3_over 47 = .ok (.getfield 62, 3) := dk_180 0 62 (dk_at dksX3_over_2 0 rfl rfl)
theorem dX3_over_50 : decode cX3_over 50 = .ok (.iload_n 3, 1) := dk_29 (dk_at dksX3_over_2 3 rfl rfl)
theorem dX3_over_51 : decode cX3_over 51 = .ok (.iload_n 2, 1) := dk_28 (dk_at dksX3_over_2 4 rfl rfl)
theorem dX3_over_52 : decode cX3_over 52 = .ok (.iload_n 3, 1) := dk_29 (dk_at dksX3_over_2 5 rfl rfl)
theorem dX3_over_53 : decode cX3_over 53 = .ok (.ishr, 1) := dk_122 (dk_at dksX3_over_2 6 rfl rfl)
theorem dX3_over_54 : decode cX3_over 54 = .ok (.iconst 1, 1) := dk_4 (dk_at dksX3_over_2 7 rfl rfl)
theorem dX3_over_55 : decode cX3_over 55 = .ok (.iand, 1) := dk_126 (dk_at dksX3_over_2 8 rfl rfl)
theorem dX3_over_56 : decode cX3_over 56 = .ok (.iconst 1, 1) := dk_4 (dk_at dksX3_over_2 9 rfl rfl)
theorem dX3_over_57 : decode cX3_over 57 = .ok (.if_icmp .ne 9, 3) := dk_160 0 9 (dk_at dksX3_over_2 10 rfl rfl)
theorem dX3_over_60 : decode cX3_over 60 = .ok (.sipush 201, 3) := dk_17 0 201 (dk_at dksX3_over_2 13 rfl rfl)
theorem dX3_over_63 : decode cX3_over 63 = .ok (.goto 9, 3) := dk_167 0 9 (dk_at dksX3_over_2 16 rfl rfl)
theorem dX3_over_66 : decode cX3_over 66 = .ok (.aload_n 0, 1) := dk_42 (dk_at dksX3_over_2 19 rfl rfl)
theorem dX3_over_67 : decode cX3_over 67 = .ok (.getfield 62, 3) := dk_180 0 62 (dk_at dksX3_over_2 20 rfl rfl)
theorem dX3_over_70 : decode cX3_over 70 = .ok (.iload_n 3, 1) := dk_29 (dk_at dksX3_over_2 23 rfl rfl)
theorem dX3_over_71 : decode cX3_over 71 = .ok (.iaload, 1) := dk_46 (dk_at dksX3_over_3 0 rfl rfl)
theorem dX3_over_72 : decode cX3_over 72 = .ok (.iastore, 1) := dk_79 (dk_at dksX3_over_3 1 rfl rfl)
theorem dX3_over_73 : decode cX3_over 73 = .ok (.iinc 3 1, 3) := dk_132 3 1 (dk_at dksX3_over_3 2 rfl rfl)
theorem dX3_over_76 : decode cX3_over 76 = .ok (.goto (-38), 3) := dk_167 255 218 (dk_at dksX3_over_3 5 rfl rfl)
theorem dX3_over_79 : decode cX3_over 79 = .ok (.iload_n 2, 1) := dk_28 (dk_at dksX3_over_3 8 rfl rfl)
theorem dX3_over_80 : decode cX3_over 80 = .ok (.invokestatic 257, 3) := dk_184 1 1 (dk_at dksX3_over_3 9 rfl rfl)
theorem dX3_over_83 : decode cX3_over 83 = .ok (.ireturn, 1) := dk_172 (dk_at dksX3_over_3 12 rfl rfl)
abbrev cX3_hour : ByteArray := prog_19_method_46_code
def yX3_hour : MethodName := ⟨RX3, "hour", "(I)I"⟩
def dkwX3_hour_4 : List UInt8 := [180, 0, 68, 28, 3, 84, 132, 2, 1, 167, 255, 195, 42, 180, 0, 190, 172]
abbrev dktX3_hour_4 : List UInt8 := dkwX3_hour_4 ++ []
def dkwX3_hour_3 : List UInt8 := [180, 0, 65, 28, 46, 42, 180, 0, 190, 163, 0, 21, 42, 180, 0, 62, 28, 92, 46, 16, 100, 100, 79, 42]
abbrev dktX3_hour_3 : List UInt8 := dkwX3_hour_3 ++ dktX3_hour_4
def dkwX3_hour_2 : List UInt8 := [162, 0, 59, 42, 180, 0, 62, 28, 46, 133, 20, 0, 244, 20, 0, 246, 184, 0, 160, 153, 0, 34, 42]
abbrev dktX3_hour_2 : List UInt8 := dkwX3_hour_2 ++ dktX3_hour_3
def dkwX3_hour_1 : List UInt8 := [164, 0, 6, 16, 254, 172, 42, 89, 180, 0, 190, 27, 96, 181, 0, 190, 3, 61, 28, 42, 180, 0, 213]
abbrev dktX3_hour_1 : List UInt8 := dkwX3_hour_1 ++ dktX3_hour_2
def dkwX3_hour_0 : List UInt8 := [27, 133, 10, 20, 1, 4, 184, 0, 160, 154, 0, 5, 2, 172, 42, 180, 0, 190, 27, 96, 17, 39, 15]
abbrev dktX3_hour_0 : List UInt8 := dkwX3_hour_0 ++ dktX3_hour_1
theorem dksX3_hour_0 : cX3_hour.data.toList.drop 0 = dktX3_hour_0 := by decide +kernel
theorem dksX3_hour_1 : cX3_hour.data.toList.drop 23 = dktX3_hour_1 := dk_seg dksX3_hour_0 23 rfl rfl
theorem dksX3_hour_2 : cX3_hour.data.toList.drop 46 = dktX3_hour_2 := dk_seg dksX3_hour_1 23 rfl rfl
theorem dksX3_hour_3 : cX3_hour.data.toList.drop 69 = dktX3_hour_3 := dk_seg dksX3_hour_2 23 rfl rfl
theorem dksX3_hour_4 : cX3_hour.data.toList.drop 93 = dktX3_hour_4 := dk_seg dksX3_hour_3 24 rfl rfl
theorem dX3_hour_0 : decode cX3_hour 0 = .ok (.iload_n 1, 1) := dk_27 (dk_at dksX3_hour_0 0 rfl rfl)
theorem dX3_hour_1 : decode cX3_hour 1 = .ok (.i2l, 1) := dk_133 (dk_at dksX3_hour_0 1 rfl rfl)
theorem dX3_hour_2 : decode cX3_hour 2 = .ok (.lconst 1, 1) := dk_10 (dk_at dksX3_hour_0 2 rfl rfl)
theorem dX3_hour_3 : decode cX3_hour 3 = .ok (.ldc2_w 260, 3) := dk_20 1 4 (dk_at dksX3_hour_0 3 rfl rfl)
theorem dX3_hour_6 : decode cX3_hour 6 = .ok (.invokestatic 160, 3) := dk_184 0 160 (dk_at dksX3_hour_0 6 rfl rfl)
theorem dX3_hour_9 : decode cX3_hour 9 = .ok (.ifCond .ne 5, 3) := dk_154 0 5 (dk_at dksX3_hour_0 9 rfl rfl)
theorem dX3_hour_12 : decode cX3_hour 12 = .ok (.iconst (-1), 1) := dk_2 (dk_at dksX3_hour_0 12 rfl rfl)
theorem dX3_hour_13 : decode cX3_hour 13 = .ok (.ireturn, 1) := dk_172 (dk_at dksX3_hour_0 13 rfl rfl)
theorem dX3_hour_14 : decode cX3_hour 14 = .ok (.aload_n 0, 1) := dk_42 (dk_at dksX3_hour_0 14 rfl rfl)
theorem dX3_hour_15 : decode cX3_hour 15 = .ok (.getfield 190, 3) := dk_180 0 190 (dk_at dksX3_hour_0 15 rfl rfl)
theorem dX3_hour_18 : decode cX3_hour 18 = .ok (.iload_n 1, 1) := dk_27 (dk_at dksX3_hour_0 18 rfl rfl)
theorem dX3_hour_19 : decode cX3_hour 19 = .ok (.iadd, 1) := dk_96 (dk_at dksX3_hour_0 19 rfl rfl)
theorem dX3_hour_20 : decode cX3_hour 20 = .ok (.sipush 9999, 3) := dk_17 39 15 (dk_at dksX3_hour_0 20 rfl rfl)
theorem dX3_hour_23 : decode cX3_hour 23 = .ok (.if_icmp .le 6, 3) := dk_164 0 6 (dk_at dksX3_hour_1 0 rfl rfl)
theorem dX3_hour_26 : decode cX3_hour 26 = .ok (.bipush (-2), 2) := dk_16 254 (dk_at dksX3_hour_1 3 rfl rfl)
theorem dX3_hour_28 : decode cX3_hour 28 = .ok (.ireturn, 1) := dk_172 (dk_at dksX3_hour_1 5 rfl rfl)
theorem dX3_hour_29 : decode cX3_hour 29 = .ok (.aload_n 0, 1) := dk_42 (dk_at dksX3_hour_1 6 rfl rfl)
theorem dX3_hour_30 : decode cX3_hour 30 = .ok (.dup, 1) := dk_89 (dk_at dksX3_hour_1 7 rfl rfl)
theorem dX3_hour_31 : decode cX3_hour 31 = .ok (.getfield 190, 3) := dk_180 0 190 (dk_at dksX3_hour_1 8 rfl rfl)
theorem dX3_hour_34 : decode cX3_hour 34 = .ok (.iload_n 1, 1) := dk_27 (dk_at dksX3_hour_1 11 rfl rfl)
theorem dX3_hour_35 : decode cX3_hour 35 = .ok (.iadd, 1) := dk_96 (dk_at dksX3_hour_1 12 rfl rfl)
theorem dX3_hour_36 : decode cX3_hour 36 = .ok (.putfield 190, 3) := dk_181 0 190 (dk_at dksX3_hour_1 13 rfl rfl)
theorem dX3_hour_39 : decode cX3_hour 39 = .ok (.iconst 0, 1) := dk_3 (dk_at dksX3_hour_1 16 rfl rfl)
theorem dX3_hour_40 : decode cX3_hour 40 = .ok (.istore_n 2, 1) := dk_61 (dk_at dksX3_hour_1 17 rfl rfl)
theorem dX3_hour_41 : decode cX3_hour 41 = .ok (.iload_n 2, 1) := dk_28 (dk_at dksX3_hour_1 18 rfl rfl)
theorem dX3_hour_42 : decode cX3_hour 42 = .ok (.aload_n 0, 1) := dk_42 (dk_at dksX3_hour_1 19 rfl rfl)
theorem dX3_hour_43 : decode cX3_hour 43 = .ok (.getfield 213, 3) := dk_180 0 213 (dk_at dksX3_hour_1 20 rfl rfl)
theorem dX3_hour_46 : decode cX3_hour 46 = .ok (.if_icmp .ge 59, 3) := dk_162 0 59 (dk_at dksX3_hour_2 0 rfl rfl)
theorem dX3_hour_49 : decode cX3_hour 49 = .ok (.aload_n 0, 1) := dk_42 (dk_at dksX3_hour_2 3 rfl rfl)
theorem dX3_hour_50 : decode cX3_hour 50 = .ok (.getfield 62, 3) := dk_180 0 62 (dk_at dksX3_hour_2 4 rfl rfl)
theorem dX3_hour_53 : decode cX3_hour 53 = .ok (.iload_n 2, 1) := dk_28 (dk_at dksX3_hour_2 7 rfl rfl)
theorem dX3_hour_54 : decode cX3_hour 54 = .ok (.iaload, 1) := dk_46 (dk_at dksX3_hour_2 8 rfl rfl)
theorem dX3_hour_55 : decode cX3_hour 55 = .ok (.i2l, 1) := dk_133 (dk_at dksX3_hour_2 9 rfl rfl)
theorem dX3_hour_56 : decode cX3_hour 56 = .ok (.ldc2_w 244, 3) := dk_20 0 244 (dk_at dksX3_hour_2 10 rfl rfl)
theorem dX3_hour_59 : decode cX3_hour 59 = .ok (.ldc2_w 246, 3) := dk_20 0 246 (dk_at dksX3_hour_2 13 rfl rfl)
theorem dX3_hour_62 : decode cX3_hour 62 = .ok (.invokestatic 160, 3) := dk_184 0 160 (dk_at dksX3_hour_2 16 rfl rfl)
theorem dX3_hour_65 : decode cX3_hour 65 = .ok (.ifCond .eq 34, 3) := dk_153 0 34 (dk_at dksX3_hour_2 19 rfl rfl)
theorem dX3_hour_68 : decode cX3_hour 68 = .ok (.aload_n 0, 1) := dk_42 (dk_at dksX3_hour_2 22 rfl rfl)
theorem dX3_hour_69 : decode cX3_hour 69 = .ok (.getfield 65, 3) := dk_180 0 65 (dk_at dksX3_hour_3 0 rfl rfl)
theorem dX3_hour_72 : decode cX3_hour 72 = .ok (.iload_n 2, 1) := dk_28 (dk_at dksX3_hour_3 3 rfl rfl)
theorem dX3_hour_73 : decode cX3_hour 73 = .ok (.iaload, 1) := dk_46 (dk_at dksX3_hour_3 4 rfl rfl)
theorem dX3_hour_74 : decode cX3_hour 74 = .ok (.aload_n 0, 1) := dk_42 (dk_at dksX3_hour_3 5 rfl rfl)
theorem dX3_hour_75 : decode cX3_hour 75 = .ok (.getfield 190, 3) := dk_180 0 190 (dk_at dksX3_hour_3 6 rfl rfl)
theorem dX3_hour_78 : decode cX3_hour 78 = .ok (.if_icmp .gt 21, 3) := dk_163 0 21 (dk_at dksX3_hour_3 9 rfl rfl)
theorem dX3_hour_81 : decode cX3_hour 81 = .ok (.aload_n 0, 1) := dk_42 (dk_at dksX3_hour_3 12 rfl rfl)
theorem dX3_hour_82 : decode cX3_hour 82 = .ok (.getfield 62, 3) := dk_180 0 62 (dk_at dksX3_hour_3 13 rfl rfl)
theorem dX3_hour_85 : decode cX3_hour 85 = .ok (.iload_n 2, 1) := dk_28 (dk_at dksX3_hour_3 16 rfl rfl)
theorem dX3_hour_86 : decode cX3_hour 86 = .ok (.dup2, 1) := dk_92 (dk_at dksX3_hour_3 17 rfl rfl)
theorem dX3_hour_87 : decode cX3_hour 87 = .ok (.iaload, 1) := dk_46 (dk_at dksX3_hour_3 18 rfl rfl)
theorem dX3_hour_88 : decode cX3_hour 88 = .ok (.bipush 100, 2) := dk_16 100 (dk_at dksX3_hour_3 19 rfl rfl)
theorem dX3_hour_90 : decode cX3_hour 90 = .ok (.isub, 1) := dk_100 (dk_at dksX3_hour_3 21 rfl rfl)
theorem dX3_hour_91 : decode cX3_hour 91 = .ok (.iastore, 1) := dk_79 (dk_at dksX3_hour_3 22 rfl rfl)
theorem dX3_hour_92 : decode cX3_hour 92 = .ok (.aload_n 0, 1) := dk_42 (dk_at dksX3_hour_3 23 rfl rfl)
theorem dX3_hour_93 : decode cX3_hour 93 = .ok (.getfield 68, 3) := dk_180 0 68 (dk_at dksX3_hour_4 0 rfl rfl)
theorem dX3_hour_96 : decode cX3_hour 96 = .ok (.iload_n 2, 1) := dk_28 (dk_at dksX3_hour_4 3 rfl rfl)
theorem dX3_hour_97 : decode cX3_hour 97 = .ok (.iconst 0, 1) := dk_3 (dk_at dksX3_hour_4 4 rfl rfl)
theorem dX3_hour_98 : decode cX3_hour 98 = .ok (.bastore, 1) := dk_84 (dk_at dksX3_hour_4 5 rfl rfl)
theorem dX3_hour_99 : decode cX3_hour 99 = .ok (.iinc 2 1, 3) := dk_132 2 1 (dk_at dksX3_hour_4 6 rfl rfl)
theorem dX3_hour_102 : decode cX3_hour 102 = .ok (.goto (-61), 3) := dk_167 255 195 (dk_at dksX3_hour_4 9 rfl rfl)
theorem dX3_hour_105 : decode cX3_hour 105 = .ok (.aload_n 0, 1) := dk_42 (dk_at dksX3_hour_4 12 rfl rfl)
theorem dX3_hour_106 : decode cX3_hour 106 = .ok (.getfield 190, 3) := dk_180 0 190 (dk_at dksX3_hour_4 13 rfl rfl)
theorem dX3_hour_109 : decode cX3_hour 109 = .ok (.ireturn, 1) := dk_172 (dk_at dksX3_hour_4 16 rfl rfl)
abbrev cX3_rain : ByteArray := prog_19_method_48_code
def yX3_rain : MethodName := ⟨RX3, "rain", "()I"⟩
def dkwX3_rain_1 : List UInt8 := [167, 0, 4, 3, 96, 60, 42, 180, 0, 71, 28, 2, 79, 132, 2, 1, 167, 255, 222, 27, 172]
abbrev dktX3_rain_1 : List UInt8 := dkwX3_rain_1 ++ []
def dkwX3_rain_0 : List UInt8 := [3, 60, 3, 61, 28, 42, 180, 0, 213, 162, 0, 32, 27, 42, 28, 182, 1, 6, 153, 0, 7, 4]
abbrev dktX3_rain_0 : List UInt8 := dkwX3_rain_0 ++ dktX3_rain_1
theorem dksX3_rain_0 : cX3_rain.data.toList.drop 0 = dktX3_rain_0 := by decide +kernel
theorem dksX3_rain_1 : cX3_rain.data.toList.drop 22 = dktX3_rain_1 := dk_seg dksX3_rain_0 22 rfl rfl
theorem dX3_rain_0 : decode cX3_rain 0 = .ok (.iconst 0, 1) := dk_3 (dk_at dksX3_rain_0 0 rfl rfl)
theorem dX3_rain_1 : decode cX3_rain 1 = .ok (.istore_n 1, 1) := dk_60 (dk_at dksX3_rain_0 1 rfl rfl)
theorem dX3_rain_2 : decode cX3_rain 2 = .ok (.iconst 0, 1) := dk_3 (dk_at dksX3_rain_0 2 rfl rfl)
theorem dX3_rain_3 : decode cX3_rain 3 = .ok (.istore_n 2, 1) := dk_61 (dk_at dksX3_rain_0 3 rfl rfl)
theorem dX3_rain_4 : decode cX3_rain 4 = .ok (.iload_n 2, 1) := dk_28 (dk_at dksX3_rain_0 4 rfl rfl)
theorem dX3_rain_5 : decode cX3_rain 5 = .ok (.aload_n 0, 1) := dk_42 (dk_at dksX3_rain_0 5 rfl rfl)
theorem dX3_rain_6 : decode cX3_rain 6 = .ok (.getfield 213, 3) := dk_180 0 213 (dk_at dksX3_rain_0 6 rfl rfl)
theorem dX3_rain_9 : decode cX3_rain 9 = .ok (.if_icmp .ge 32, 3) := dk_162 0 32 (dk_at dksX3_rain_0 9 rfl rfl)
theorem dX3_rain_12 : decode cX3_rain 12 = .ok (.iload_n 1, 1) := dk_27 (dk_at dksX3_rain_0 12 rfl rfl)
theorem dX3_rain_13 : decode cX3_rain 13 = .ok (.aload_n 0, 1) := dk_42 (dk_at dksX3_rain_0 13 rfl rfl)
theorem dX3_rain_14 : decode cX3_rain 14 = .ok (.iload_n 2, 1) := dk_28 (dk_at dksX3_rain_0 14 rfl rfl)
theorem dX3_rain_15 : decode cX3_rain 15 = .ok (.invokevirtual 262, 3) := dk_182 1 6 (dk_at dksX3_rain_0 15 rfl rfl)
theorem dX3_rain_18 : decode cX3_rain 18 = .ok (.ifCond .eq 7, 3) := dk_153 0 7 (dk_at dksX3_rain_0 18 rfl rfl)
theorem dX3_rain_21 : decode cX3_rain 21 = .ok (.iconst 1, 1) := dk_4 (dk_at dksX3_rain_0 21 rfl rfl)
theorem dX3_rain_22 : decode cX3_rain 22 = .ok (.goto 4, 3) := dk_167 0 4 (dk_at dksX3_rain_1 0 rfl rfl)
theorem dX3_rain_25 : decode cX3_rain 25 = .ok (.iconst 0, 1) := dk_3 (dk_at dksX3_rain_1 3 rfl rfl)
theorem dX3_rain_26 : decode cX3_rain 26 = .ok (.iadd, 1) := dk_96 (dk_at dksX3_rain_1 4 rfl rfl)
theorem dX3_rain_27 : decode cX3_rain 27 = .ok (.istore_n 1, 1) := dk_60 (dk_at dksX3_rain_1 5 rfl rfl)
theorem dX3_rain_28 : decode cX3_rain 28 = .ok (.aload_n 0, 1) := dk_42 (dk_at dksX3_rain_1 6 rfl rfl)
theorem dX3_rain_29 : decode cX3_rain 29 = .ok (.getfield 71, 3) := dk_180 0 71 (dk_at dksX3_rain_1 7 rfl rfl)
theorem dX3_rain_32 : decode cX3_rain 32 = .ok (.iload_n 2, 1) := dk_28 (dk_at dksX3_rain_1 10 rfl rfl)
theorem dX3_rain_33 : decode cX3_rain 33 = .ok (.iconst (-1), 1) := dk_2 (dk_at dksX3_rain_1 11 rfl rfl)
theorem dX3_rain_34 : decode cX3_rain 34 = .ok (.iastore, 1) := dk_79 (dk_at dksX3_rain_1 12 rfl rfl)
theorem dX3_rain_35 : decode cX3_rain 35 = .ok (.iinc 2 1, 3) := dk_132 2 1 (dk_at dksX3_rain_1 13 rfl rfl)
theorem dX3_rain_38 : decode cX3_rain 38 = .ok (.goto (-34), 3) := dk_167 255 222 (dk_at dksX3_rain_1 16 rfl rfl)
theorem dX3_rain_41 : decode cX3_rain 41 = .ok (.iload_n 1, 1) := dk_27 (dk_at dksX3_rain_1 19 rfl rfl)
theorem dX3_rain_42 : decode cX3_rain 42 = .ok (.ireturn, 1) := dk_172 (dk_at dksX3_rain_1 20 rfl rfl)
abbrev cX3_hasScent : ByteArray := prog_19_method_47_code
def yX3_hasScent : MethodName := ⟨RX3, "hasScent", "(I)Z"⟩
def dkwX3_hasScent_1 : List UInt8 := [163, 0, 7, 4, 167, 0, 4, 3, 172]
abbrev dktX3_hasScent_1 : List UInt8 := dkwX3_hasScent_1 ++ []
def dkwX3_hasScent_0 : List UInt8 := [42, 180, 0, 71, 27, 46, 155, 0, 23, 42, 180, 0, 190, 42, 180, 0, 77, 27, 46, 100, 16, 12]
abbrev dktX3_hasScent_0 : List UInt8 := dkwX3_hasScent_0 ++ dktX3_hasScent_1
theorem dksX3_hasScent_0 : cX3_hasScent.data.toList.drop 0 = dktX3_hasScent_0 := by decide +kernel
theorem dksX3_hasScent_1 : cX3_hasScent.data.toList.drop 22 = dktX3_hasScent_1 := dk_seg dksX3_hasScent_0 22 rfl rfl
theorem dX3_hasScent_0 : decode cX3_hasScent 0 = .ok (.aload_n 0, 1) := dk_42 (dk_at dksX3_hasScent_0 0 rfl rfl)
theorem dX3_hasScent_1 : decode cX3_hasScent 1 = .ok (.getfield 71, 3) := dk_180 0 71 (dk_at dksX3_hasScent_0 1 rfl rfl)
theorem dX3_hasScent_4 : decode cX3_hasScent 4 = .ok (.iload_n 1, 1) := dk_27 (dk_at dksX3_hasScent_0 4 rfl rfl)
theorem dX3_hasScent_5 : decode cX3_hasScent 5 = .ok (.iaload, 1) := dk_46 (dk_at dksX3_hasScent_0 5 rfl rfl)
theorem dX3_hasScent_6 : decode cX3_hasScent 6 = .ok (.ifCond .lt 23, 3) := dk_155 0 23 (dk_at dksX3_hasScent_0 6 rfl rfl)
theorem dX3_hasScent_9 : decode cX3_hasScent 9 = .ok (.aload_n 0, 1) := dk_42 (dk_at dksX3_hasScent_0 9 rfl rfl)
theorem dX3_hasScent_10 : decode cX3_hasScent 10 = .ok (.getfield 190, 3) := dk_180 0 190 (dk_at dksX3_hasScent_0 10 rfl rfl)
theorem dX3_hasScent_13 : decode cX3_hasScent 13 = .ok (.aload_n 0, 1) := dk_42 (dk_at dksX3_hasScent_0 13 rfl rfl)
theorem dX3_hasScent_14 : decode cX3_hasScent 14 = .ok (.getfield 77, 3) := dk_180 0 77 (dk_at dksX3_hasScent_0 14 rfl rfl)
theorem dX3_hasScent_17 : decode cX3_hasScent 17 = .ok (.iload_n 1, 1) := dk_27 (dk_at dksX3_hasScent_0 17 rfl rfl)
theorem dX3_hasScent_18 : decode cX3_hasScent 18 = .ok (.iaload, 1) := dk_46 (dk_at dksX3_hasScent_0 18 rfl rfl)
theorem dX3_hasScent_19 : decode cX3_hasScent 19 = .ok (.isub, 1) := dk_100 (dk_at dksX3_hasScent_0 19 rfl rfl)
theorem dX3_hasScent_20 : decode cX3_hasScent 20 = .ok (.bipush 12, 2) := dk_16 12 (dk_at dksX3_hasScent_0 20 rfl rfl)
theorem dX3_hasScent_22 : decode cX3_hasScent 22 = .ok (.if_icmp .gt 7, 3) := dk_163 0 7 (dk_at dksX3_hasScent_1 0 rfl rfl)
theorem dX3_hasScent_25 : decode cX3_hasScent 25 = .ok (.iconst 1, 1) := dk_4 (dk_at dksX3_hasScent_1 3 rfl rfl)
theorem dX3_hasScent_26 : decode cX3_hasScent 26 = .ok (.goto 4, 3) := dk_167 0 4 (dk_at dksX3_hasScent_1 4 rfl rfl)
theorem dX3_hasScent_29 : decode cX3_hasScent 29 = .ok (.iconst 0, 1) := dk_3 (dk_at dksX3_hasScent_1 7 rfl rfl)
theorem dX3_hasScent_30 : decode cX3_hasScent 30 = .ok (.ireturn, 1) := dk_172 (dk_at dksX3_hasScent_1 8 rfl rfl)
abbrev cX3_hunter : ByteArray := prog_19_method_49_code
def yX3_hunter : MethodName := ⟨RX3, "hunter", "(I)I"⟩
def dkwX3_hunter_2 : List UInt8 := [4, 96, 181, 1, 9, 42, 180, 1, 9, 4, 100, 172]
abbrev dktX3_hunter_2 : List UInt8 := dkwX3_hunter_2 ++ []
def dkwX3_hunter_1 : List UInt8 := [180, 0, 80, 42, 180, 1, 9, 27, 79, 42, 180, 0, 83, 42, 180, 1, 9, 3, 79, 42, 89, 180, 1, 9]
abbrev dktX3_hunter_1 : List UInt8 := dkwX3_hunter_1 ++ dktX3_hunter_2
def dkwX3_hunter_0 : List UInt8 := [42, 27, 182, 0, 176, 154, 0, 5, 2, 172, 42, 180, 1, 9, 16, 6, 160, 0, 6, 16, 253, 172, 42]
abbrev dktX3_hunter_0 : List UInt8 := dkwX3_hunter_0 ++ dktX3_hunter_1
theorem dksX3_hunter_0 : cX3_hunter.data.toList.drop 0 = dktX3_hunter_0 := by decide +kernel
theorem dksX3_hunter_1 : cX3_hunter.data.toList.drop 23 = dktX3_hunter_1 := dk_seg dksX3_hunter_0 23 rfl rfl
theorem dksX3_hunter_2 : cX3_hunter.data.toList.drop 47 = dktX3_hunter_2 := dk_seg dksX3_hunter_1 24 rfl rfl
theorem dX3_hunter_0 : decode cX3_hunter 0 = .ok (.aload_n 0, 1) := dk_42 (dk_at dksX3_hunter_0 0 rfl rfl)
theorem dX3_hunter_1 : decode cX3_hunter 1 = .ok (.iload_n 1, 1) := dk_27 (dk_at dksX3_hunter_0 1 rfl rfl)
theorem dX3_hunter_2 : decode cX3_hunter 2 = .ok (.invokevirtual 176, 3) := dk_182 0 176 (dk_at dksX3_hunter_0 2 rfl rfl)
theorem dX3_hunter_5 : decode cX3_hunter 5 = .ok (.ifCond .ne 5, 3) := dk_154 0 5 (dk_at dksX3_hunter_0 5 rfl rfl)
theorem dX3_hunter_8 : decode cX3_hunter 8 = .ok (.iconst (-1), 1) := dk_2 (dk_at dksX3_hunter_0 8 rfl rfl)
theorem dX3_hunter_9 : decode cX3_hunter 9 = .ok (.ireturn, 1) := dk_172 (dk_at dksX3_hunter_0 9 rfl rfl)
theorem dX3_hunter_10 : decode cX3_hunter 10 = .ok (.aload_n 0, 1) := dk_42 (dk_at dksX3_hunter_0 10 rfl rfl)
theorem dX3_hunter_11 : decode cX3_hunter 11 = .ok (.getfield 265, 3) := dk_180 1 9 (dk_at dksX3_hunter_0 11 rfl rfl)
theorem dX3_hunter_14 : decode cX3_hunter 14 = .ok (.bipush 6, 2) := dk_16 6 (dk_at dksX3_hunter_0 14 rfl rfl)
theorem dX3_hunter_16 : decode cX3_hunter 16 = .ok (.if_icmp .ne 6, 3) := dk_160 0 6 (dk_at dksX3_hunter_0 16 rfl rfl)
theorem dX3_hunter_19 : decode cX3_hunter 19 = .ok (.bipush (-3), 2) := dk_16 253 (dk_at dksX3_hunter_0 19 rfl rfl)
theorem dX3_hunter_21 : decode cX3_hunter 21 = .ok (.ireturn, 1) := dk_172 (dk_at dksX3_hunter_0 21 rfl rfl)
theorem dX3_hunter_22 : decode cX3_hunter 22 = .ok (.aload_n 0, 1) := dk_42 (dk_at dksX3_hunter_0 22 rfl rfl)
theorem dX3_hunter_23 : decode cX3_hunter 23 = .ok (.getfield 80, 3) := dk_180 0 80 (dk_at dksX3_hunter_1 0 rfl rfl)
theorem dX3_hunter_26 : decode cX3_hunter 26 = .ok (.aload_n 0, 1) := dk_42 (dk_at dksX3_hunter_1 3 rfl rfl)
theorem dX3_hunter_27 : decode cX3_hunter 27 = .ok (.getfield 265, 3) := dk_180 1 9 (dk_at dksX3_hunter_1 4 rfl rfl)
theorem dX3_hunter_30 : decode cX3_hunter 30 = .ok (.iload_n 1, 1) := dk_27 (dk_at dksX3_hunter_1 7 rfl rfl)
theorem dX3_hunter_31 : decode cX3_hunter 31 = .ok (.iastore, 1) := dk_79 (dk_at dksX3_hunter_1 8 rfl rfl)
theorem dX3_hunter_32 : decode cX3_hunter 32 = .ok (.aload_n 0, 1) := dk_42 (dk_at dksX3_hunter_1 9 rfl rfl)
theorem dX3_hunter_33 : decode cX3_hunter 33 = .ok (.getfield 83, 3) := dk_180 0 83 (dk_at dksX3_hunter_1 10 rfl rfl)
theorem dX3_hunter_36 : decode cX3_hunter 36 = .ok (.aload_n 0, 1) := dk_42 (dk_at dksX3_hunter_1 13 rfl rfl)
theorem dX3_hunter_37 : decode cX3_hunter 37 = .ok (.getfield 265, 3) := dk_180 1 9 (dk_at dksX3_hunter_1 14 rfl rfl)
theorem dX3_hunter_40 : decode cX3_hunter 40 = .ok (.iconst 0, 1) := dk_3 (dk_at dksX3_hunter_1 17 rfl rfl)
theorem dX3_hunter_41 : decode cX3_hunter 41 = .ok (.iastore, 1) := dk_79 (dk_at dksX3_hunter_1 18 rfl rfl)
theorem dX3_hunter_42 : decode cX3_hunter 42 = .ok (.aload_n 0, 1) := dk_42 (dk_at dksX3_hunter_1 19 rfl rfl)
theorem dX3_hunter_43 : decode cX3_hunter 43 = .ok (.dup, 1) := dk_89 (dk_at dksX3_hunter_1 20 rfl rfl)
theorem dX3_hunter_44 : decode cX3_hunter 44 = .ok (.getfield 265, 3) := dk_180 1 9 (dk_at dksX3_hunter_1 21 rfl rfl)
theorem dX3_hunter_47 : decode cX3_hunter 47 = .ok (.iconst 1, 1) := dk_4 (dk_at dksX3_hunter_2 0 rfl rfl)
theorem dX3_hunter_48 : decode cX3_hunter 48 = .ok (.iadd, 1) := dk_96 (dk_at dksX3_hunter_2 1 rfl rfl)
theorem dX3_hunter_49 : decode cX3_hunter 49 = .ok (.putfield 265, 3) := dk_181 1 9 (dk_at dksX3_hunter_2 2 rfl rfl)
theorem dX3_hunter_52 : decode cX3_hunter 52 = .ok (.aload_n 0, 1) := dk_42 (dk_at dksX3_hunter_2 5 rfl rfl)
theorem dX3_hunter_53 : decode cX3_hunter 53 = .ok (.getfield 265, 3) := dk_180 1 9 (dk_at dksX3_hunter_2 6 rfl rfl)
theorem dX3_hunter_56 : decode cX3_hunter 56 = .ok (.iconst 1, 1) := dk_4 (dk_at dksX3_hunter_2 9 rfl rfl)
theorem dX3_hunter_57 : decode cX3_hunter 57 = .ok (.isub, 1) := dk_100 (dk_at dksX3_hunter_2 10 rfl rfl)
theorem dX3_hunter_58 : decode cX3_hunter 58 = .ok (.ireturn, 1) := dk_172 (dk_at dksX3_hunter_2 11 rfl rfl)
abbrev cX3_ride : ByteArray := prog_19_method_51_code
def yX3_ride : MethodName := ⟨RX3, "ride", "(II)I"⟩
def dkwX3_ride_1 : List UInt8 := [62, 42, 180, 0, 80, 27, 28, 79, 29, 172]
abbrev dktX3_ride_1 : List UInt8 := dkwX3_ride_1 ++ []
def dkwX3_ride_0 : List UInt8 := [42, 27, 182, 1, 12, 153, 0, 11, 42, 28, 182, 0, 176, 154, 0, 5, 2, 172, 42, 180, 0, 80, 27, 46]
abbrev dktX3_ride_0 : List UInt8 := dkwX3_ride_0 ++ dktX3_ride_1
theorem dksX3_ride_0 : cX3_ride.data.toList.drop 0 = dktX3_ride_0 := by decide +kernel
theorem dksX3_ride_1 : cX3_ride.data.toList.drop 24 = dktX3_ride_1 := dk_seg dksX3_ride_0 24 rfl rfl
theorem dX3_ride_0 : decode cX3_ride 0 = .ok (.aload_n 0, 1) := dk_42 (dk_at dksX3_ride_0 0 rfl rfl)
theorem dX3_ride_1 : decode cX3_ride 1 = .ok (.iload_n 1, 1) := dk_27 (dk_at dksX3_ride_0 1 rfl rfl)
theorem dX3_ride_2 : decode cX3_ride 2 = .ok (.invokevirtual 268, 3) := dk_182 1 12 (dk_at dksX3_ride_0 2 rfl rfl)
theorem dX3_ride_5 : decode cX3_ride 5 = .ok (.ifCond .eq 11, 3) := dk_153 0 11 (dk_at dksX3_ride_0 5 rfl rfl)
theorem dX3_ride_8 : decode cX3_ride 8 = .ok (.aload_n 0, 1) := dk_42 (dk_at dksX3_ride_0 8 rfl rfl)
theorem dX3_ride_9 : decode cX3_ride 9 = .ok (.iload_n 2, 1) := dk_28 (dk_at dksX3_ride_0 9 rfl rfl)
theorem dX3_ride_10 : decode cX3_ride 10 = .ok (.invokevirtual 176, 3) := dk_182 0 176 (dk_at dksX3_ride_0 10 rfl rfl)
theorem dX3_ride_13 : decode cX3_ride 13 = .ok (.ifCond .ne 5, 3) := dk_154 0 5 (dk_at dksX3_ride_0 13 rfl rfl)
theorem dX3_ride_16 : decode cX3_ride 16 = .ok (.iconst (-1), 1) := dk_2 (dk_at dksX3_ride_0 16 rfl rfl)
theorem dX3_ride_17 : decode cX3_ride 17 = .ok (.ireturn, 1) := dk_172 (dk_at dksX3_ride_0 17 rfl rfl)
theorem dX3_ride_18 : decode cX3_ride 18 = .ok (.aload_n 0, 1) := dk_42 (dk_at dksX3_ride_0 18 rfl rfl)
theorem dX3_ride_19 : decode cX3_ride 19 = .ok (.getfield 80, 3) := dk_180 0 80 (dk_at dksX3_ride_0 19 rfl rfl)
theorem dX3_ride_22 : decode cX3_ride 22 = .ok (.iload_n 1, 1) := dk_27 (dk_at dksX3_ride_0 22 rfl rfl)
theorem dX3_ride_23 : decode cX3_ride 23 = .ok (.iaload, 1) := dk_46 (dk_at dksX3_ride_0 23 rfl rfl)
theorem dX3_ride_24 : decode cX3_ride 24 = .ok (.istore_n 3, 1) := dk_62 (dk_at dksX3_ride_1 0 rfl rfl)
theorem dX3_ride_25 : decode cX3_ride 25 = .ok (.aload_n 0, 1) := dk_42 (dk_at dksX3_ride_1 1 rfl rfl)
theorem dX3_ride_26 : decode cX3_ride 26 = .ok (.getfield 80, 3) := dk_180 0 80 (dk_at dksX3_ride_1 2 rfl rfl)
theorem dX3_ride_29 : decode cX3_ride 29 = .ok (.iload_n 1, 1) := dk_27 (dk_at dksX3_ride_1 5 rfl rfl)
theorem dX3_ride_30 : decode cX3_ride 30 = .ok (.iload_n 2, 1) := dk_28 (dk_at dksX3_ride_1 6 rfl rfl)
theorem dX3_ride_31 : decode cX3_ride 31 = .ok (.iastore, 1) := dk_79 (dk_at dksX3_ride_1 7 rfl rfl)
theorem dX3_ride_32 : decode cX3_ride 32 = .ok (.iload_n 3, 1) := dk_29 (dk_at dksX3_ride_1 8 rfl rfl)
theorem dX3_ride_33 : decode cX3_ride 33 = .ok (.ireturn, 1) := dk_172 (dk_at dksX3_ride_1 9 rfl rfl)
abbrev cX3_isHunter : ByteArray := prog_19_method_50_code
def yX3_isHunter : MethodName := ⟨RX3, "isHunter", "(I)Z"⟩
def dkwX3_isHunter_0 : List UInt8 := [27, 133, 9, 42, 180, 1, 9, 4, 100, 133, 184, 0, 160, 172]
abbrev dktX3_isHunter_0 : List UInt8 := dkwX3_isHunter_0 ++ []
theorem dksX3_isHunter_0 : cX3_isHunter.data.toList.drop 0 = dktX3_isHunter_0 := by decide +kernel
theorem dX3_isHunter_0 : decode cX3_isHunter 0 = .ok (.iload_n 1, 1) := dk_27 (dk_at dksX3_isHunter_0 0 rfl rfl)
theorem dX3_isHunter_1 : decode cX3_isHunter 1 = .ok (.i2l, 1) := dk_133 (dk_at dksX3_isHunter_0 1 rfl rfl)
theorem dX3_isHunter_2 : decode cX3_isHunter 2 = .ok (.lconst 0, 1) := dk_9 (dk_at dksX3_isHunter_0 2 rfl rfl)
theorem dX3_isHunter_3 : decode cX3_isHunter 3 = .ok (.aload_n 0, 1) := dk_42 (dk_at dksX3_isHunter_0 3 rfl rfl)
theorem dX3_isHunter_4 : decode cX3_isHunter 4 = .ok (.getfield 265, 3) := dk_180 1 9 (dk_at dksX3_isHunter_0 4 rfl rfl)
theorem dX3_isHunter_7 : decode cX3_isHunter 7 = .ok (.iconst 1, 1) := dk_4 (dk_at dksX3_isHunter_0 7 rfl rfl)
theorem dX3_isHunter_8 : decode cX3_isHunter 8 = .ok (.isub, 1) := dk_100 (dk_at dksX3_isHunter_0 8 rfl rfl)
theorem dX3_isHunter_9 : decode cX3_isHunter 9 = .ok (.i2l, 1) := dk_133 (dk_at dksX3_isHunter_0 9 rfl rfl)
theorem dX3_isHunter_10 : decode cX3_isHunter 10 = .ok (.invokestatic 160, 3) := dk_184 0 160 (dk_at dksX3_isHunter_0 10 rfl rfl)
theorem dX3_isHunter_13 : decode cX3_isHunter 13 = .ok (.ireturn, 1) := dk_172 (dk_at dksX3_isHunter_0 13 rfl rfl)
abbrev cX3_warrant : ByteArray := prog_19_method_53_code
def yX3_warrant : MethodName := ⟨RX3, "warrant", "(II)I"⟩
def dkwX3_warrant_1 : List UInt8 := [62, 42, 180, 0, 83, 27, 28, 79, 29, 172]
abbrev dktX3_warrant_1 : List UInt8 := dkwX3_warrant_1 ++ []
def dkwX3_warrant_0 : List UInt8 := [42, 27, 182, 1, 12, 153, 0, 11, 42, 28, 182, 1, 15, 154, 0, 5, 2, 172, 42, 180, 0, 83, 27, 46]
abbrev dktX3_warrant_0 : List UInt8 := dkwX3_warrant_0 ++ dktX3_warrant_1
theorem dksX3_warrant_0 : cX3_warrant.data.toList.drop 0 = dktX3_warrant_0 := by decide +kernel
theorem dksX3_warrant_1 : cX3_warrant.data.toList.drop 24 = dktX3_warrant_1 := dk_seg dksX3_warrant_0 24 rfl rfl
theorem dX3_warrant_0 : decode cX3_warrant 0 = .ok (.aload_n 0, 1) := dk_42 (dk_at dksX3_warrant_0 0 rfl rfl)
theorem dX3_warrant_1 : decode cX3_warrant 1 = .ok (.iload_n 1, 1) := dk_27 (dk_at dksX3_warrant_0 1 rfl rfl)
theorem dX3_warrant_2 : decode cX3_warrant 2 = .ok (.invokevirtual 268, 3) := dk_182 1 12 (dk_at dksX3_warrant_0 2 rfl rfl)
theorem dX3_warrant_5 : decode cX3_warrant 5 = .ok (.ifCond .eq 11, 3) := dk_153 0 11 (dk_at dksX3_warrant_0 5 rfl rfl)
theorem dX3_warrant_8 : decode cX3_warrant 8 = .ok (.aload_n 0, 1) := dk_42 (dk_at dksX3_warrant_0 8 rfl rfl)
theorem dX3_warrant_9 : decode cX3_warrant 9 = .ok (.iload_n 2, 1) := dk_28 (dk_at dksX3_warrant_0 9 rfl rfl)
theorem dX3_warrant_10 : decode cX3_warrant 10 = .ok (.invokevirtual 271, 3) := dk_182 1 15 (dk_at dksX3_warrant_0 10 rfl rfl)
theorem dX3_warrant_13 : decode cX3_warrant 13 = .ok (.ifCond .ne 5, 3) := dk_154 0 5 (dk_at dksX3_warrant_0 13 rfl rfl)
theorem dX3_warrant_16 : decode cX3_warrant 16 = .ok (.iconst (-1), 1) := dk_2 (dk_at dksX3_warrant_0 16 rfl rfl)
theorem dX3_warrant_17 : decode cX3_warrant 17 = .ok (.ireturn, 1) := dk_172 (dk_at dksX3_warrant_0 17 rfl rfl)
theorem dX3_warrant_18 : decode cX3_warrant 18 = .ok (.aload_n 0, 1) := dk_42 (dk_at dksX3_warrant_0 18 rfl rfl)
theorem dX3_warrant_19 : decode cX3_warrant 19 = .ok (.getfield 83, 3) := dk_180 0 83 (dk_at dksX3_warrant_0 19 rfl rfl)
theorem dX3_warrant_22 : decode cX3_warrant 22 = .ok (.iload_n 1, 1) := dk_27 (dk_at dksX3_warrant_0 22 rfl rfl)
theorem dX3_warrant_23 : decode cX3_warrant 23 = .ok (.iaload, 1) := dk_46 (dk_at dksX3_warrant_0 23 rfl rfl)
theorem dX3_warrant_24 : decode cX3_warrant 24 = .ok (.istore_n 3, 1) := dk_62 (dk_at dksX3_warrant_1 0 rfl rfl)
theorem dX3_warrant_25 : decode cX3_warrant 25 = .ok (.aload_n 0, 1) := dk_42 (dk_at dksX3_warrant_1 1 rfl rfl)
theorem dX3_warrant_26 : decode cX3_warrant 26 = .ok (.getfield 83, 3) := dk_180 0 83 (dk_at dksX3_warrant_1 2 rfl rfl)
theorem dX3_warrant_29 : decode cX3_warrant 29 = .ok (.iload_n 1, 1) := dk_27 (dk_at dksX3_warrant_1 5 rfl rfl)
theorem dX3_warrant_30 : decode cX3_warrant 30 = .ok (.iload_n 2, 1) := dk_28 (dk_at dksX3_warrant_1 6 rfl rfl)
theorem dX3_warrant_31 : decode cX3_warrant 31 = .ok (.iastore, 1) := dk_79 (dk_at dksX3_warrant_1 7 rfl rfl)
theorem dX3_warrant_32 : decode cX3_warrant 32 = .ok (.iload_n 3, 1) := dk_29 (dk_at dksX3_warrant_1 8 rfl rfl)
theorem dX3_warrant_33 : decode cX3_warrant 33 = .ok (.ireturn, 1) := dk_172 (dk_at dksX3_warrant_1 9 rfl rfl)
abbrev cX3_arePersons : ByteArray := prog_19_method_52_code
def yX3_arePersons : MethodName := ⟨RX3, "arePersons", "(I)Z"⟩
def dkwX3_arePersons_0 : List UInt8 := [27, 133, 9, 4, 42, 180, 0, 213, 120, 4, 100, 133, 184, 0, 160, 172]
abbrev dktX3_arePersons_0 : List UInt8 := dkwX3_arePersons_0 ++ []
theorem dksX3_arePersons_0 : cX3_arePersons.data.toList.drop 0 = dktX3_arePersons_0 := by decide +kernel
theorem dX3_arePersons_0 : decode cX3_arePersons 0 = .ok (.iload_n 1, 1) := dk_27 (dk_at dksX3_arePersons_0 0 rfl rfl)
theorem dX3_arePersons_1 : decode cX3_arePersons 1 = .ok (.i2l, 1) := dk_133 (dk_at dksX3_arePersons_0 1 rfl rfl)
theorem dX3_arePersons_2 : decode cX3_arePersons 2 = .ok (.lconst 0, 1) := dk_9 (dk_at dksX3_arePersons_0 2 rfl rfl)
theorem dX3_arePersons_3 : decode cX3_arePersons 3 = .ok (.iconst 1, 1) := dk_4 (dk_at dksX3_arePersons_0 3 rfl rfl)
theorem dX3_arePersons_4 : decode cX3_arePersons 4 = .ok (.aload_n 0, 1) := dk_42 (dk_at dksX3_arePersons_0 4 rfl rfl)
theorem dX3_arePersons_5 : decode cX3_arePersons 5 = .ok (.getfield 213, 3) := dk_180 0 213 (dk_at dksX3_arePersons_0 5 rfl rfl)
theorem dX3_arePersons_8 : decode cX3_arePersons 8 = .ok (.ishl, 1) := dk_120 (dk_at dksX3_arePersons_0 8 rfl rfl)
theorem dX3_arePersons_9 : decode cX3_arePersons 9 = .ok (.iconst 1, 1) := dk_4 (dk_at dksX3_arePersons_0 9 rfl rfl)
theorem dX3_arePersons_10 : decode cX3_arePersons 10 = .ok (.isub, 1) := dk_100 (dk_at dksX3_arePersons_0 10 rfl rfl)
theorem dX3_arePersons_11 : decode cX3_arePersons 11 = .ok (.i2l, 1) := dk_133 (dk_at dksX3_arePersons_0 11 rfl rfl)
theorem dX3_arePersons_12 : decode cX3_arePersons 12 = .ok (.invokestatic 160, 3) := dk_184 0 160 (dk_at dksX3_arePersons_0 12 rfl rfl)
theorem dX3_arePersons_15 : decode cX3_arePersons 15 = .ok (.ireturn, 1) := dk_172 (dk_at dksX3_arePersons_0 15 rfl rfl)
abbrev cX3_search : ByteArray := prog_19_method_54_code
def yX3_search : MethodName := ⟨RX3, "search", "(II)I"⟩
def dkwX3_search_11 : List UInt8 := [180, 1, 18, 4, 96, 181, 1, 18, 21, 4, 172]
abbrev dktX3_search_11 : List UInt8 := dkwX3_search_11 ++ []
def dkwX3_search_10 : List UInt8 := [180, 0, 86, 42, 180, 1, 18, 29, 79, 42, 180, 0, 89, 42, 180, 1, 18, 42, 180, 0, 190, 79, 42, 89]
abbrev dktX3_search_10 : List UInt8 := dkwX3_search_10 ++ dktX3_search_11
def dkwX3_search_9 : List UInt8 := [160, 0, 9, 17, 0, 200, 167, 0, 10, 42, 180, 0, 62, 21, 5, 46, 79, 132, 5, 1, 167, 255, 213, 42]
abbrev dktX3_search_9 : List UInt8 := dkwX3_search_9 ++ dktX3_search_10
def dkwX3_search_8 : List UInt8 := [21, 5, 42, 180, 0, 213, 162, 0, 40, 42, 180, 0, 62, 21, 5, 21, 4, 21, 5, 122, 4, 126, 4]
abbrev dktX3_search_8 : List UInt8 := dkwX3_search_8 ++ dktX3_search_9
def dkwX3_search_7 : List UInt8 := [155, 0, 10, 4, 21, 5, 120, 167, 0, 4, 3, 128, 54, 4, 132, 5, 1, 167, 255, 119, 3, 54, 5]
abbrev dktX3_search_7 : List UInt8 := dkwX3_search_7 ++ dktX3_search_8
def dkwX3_search_6 : List UInt8 := [54, 7, 21, 4, 21, 7, 153, 0, 28, 42, 3, 21, 5, 29, 42, 180, 0, 190, 16, 24, 108, 182, 1, 21]
abbrev dktX3_search_6 : List UInt8 := dkwX3_search_6 ++ dktX3_search_7
def dkwX3_search_5 : List UInt8 := [180, 0, 83, 27, 46, 21, 5, 122, 4, 126, 4, 160, 0, 12, 21, 6, 153, 0, 7, 4, 167, 0, 4, 3]
abbrev dktX3_search_5 : List UInt8 := dkwX3_search_5 ++ dktX3_search_6
def dkwX3_search_4 : List UInt8 := [96, 5, 161, 0, 7, 4, 167, 0, 4, 3, 54, 6, 42, 180, 0, 62, 21, 5, 46, 29, 160, 0, 27, 42]
abbrev dktX3_search_4 : List UInt8 := dkwX3_search_4 ++ dktX3_search_5
def dkwX3_search_3 : List UInt8 := [51, 153, 0, 16, 28, 42, 180, 0, 22, 29, 46, 161, 0, 22, 167, 0, 15, 28, 42, 180, 0, 25, 29, 46]
abbrev dktX3_search_3 : List UInt8 := dkwX3_search_3 ++ dktX3_search_4
def dkwX3_search_2 : List UInt8 := [21, 5, 42, 180, 0, 213, 162, 0, 134, 42, 180, 0, 7, 29, 46, 153, 0, 38, 42, 180, 0, 68, 21, 5]
abbrev dktX3_search_2 : List UInt8 := dkwX3_search_2 ++ dktX3_search_3
def dkwX3_search_1 : List UInt8 := [180, 1, 18, 16, 40, 160, 0, 6, 16, 253, 172, 42, 180, 0, 80, 27, 46, 62, 3, 54, 4, 3, 54, 5]
abbrev dktX3_search_1 : List UInt8 := dkwX3_search_1 ++ dktX3_search_2
def dkwX3_search_0 : List UInt8 := [42, 27, 182, 1, 12, 153, 0, 15, 28, 133, 9, 20, 0, 174, 184, 0, 160, 154, 0, 5, 2, 172, 42]
abbrev dktX3_search_0 : List UInt8 := dkwX3_search_0 ++ dktX3_search_1
theorem dksX3_search_0 : cX3_search.data.toList.drop 0 = dktX3_search_0 := by decide +kernel
theorem dksX3_search_1 : cX3_search.data.toList.drop 23 = dktX3_search_1 := dk_seg dksX3_search_0 23 rfl rfl
theorem dksX3_search_2 : cX3_search.data.toList.drop 47 = dktX3_search_2 := dk_seg dksX3_search_1 24 rfl rfl
theorem dksX3_search_3 : cX3_search.data.toList.drop 71 = dktX3_search_3 := dk_seg dksX3_search_2 24 rfl rfl
theorem dksX3_search_4 : cX3_search.data.toList.drop 95 = dktX3_search_4 := dk_seg dksX3_search_3 24 rfl rfl
theorem dksX3_search_5 : cX3_search.data.toList.drop 119 = dktX3_search_5 := dk_seg dksX3_search_4 24 rfl rfl
theorem dksX3_search_6 : cX3_search.data.toList.drop 143 = dktX3_search_6 := dk_seg dksX3_search_5 24 rfl rfl
theorem dksX3_search_7 : cX3_search.data.toList.drop 167 = dktX3_search_7 := dk_seg dksX3_search_6 24 rfl rfl
theorem dksX3_search_8 : cX3_search.data.toList.drop 190 = dktX3_search_8 := dk_seg dksX3_search_7 23 rfl rfl
theorem dksX3_search_9 : cX3_search.data.toList.drop 213 = dktX3_search_9 := dk_seg dksX3_search_8 23 rfl rfl
theorem dksX3_search_10 : cX3_search.data.toList.drop 237 = dktX3_search_10 := dk_seg dksX3_search_9 24 rfl rfl
theorem dksX3_search_11 : cX3_search.data.toList.drop 261 = dktX3_search_11 := dk_seg dksX3_search_10 24 rfl rfl
theorem dX3_search_0 : decode cX3_search 0 = .ok (.aload_n 0, 1) := dk_42 (dk_at dksX3_search_0 0 rfl rfl)
theorem dX3_search_1 : decode cX3_search 1 = .ok (.iload_n 1, 1) := dk_27 (dk_at dksX3_search_0 1 rfl rfl)
theorem dX3_search_2 : decode cX3_search 2 = .ok (.invokevirtual 268, 3) := dk_182 1 12 (dk_at dksX3_search_0 2 rfl rfl)
theorem dX3_search_5 : decode cX3_search 5 = .ok (.ifCond .eq 15, 3) := dk_153 0 15 (dk_at dksX3_search_0 5 rfl rfl)
theorem dX3_search_8 : decode cX3_search 8 = .ok (.iload_n 2, 1) := dk_28 (dk_at dksX3_search_0 8 rfl rfl)
theorem dX3_search_9 : decode cX3_search 9 = .ok (.i2l, 1) := dk_133 (dk_at dksX3_search_0 9 rfl rfl)
theorem dX3_search_10 : decode cX3_search 10 = .ok (.lconst 0, 1) := dk_9 (dk_at dksX3_search_0 10 rfl rfl)
theorem dX3_search_11 : decode cX3_search 11 = .ok (.ldc2_w 174, 3) := dk_20 0 174 (dk_at dksX3_search_0 11 rfl rfl)
theorem dX3_search_14 : decode cX3_search 14 = .ok (.invokestatic 160, 3) := dk_184 0 160 (dk_at dksX3_search_0 14 rfl rfl)
theorem dX3_search_17 : decode cX3_search 17 = .ok (.ifCond .ne 5, 3) := dk_154 0 5 (dk_at dksX3_search_0 17 rfl rfl)
theorem dX3_search_20 : decode cX3_search 20 = .ok (.iconst (-1), 1) := dk_2 (dk_at dksX3_search_0 20 rfl rfl)
theorem dX3_search_21 : decode cX3_search 21 = .ok (.ireturn, 1) := dk_172 (dk_at dksX3_search_0 21 rfl rfl)
theorem dX3_search_22 : decode cX3_search 22 = .ok (.aload_n 0, 1) := dk_42 (dk_at dksX3_search_0 22 rfl rfl)
theorem dX3_search_23 : decode cX3_search 23 = .ok (.getfield 274, 3) := dk_180 1 18 (dk_at dksX3_search_1 0 rfl rfl)
theorem dX3_search_26 : decode cX3_search 26 = .ok (.bipush 40, 2) := dk_16 40 (dk_at dksX3_search_1 3 rfl rfl)
theorem dX3_search_28 : decode cX3_search 28 = .ok (.if_icmp .ne 6, 3) := dk_160 0 6 (dk_at dksX3_search_1 5 rfl rfl)
theorem dX3_search_31 : decode cX3_search 31 = .ok (.bipush (-3), 2) := dk_16 253 (dk_at dksX3_search_1 8 rfl rfl)
theorem dX3_search_33 : decode cX3_search 33 = .ok (.ireturn, 1) := dk_172 (dk_at dksX3_search_1 10 rfl rfl)
theorem dX3_search_34 : decode cX3_search 34 = .ok (.aload_n 0, 1) := dk_42 (dk_at dksX3_search_1 11 rfl rfl)
theorem dX3_search_35 : decode cX3_search 35 = .ok (.getfield 80, 3) := dk_180 0 80 (dk_at dksX3_search_1 12 rfl rfl)
theorem dX3_search_38 : decode cX3_search 38 = .ok (.iload_n 1, 1) := dk_27 (dk_at dksX3_search_1 15 rfl rfl)
theorem dX3_search_39 : decode cX3_search 39 = .ok (.iaload, 1) := dk_46 (dk_at dksX3_search_1 16 rfl rfl)
theorem dX3_search_40 : decode cX3_search 40 = .ok (.istore_n 3, 1) := dk_62 (dk_at dksX3_search_1 17 rfl rfl)
theorem dX3_search_41 : decode cX3_search 41 = .ok (.iconst 0, 1) := dk_3 (dk_at dksX3_search_1 18 rfl rfl)
theorem dX3_search_42 : decode cX3_search 42 = .ok (.istore 4, 2) := dk_54 4 (dk_at dksX3_search_1 19 rfl rfl)
theorem dX3_search_44 : decode cX3_search 44 = .ok (.iconst 0, 1) := dk_3 (dk_at dksX3_search_1 21 rfl rfl)
theorem dX3_search_45 : decode cX3_search 45 = .ok (.istore 5, 2) := dk_54 5 (dk_at dksX3_search_1 22 rfl rfl)
theorem dX3_search_47 : decode cX3_search 47 = .ok (.iload 5, 2) := dk_21 5 (dk_at dksX3_search_2 0 rfl rfl)
theorem dX3_search_49 : decode cX3_search 49 = .ok (.aload_n 0, 1) := dk_42 (dk_at dksX3_search_2 2 rfl rfl)
theorem dX3_search_50 : decode cX3_search 50 = .ok (.getfield 213, 3) := dk_180 0 213 (dk_at dksX3_search_2 3 rfl rfl)
theorem dX3_search_53 : decode cX3_search 53 = .ok (.if_icmp .ge 134, 3) := dk_162 0 134 (dk_at dksX3_search_2 6 rfl rfl)
theorem dX3_search_56 : decode cX3_search 56 = .ok (.aload_n 0, 1) := dk_42 (dk_at dksX3_search_2 9 rfl rfl)
theorem dX3_search_57 : decode cX3_search 57 = .ok (.getfield 7, 3) := dk_180 0 7 (dk_at dksX3_search_2 10 rfl rfl)
theorem dX3_search_60 : decode cX3_search 60 = .ok (.iload_n 3, 1) := dk_29 (dk_at dksX3_search_2 13 rfl rfl)
theorem dX3_search_61 : decode cX3_search 61 = .ok (.iaload, 1) := dk_46 (dk_at dksX3_search_2 14 rfl rfl)
theorem dX3_search_62 : decode cX3_search 62 = .ok (.ifCond .eq 38, 3) := dk_153 0 38 (dk_at dksX3_search_2 15 rfl rfl)
theorem dX3_search_65 : decode cX3_search 65 = .ok (.aload_n 0, 1) := dk_42 (dk_at dksX3_search_2 18 rfl rfl)
theorem dX3_search_66 : decode cX3_search 66 = .ok (.getfield 68, 3) := dk_180 0 68 (dk_at dksX3_search_2 19 rfl rfl)
theorem dX3_search_69 : decode cX3_search 69 = .ok (.iload 5, 2) := dk_21 5 (dk_at dksX3_search_2 22 rfl rfl)
theorem dX3_search_71 : decode cX3_search 71 = .ok (.baload, 1) := dk_51 (dk_at dksX3_search_3 0 rfl rfl)
theorem dX3_search_72 : decode cX3_search 72 = .ok (.ifCond .eq 16, 3) := dk_153 0 16 (dk_at dksX3_search_3 1 rfl rfl)
theorem dX3_search_75 : decode cX3_search 75 = .ok (.iload_n 2, 1) := dk_28 (dk_at dksX3_search_3 4 rfl rfl)
theorem dX3_search_76 : decode cX3_search 76 = .ok (.aload_n 0, 1) := dk_42 (dk_at dksX3_search_3 5 rfl rfl)
theorem dX3_search_77 : decode cX3_search 77 = .ok (.getfield 22, 3) := dk_180 0 22 (dk_at dksX3_search_3 6 rfl rfl)
theorem dX3_search_80 : decode cX3_search 80 = .ok (.iload_n 3, 1) := dk_29 (dk_at dksX3_search_3 9 rfl rfl)
theorem dX3_search_81 : decode cX3_search 81 = .ok (.iaload, 1) := dk_46 (dk_at dksX3_search_3 10 rfl rfl)
theorem dX3_search_82 : decode cX3_search 82 = .ok (.if_icmp .lt 22, 3) := dk_161 0 22 (dk_at dksX3_search_3 11 rfl rfl)
theorem dX3_search_85 : decode cX3_search 85 = .ok (.goto 15, 3) := dk_167 0 15 (dk_at dksX3_search_3 14 rfl rfl)
theorem dX3_search_88 : decode cX3_search 88 = .ok (.iload_n 2, 1) := dk_28 (dk_at dksX3_search_3 17 rfl rfl)
theorem dX3_search_89 : decode cX3_search 89 = .ok (.aload_n 0, 1) := dk_42 (dk_at dksX3_search_3 18 rfl rfl)
theorem dX3_search_90 : decode cX3_search 90 = .ok (.getfield 25, 3) := dk_180 0 25 (dk_at dksX3_search_3 19 rfl rfl)
theorem dX3_search_93 : decode cX3_search 93 = .ok (.iload_n 3, 1) := dk_29 (dk_at dksX3_search_3 22 rfl rfl)
theorem dX3_search_94 : decode cX3_search 94 = .ok (.iaload, 1) := dk_46 (dk_at dksX3_search_3 23 rfl rfl)
theorem dX3_search_95 : decode cX3_search 95 = .ok (.iadd, 1) := dk_96 (dk_at dksX3_search_4 0 rfl rfl)
theorem dX3_search_96 : decode cX3_search 96 = .ok (.iconst 2, 1) := dk_5 (dk_at dksX3_search_4 1 rfl rfl)
theorem dX3_search_97 : decode cX3_search 97 = .ok (.if_icmp .lt 7, 3) := dk_161 0 7 (dk_at dksX3_search_4 2 rfl rfl)
theorem dX3_search_100 : decode cX3_search 100 = .ok (.iconst 1, 1) := dk_4 (dk_at dksX3_search_4 5 rfl rfl)
theorem dX3_search_101 : decode cX3_search 101 = .ok (.goto 4, 3) := dk_167 0 4 (dk_at dksX3_search_4 6 rfl rfl)
theorem dX3_search_104 : decode cX3_search 104 = .ok (.iconst 0, 1) := dk_3 (dk_at dksX3_search_4 9 rfl rfl)
theorem dX3_search_105 : decode cX3_search 105 = .ok (.istore 6, 2) := dk_54 6 (dk_at dksX3_search_4 10 rfl rfl)
theorem dX3_search_107 : decode cX3_search 107 = .ok (.aload_n 0, 1) := dk_42 (dk_at dksX3_search_4 12 rfl rfl)
theorem dX3_search_108 : decode cX3_search 108 = .ok (.getfield 62, 3) := dk_180 0 62 (dk_at dksX3_search_4 13 rfl rfl)
theorem dX3_search_111 : decode cX3_search 111 = .ok (.iload 5, 2) := dk_21 5 (dk_at dksX3_search_4 16 rfl rfl)
theorem dX3_search_113 : decode cX3_search 113 = .ok (.iaload, 1) := dk_46 (dk_at dksX3_search_4 18 rfl rfl)
theorem dX3_search_114 : decode cX3_search 114 = .ok (.iload_n 3, 1) := dk_29 (dk_at dksX3_search_4 19 rfl rfl)
theorem dX3_search_115 : decode cX3_search 115 = .ok (.if_icmp .ne 27, 3) := dk_160 0 27 (dk_at dksX3_search_4 20 rfl rfl)
theorem dX3_search_118 : decode cX3_search 118 = .ok (.aload_n 0, 1) := dk_42 (dk_at dksX3_search_4 23 rfl rfl)
theorem dX3_search_119 : decode cX3_search 119 = .ok (.getfield 83, 3) := dk_180 0 83 (dk_at dksX3_search_5 0 rfl rfl)
theorem dX3_search_122 : decode cX3_search 122 = .ok (.iload_n 1, 1) := dk_27 (dk_at dksX3_search_5 3 rfl rfl)
theorem dX3_search_123 : decode cX3_search 123 = .ok (.iaload, 1) := dk_46 (dk_at dksX3_search_5 4 rfl rfl)
theorem dX3_search_124 : decode cX3_search 124 = .ok (.iload 5, 2) := dk_21 5 (dk_at dksX3_search_5 5 rfl rfl)
theorem dX3_search_126 : decode cX3_search 126 = .ok (.ishr, 1) := dk_122 (dk_at dksX3_search_5 7 rfl rfl)
theorem dX3_search_127 : decode cX3_search 127 = .ok (.iconst 1, 1) := dk_4 (dk_at dksX3_search_5 8 rfl rfl)
theorem dX3_search_128 : decode cX3_search 128 = .ok (.iand, 1) := dk_126 (dk_at dksX3_search_5 9 rfl rfl)
theorem dX3_search_129 : decode cX3_search 129 = .ok (.iconst 1, 1) := dk_4 (dk_at dksX3_search_5 10 rfl rfl)
theorem dX3_search_130 : decode cX3_search 130 = .ok (.if_icmp .ne 12, 3) := dk_160 0 12 (dk_at dksX3_search_5 11 rfl rfl)
theorem dX3_search_133 : decode cX3_search 133 = .ok (.iload 6, 2) := dk_21 6 (dk_at dksX3_search_5 14 rfl rfl)
theorem dX3_search_135 : decode cX3_search 135 = .ok (.ifCond .eq 7, 3) := dk_153 0 7 (dk_at dksX3_search_5 16 rfl rfl)
theorem dX3_search_138 : decode cX3_search 138 = .ok (.iconst 1, 1) := dk_4 (dk_at dksX3_search_5 19 rfl rfl)
theorem dX3_search_139 : decode cX3_search 139 = .ok (.goto 4, 3) := dk_167 0 4 (dk_at dksX3_search_5 20 rfl rfl)
theorem dX3_search_142 : decode cX3_search 142 = .ok (.iconst 0, 1) := dk_3 (dk_at dksX3_search_5 23 rfl rfl)
theorem dX3_search_143 : decode cX3_search 143 = .ok (.istore 7, 2) := dk_54 7 (dk_at dksX3_search_6 0 rfl rfl)
theorem dX3_search_145 : decode cX3_search 145 = .ok (.iload 4, 2) := dk_21 4 (dk_at dksX3_search_6 2 rfl rfl)
theorem dX3_search_147 : decode cX3_search 147 = .ok (.iload 7, 2) := dk_21 7 (dk_at dksX3_search_6 4 rfl rfl)
theorem dX3_search_149 : decode cX3_search 149 = .ok (.ifCond .eq 28, 3) := dk_153 0 28 (dk_at dksX3_search_6 6 rfl rfl)
theorem dX3_search_152 : decode cX3_search 152 = .ok (.aload_n 0, 1) := dk_42 (dk_at dksX3_search_6 9 rfl rfl)
theorem dX3_search_153 : decode cX3_search 153 = .ok (.iconst 0, 1) := dk_3 (dk_at dksX3_search_6 10 rfl rfl)
theorem dX3_search_154 : decode cX3_search 154 = .ok (.iload 5, 2) := dk_21 5 (dk_at dksX3_search_6 11 rfl rfl)
theorem dX3_search_156 : decode cX3_search 156 = .ok (.iload_n 3, 1) := dk_29 (dk_at dksX3_search_6 13 rfl rfl)
theorem dX3_search_157 : decode cX3_search 157 = .ok (.aload_n 0, 1) := dk_42 (dk_at dksX3_search_6 14 rfl rfl)
theorem dX3_search_158 : decode cX3_search 158 = .ok (.getfield 190, 3) := dk_180 0 190 (dk_at dksX3_search_6 15 rfl rfl)
theorem dX3_search_161 : decode cX3_search 161 = .ok (.bipush 24, 2) := dk_16 24 (dk_at dksX3_search_6 18 rfl rfl)
theorem dX3_search_163 : decode cX3_search 163 = .ok (.idiv, 1) := dk_108 (dk_at dksX3_search_6 20 rfl rfl)
theorem dX3_search_164 : decode cX3_search 164 = .ok (.invokevirtual 277, 3) := dk_182 1 21 (dk_at dksX3_search_6 21 rfl rfl)
theorem dX3_search_167 : decode cX3_search 167 = .ok (.ifCond .lt 10, 3) := dk_155 0 10 (dk_at dksX3_search_7 0 rfl rfl)
theorem dX3_search_170 : decode cX3_search 170 = .ok (.iconst 1, 1) := dk_4 (dk_at dksX3_search_7 3 rfl rfl)
theorem dX3_search_171 : decode cX3_search 171 = .ok (.iload 5, 2) := dk_21 5 (dk_at dksX3_search_7 4 rfl rfl)
theorem dX3_search_173 : decode cX3_search 173 = .ok (.ishl, 1) := dk_120 (dk_at dksX3_search_7 6 rfl rfl)
theorem dX3_search_174 : decode cX3_search 174 = .ok (.goto 4, 3) := dk_167 0 4 (dk_at dksX3_search_7 7 rfl rfl)
theorem dX3_search_177 : decode cX3_search 177 = .ok (.iconst 0, 1) := dk_3 (dk_at dksX3_search_7 10 rfl rfl)
theorem dX3_search_178 : decode cX3_search 178 = .ok (.ior, 1) := dk_128 (dk_at dksX3_search_7 11 rfl rfl)
theorem dX3_search_179 : decode cX3_search 179 = .ok (.istore 4, 2) := dk_54 4 (dk_at dksX3_search_7 12 rfl rfl)
theorem dX3_search_181 : decode cX3_search 181 = .ok (.iinc 5 1, 3) := dk_132 5 1 (dk_at dksX3_search_7 14 rfl rfl)
theorem dX3_search_184 : decode cX3_search 184 = .ok (.goto (-137), 3) := dk_167 255 119 (dk_at dksX3_search_7 17 rfl rfl)
theorem dX3_search_187 : decode cX3_search 187 = .ok (.iconst 0, 1) := dk_3 (dk_at dksX3_search_7 20 rfl rfl)
theorem dX3_search_188 : decode cX3_search 188 = .ok (.istore 5, 2) := dk_54 5 (dk_at dksX3_search_7 21 rfl rfl)
theorem dX3_search_190 : decode cX3_search 190 = .ok (.iload 5, 2) := dk_21 5 (dk_at dksX3_search_8 0 rfl rfl)
theorem dX3_search_192 : decode cX3_search 192 = .ok (.aload_n 0, 1) := dk_42 (dk_at dksX3_search_8 2 rfl rfl)
theorem dX3_search_193 : decode cX3_search 193 = .ok (.getfield 213, 3) := dk_180 0 213 (dk_at dksX3_search_8 3 rfl rfl)
theorem dX3_search_196 : decode cX3_search 196 = .ok (.if_icmp .ge 40, 3) := dk_162 0 40 (dk_at dksX3_search_8 6 rfl rfl)
theorem dX3_search_199 : decode cX3_search 199 = .ok (.aload_n 0, 1) := dk_42 (dk_at dksX3_search_8 9 rfl rfl)
theorem dX3_search_200 : decode cX3_search 200 = .ok (.getfield 62, 3) := dk_180 0 62 (dk_at dksX3_search_8 10 rfl rfl)
theorem dX3_search_203 : decode cX3_search 203 = .ok (.iload 5, 2) := dk_21 5 (dk_at dksX3_search_8 13 rfl rfl)
theorem dX3_search_205 : decode cX3_search 205 = .ok (.iload 4, 2) := dk_21 4 (dk_at dksX3_search_8 15 rfl rfl)
theorem dX3_search_207 : decode cX3_search 207 = .ok (.iload 5, 2) := dk_21 5 (dk_at dksX3_search_8 17 rfl rfl)
theorem dX3_search_209 : decode cX3_search 209 = .ok (.ishr, 1) := dk_122 (dk_at dksX3_search_8 19 rfl rfl)
theorem dX3_search_210 : decode cX3_search 210 = .ok (.iconst 1, 1) := dk_4 (dk_at dksX3_search_8 20 rfl rfl)
theorem dX3_search_211 : decode cX3_search 211 = .ok (.iand, 1) := dk_126 (dk_at dksX3_search_8 21 rfl rfl)
theorem dX3_search_212 : decode cX3_search 212 = .ok (.iconst 1, 1) := dk_4 (dk_at dksX3_search_8 22 rfl rfl)
theorem dX3_search_213 : decode cX3_search 213 = .ok (.if_icmp .ne 9, 3) := dk_160 0 9 (dk_at dksX3_search_9 0 rfl rfl)
theorem dX3_search_216 : decode cX3_search 216 = .ok (.sipush 200, 3) := dk_17 0 200 (dk_at dksX3_search_9 3 rfl rfl)
theorem dX3_search_219 : decode cX3_search 219 = .ok (.goto 10, 3) := dk_167 0 10 (dk_at dksX3_search_9 6 rfl rfl)
theorem dX3_search_222 : decode cX3_search 222 = .ok (.aload_n 0, 1) := dk_42 (dk_at dksX3_search_9 9 rfl rfl)
theorem dX3_search_223 : decode cX3_search 223 = .ok (.getfield 62, 3) := dk_180 0 62 (dk_at dksX3_search_9 10 rfl rfl)
theorem dX3_search_226 : decode cX3_search 226 = .ok (.iload 5, 2) := dk_21 5 (dk_at dksX3_search_9 13 rfl rfl)
theorem dX3_search_228 : decode cX3_search 228 = .ok (.iaload, 1) := dk_46 (dk_at dksX3_search_9 15 rfl rfl)
theorem dX3_search_229 : decode cX3_search 229 = .ok (.iastore, 1) := dk_79 (dk_at dksX3_search_9 16 rfl rfl)
theorem dX3_search_230 : decode cX3_search 230 = .ok (.iinc 5 1, 3) := dk_132 5 1 (dk_at dksX3_search_9 17 rfl rfl)
theorem dX3_search_233 : decode cX3_search 233 = .ok (.goto (-43), 3) := dk_167 255 213 (dk_at dksX3_search_9 20 rfl rfl)
theorem dX3_search_236 : decode cX3_search 236 = .ok (.aload_n 0, 1) := dk_42 (dk_at dksX3_search_9 23 rfl rfl)
theorem dX3_search_237 : decode cX3_search 237 = .ok (.getfield 86, 3) := dk_180 0 86 (dk_at dksX3_search_10 0 rfl rfl)
theorem dX3_search_240 : decode cX3_search 240 = .ok (.aload_n 0, 1) := dk_42 (dk_at dksX3_search_10 3 rfl rfl)
theorem dX3_search_241 : decode cX3_search 241 = .ok (.getfield 274, 3) := dk_180 1 18 (dk_at dksX3_search_10 4 rfl rfl)
theorem dX3_search_244 : decode cX3_search 244 = .ok (.iload_n 3, 1) := dk_29 (dk_at dksX3_search_10 7 rfl rfl)
theorem dX3_search_245 : decode cX3_search 245 = .ok (.iastore, 1) := dk_79 (dk_at dksX3_search_10 8 rfl rfl)
theorem dX3_search_246 : decode cX3_search 246 = .ok (.aload_n 0, 1) := dk_42 (dk_at dksX3_search_10 9 rfl rfl)
theorem dX3_search_247 : decode cX3_search 247 = .ok (.getfield 89, 3) := dk_180 0 89 (dk_at dksX3_search_10 10 rfl rfl)
theorem dX3_search_250 : decode cX3_search 250 = .ok (.aload_n 0, 1) := dk_42 (dk_at dksX3_search_10 13 rfl rfl)
theorem dX3_search_251 : decode cX3_search 251 = .ok (.getfield 274, 3) := dk_180 1 18 (dk_at dksX3_search_10 14 rfl rfl)
theorem dX3_search_254 : decode cX3_search 254 = .ok (.aload_n 0, 1) := dk_42 (dk_at dksX3_search_10 17 rfl rfl)
theorem dX3_search_255 : decode cX3_search 255 = .ok (.getfield 190, 3) := dk_180 0 190 (dk_at dksX3_search_10 18 rfl rfl)
theorem dX3_search_258 : decode cX3_search 258 = .ok (.iastore, 1) := dk_79 (dk_at dksX3_search_10 21 rfl rfl)
theorem dX3_search_259 : decode cX3_search 259 = .ok (.aload_n 0, 1) := dk_42 (dk_at dksX3_search_10 22 rfl rfl)
theorem dX3_search_260 : decode cX3_search 260 = .ok (.dup, 1) := dk_89 (dk_at dksX3_search_10 23 rfl rfl)
theorem dX3_search_261 : decode cX3_search 261 = .ok (.getfield 274, 3) := dk_180 1 18 (dk_at dksX3_search_11 0 rfl rfl)
theorem dX3_search_264 : decode cX3_search 264 = .ok (.iconst 1, 1) := dk_4 (dk_at dksX3_search_11 3 rfl rfl)
theorem dX3_search_265 : decode cX3_search 265 = .ok (.iadd, 1) := dk_96 (dk_at dksX3_search_11 4 rfl rfl)
theorem dX3_search_266 : decode cX3_search 266 = .ok (.putfield 274, 3) := dk_181 1 18 (dk_at dksX3_search_11 5 rfl rfl)
theorem dX3_search_269 : decode cX3_search 269 = .ok (.iload 4, 2) := dk_21 4 (dk_at dksX3_search_11 8 rfl rfl)
theorem dX3_search_271 : decode cX3_search 271 = .ok (.ireturn, 1) := dk_172 (dk_at dksX3_search_11 10 rfl rfl)
abbrev cX3_whyOf : ByteArray := prog_19_method_73_code
def yX3_whyOf : MethodName := ⟨RX3, "whyOf", "(IIII)I"⟩
def dkwX3_whyOf_4 : List UInt8 := [29, 21, 4, 182, 1, 95, 153, 0, 6, 21, 5, 172, 132, 5, 1, 167, 255, 149, 16, 252, 172]
abbrev dktX3_whyOf_4 : List UInt8 := dkwX3_whyOf_4 ++ []
def dkwX3_whyOf_3 : List UInt8 := [21, 5, 46, 21, 4, 164, 0, 7, 4, 167, 0, 4, 3, 54, 6, 21, 6, 153, 0, 19, 42, 21, 5, 28]
abbrev dktX3_whyOf_3 : List UInt8 := dkwX3_whyOf_3 ++ dktX3_whyOf_4
def dkwX3_whyOf_2 : List UInt8 := [21, 5, 46, 21, 4, 163, 0, 31, 21, 4, 42, 180, 0, 104, 21, 5, 46, 163, 0, 19, 42, 180, 0, 107]
abbrev dktX3_whyOf_2 : List UInt8 := dkwX3_whyOf_2 ++ dktX3_whyOf_3
def dkwX3_whyOf_1 : List UInt8 := [180, 0, 95, 21, 5, 46, 42, 180, 0, 13, 29, 46, 122, 4, 126, 4, 160, 0, 43, 42, 180, 0, 101]
abbrev dktX3_whyOf_1 : List UInt8 := dkwX3_whyOf_1 ++ dktX3_whyOf_2
def dkwX3_whyOf_0 : List UInt8 := [3, 54, 5, 21, 5, 42, 180, 1, 46, 162, 0, 104, 42, 180, 0, 92, 21, 5, 46, 27, 160, 0, 63, 42]
abbrev dktX3_whyOf_0 : List UInt8 := dkwX3_whyOf_0 ++ dktX3_whyOf_1
theorem dksX3_whyOf_0 : cX3_whyOf.data.toList.drop 0 = dktX3_whyOf_0 := by decide +kernel
theorem dksX3_whyOf_1 : cX3_whyOf.data.toList.drop 24 = dktX3_whyOf_1 := dk_seg dksX3_whyOf_0 24 rfl rfl
theorem dksX3_whyOf_2 : cX3_whyOf.data.toList.drop 47 = dktX3_whyOf_2 := dk_seg dksX3_whyOf_1 23 rfl rfl
theorem dksX3_whyOf_3 : cX3_whyOf.data.toList.drop 71 = dktX3_whyOf_3 := dk_seg dksX3_whyOf_2 24 rfl rfl
theorem dksX3_whyOf_4 : cX3_whyOf.data.toList.drop 95 = dktX3_whyOf_4 := dk_seg dksX3_whyOf_3 24 rfl rfl
theorem dX3_whyOf_0 : decode cX3_whyOf 0 = .ok (.iconst 0, 1) := dk_3 (dk_at dksX3_whyOf_0 0 rfl rfl)
theorem dX3_whyOf_1 : decode cX3_whyOf 1 = .ok (.istore 5, 2) := dk_54 5 (dk_at dksX3_whyOf_0 1 rfl rfl)
theorem dX3_whyOf_3 : decode cX3_whyOf 3 = .ok (.iload 5, 2) := dk_21 5 (dk_at dksX3_whyOf_0 3 rfl rfl)
theorem dX3_whyOf_5 : decode cX3_whyOf 5 = .ok (.aload_n 0, 1) := dk_42 (dk_at dksX3_whyOf_0 5 rfl rfl)
theorem dX3_whyOf_6 : decode cX3_whyOf 6 = .ok (.getfield 302, 3) := dk_180 1 46 (dk_at dksX3_whyOf_0 6 rfl rfl)
theorem dX3_whyOf_9 : decode cX3_whyOf 9 = .ok (.if_icmp .ge 104, 3) := dk_162 0 104 (dk_at dksX3_whyOf_0 9 rfl rfl)
theorem dX3_whyOf_12 : decode cX3_whyOf 12 = .ok (.aload_n 0, 1) := dk_42 (dk_at dksX3_whyOf_0 12 rfl rfl)
theorem dX3_whyOf_13 : decode cX3_whyOf 13 = .ok (.getfield 92, 3) := dk_180 0 92 (dk_at dksX3_whyOf_0 13 rfl rfl)
theorem dX3_whyOf_16 : decode cX3_whyOf 16 = .ok (.iload 5, 2) := dk_21 5 (dk_at dksX3_whyOf_0 16 rfl rfl)
theorem dX3_whyOf_18 : decode cX3_whyOf 18 = .ok (.iaload, 1) := dk_46 (dk_at dksX3_whyOf_0 18 rfl rfl)
theorem dX3_whyOf_19 : decode cX3_whyOf 19 = .ok (.iload_n 1, 1) := dk_27 (dk_at dksX3_whyOf_0 19 rfl rfl)
theorem dX3_whyOf_20 : decode cX3_whyOf 20 = .ok (.if_icmp .ne 63, 3) := dk_160 0 63 (dk_at dksX3_whyOf_0 20 rfl rfl)
theorem dX3_whyOf_23 : decode cX3_whyOf 23 = .ok (.aload_n 0, 1) := dk_42 (dk_at dksX3_whyOf_0 23 rfl rfl)
theorem dX3_whyOf_24 : decode cX3_whyOf 24 = .ok (.getfield 95, 3) := dk_180 0 95 (dk_at dksX3_whyOf_1 0 rfl rfl)
theorem dX3_whyOf_27 : decode cX3_whyOf 27 = .ok (.iload 5, 2) := dk_21 5 (dk_at dksX3_whyOf_1 3 rfl rfl)
theorem dX3_whyOf_29 : decode cX3_whyOf 29 = .ok (.iaload, 1) := dk_46 (dk_at dksX3_whyOf_1 5 rfl rfl)
theorem dX3_whyOf_30 : decode cX3_whyOf 30 = .ok (.aload_n 0, 1) := dk_42 (dk_at dksX3_whyOf_1 6 rfl rfl)
theorem dX3_whyOf_31 : decode cX3_whyOf 31 = .ok (.getfield 13, 3) := dk_180 0 13 (dk_at dksX3_whyOf_1 7 rfl rfl)
theorem dX3_whyOf_34 : decode cX3_whyOf 34 = .ok (.iload_n 3, 1) := dk_29 (dk_at dksX3_whyOf_1 10 rfl rfl)
theorem dX3_whyOf_35 : decode cX3_whyOf 35 = .ok (.iaload, 1) := dk_46 (dk_at dksX3_whyOf_1 11 rfl rfl)
theorem dX3_whyOf_36 : decode cX3_whyOf 36 = .ok (.ishr, 1) := dk_122 (dk_at dksX3_whyOf_1 12 rfl rfl)
theorem dX3_whyOf_37 : decode cX3_whyOf 37 = .ok (.iconst 1, 1) := dk_4 (dk_at dksX3_whyOf_1 13 rfl rfl)
theorem dX3_whyOf_38 : decode cX3_whyOf 38 = .ok (.iand, 1) := dk_126 (dk_at dksX3_whyOf_1 14 rfl rfl)
theorem dX3_whyOf_39 : decode cX3_whyOf 39 = .ok (.iconst 1, 1) := dk_4 (dk_at dksX3_whyOf_1 15 rfl rfl)
theorem dX3_whyOf_40 : decode cX3_whyOf 40 = .ok (.if_icmp .ne 43, 3) := dk_160 0 43 (dk_at dksX3_whyOf_1 16 rfl rfl)
theorem dX3_whyOf_43 : decode cX3_whyOf 43 = .ok (.aload_n 0, 1) := dk_42 (dk_at dksX3_whyOf_1 19 rfl rfl)
theorem dX3_whyOf_44 : decode cX3_whyOf 44 = .ok (.getfield 101, 3) := dk_180 0 101 (dk_at dksX3_whyOf_1 20 rfl rfl)
theorem dX3_whyOf_47 : decode cX3_whyOf 47 = .ok (.iload 5, 2) := dk_21 5 (dk_at dksX3_whyOf_2 0 rfl rfl)
theorem dX3_whyOf_49 : decode cX3_whyOf 49 = .ok (.iaload, 1) := dk_46 (dk_at dksX3_whyOf_2 2 rfl rfl)
theorem dX3_whyOf_50 : decode cX3_whyOf 50 = .ok (.iload 4, 2) := dk_21 4 (dk_at dksX3_whyOf_2 3 rfl rfl)
theorem dX3_whyOf_52 : decode cX3_whyOf 52 = .ok (.if_icmp .gt 31, 3) := dk_163 0 31 (dk_at dksX3_whyOf_2 5 rfl rfl)
theorem dX3_whyOf_55 : decode cX3_whyOf 55 = .ok (.iload 4, 2) := dk_21 4 (dk_at dksX3_whyOf_2 8 rfl rfl)
theorem dX3_whyOf_57 : decode cX3_whyOf 57 = .ok (.aload_n 0, 1) := dk_42 (dk_at dksX3_whyOf_2 10 rfl rfl)
theorem dX3_whyOf_58 : decode cX3_whyOf 58 = .ok (.getfield 104, 3) := dk_180 0 104 (dk_at dksX3_whyOf_2 11 rfl rfl)
theorem dX3_whyOf_61 : decode cX3_whyOf 61 = .ok (.iload 5, 2) := dk_21 5 (dk_at dksX3_whyOf_2 14 rfl rfl)
theorem dX3_whyOf_63 : decode cX3_whyOf 63 = .ok (.iaload, 1) := dk_46 (dk_at dksX3_whyOf_2 16 rfl rfl)
theorem dX3_whyOf_64 : decode cX3_whyOf 64 = .ok (.if_icmp .gt 19, 3) := dk_163 0 19 (dk_at dksX3_whyOf_2 17 rfl rfl)
theorem dX3_whyOf_67 : decode cX3_whyOf 67 = .ok (.aload_n 0, 1) := dk_42 (dk_at dksX3_whyOf_2 20 rfl rfl)
theorem dX3_whyOf_68 : decode cX3_whyOf 68 = .ok (.getfield 107, 3) := dk_180 0 107 (dk_at dksX3_whyOf_2 21 rfl rfl)
theorem dX3_whyOf_71 : decode cX3_whyOf 71 = .ok (.iload 5, 2) := dk_21 5 (dk_at dksX3_whyOf_3 0 rfl rfl)
theorem dX3_whyOf_73 : decode cX3_whyOf 73 = .ok (.iaload, 1) := dk_46 (dk_at dksX3_whyOf_3 2 rfl rfl)
theorem dX3_whyOf_74 : decode cX3_whyOf 74 = .ok (.iload 4, 2) := dk_21 4 (dk_at dksX3_whyOf_3 3 rfl rfl)
theorem dX3_whyOf_76 : decode cX3_whyOf 76 = .ok (.if_icmp .le 7, 3) := dk_164 0 7 (dk_at dksX3_whyOf_3 5 rfl rfl)
theorem dX3_whyOf_79 : decode cX3_whyOf 79 = .ok (.iconst 1, 1) := dk_4 (dk_at dksX3_whyOf_3 8 rfl rfl)
theorem dX3_whyOf_80 : decode cX3_whyOf 80 = .ok (.goto 4, 3) := dk_167 0 4 (dk_at dksX3_whyOf_3 9 rfl rfl)
theorem dX3_whyOf_83 : decode cX3_whyOf 83 = .ok (.iconst 0, 1) := dk_3 (dk_at dksX3_whyOf_3 12 rfl rfl)
theorem dX3_whyOf_84 : decode cX3_whyOf 84 = .ok (.istore 6, 2) := dk_54 6 (dk_at dksX3_whyOf_3 13 rfl rfl)
theorem dX3_whyOf_86 : decode cX3_whyOf 86 = .ok (.iload 6, 2) := dk_21 6 (dk_at dksX3_whyOf_3 15 rfl rfl)
theorem dX3_whyOf_88 : decode cX3_whyOf 88 = .ok (.ifCond .eq 19, 3) := dk_153 0 19 (dk_at dksX3_whyOf_3 17 rfl rfl)
theorem dX3_whyOf_91 : decode cX3_whyOf 91 = .ok (.aload_n 0, 1) := dk_42 (dk_at dksX3_whyOf_3 20 rfl rfl)
theorem dX3_whyOf_92 : decode cX3_whyOf 92 = .ok (.iload 5, 2) := dk_21 5 (dk_at dksX3_whyOf_3 21 rfl rfl)
theorem dX3_whyOf_94 : decode cX3_whyOf 94 = .ok (.iload_n 2, 1) := dk_28 (dk_at dksX3_whyOf_3 23 rfl rfl)
theorem dX3_whyOf_95 : decode cX3_whyOf 95 = .ok (.iload_n 3, 1) := dk_29 (dk_at dksX3_whyOf_4 0 rfl rfl)
theorem dX3_whyOf_96 : decode cX3_whyOf 96 = .ok (.iload 4, 2) := dk_21 4 (dk_at dksX3_whyOf_4 1 rfl rfl)
theorem dX3_whyOf_98 : decode cX3_whyOf 98 = .ok (.invokevirtual 351, 3) := dk_182 1 95 (dk_at dksX3_whyOf_4 3 rfl rfl)
theorem dX3_whyOf_101 : decode cX3_whyOf 101 = .ok (.ifCond .eq 6, 3) := dk_153 0 6 (dk_at dksX3_whyOf_4 6 rfl rfl)
theorem dX3_whyOf_104 : decode cX3_whyOf 104 = .ok (.iload 5, 2) := dk_21 5 (dk_at dksX3_whyOf_4 9 rfl rfl)
theorem dX3_whyOf_106 : decode cX3_whyOf 106 = .ok (.ireturn, 1) := dk_172 (dk_at dksX3_whyOf_4 11 rfl rfl)
theorem dX3_whyOf_107 : decode cX3_whyOf 107 = .ok (.iinc 5 1, 3) := dk_132 5 1 (dk_at dksX3_whyOf_4 12 rfl rfl)
theorem dX3_whyOf_110 : decode cX3_whyOf 110 = .ok (.goto (-107), 3) := dk_167 255 149 (dk_at dksX3_whyOf_4 15 rfl rfl)
theorem dX3_whyOf_113 : decode cX3_whyOf 113 = .ok (.bipush (-4), 2) := dk_16 252 (dk_at dksX3_whyOf_4 18 rfl rfl)
theorem dX3_whyOf_115 : decode cX3_whyOf 115 = .ok (.ireturn, 1) := dk_172 (dk_at dksX3_whyOf_4 20 rfl rfl)
abbrev cX3_holds : ByteArray := prog_19_method_72_code
def yX3_holds : MethodName := ⟨RX3, "holds", "(IIII)Z"⟩
def dkwX3_holds_7 : List UInt8 := [4, 160, 0, 7, 4, 167, 0, 4, 3, 172]
abbrev dktX3_holds_7 : List UInt8 := dkwX3_holds_7 ++ []
def dkwX3_holds_6 : List UInt8 := [46, 42, 180, 0, 128, 21, 5, 46, 184, 1, 92, 79, 132, 6, 1, 167, 255, 108, 42, 180, 0, 128, 3, 46]
abbrev dktX3_holds_6 : List UInt8 := dkwX3_holds_6 ++ dktX3_holds_7
def dkwX3_holds_5 : List UInt8 := [167, 0, 36, 132, 5, 255, 42, 180, 0, 128, 21, 5, 4, 100, 21, 7, 42, 180, 0, 128, 21, 5, 4, 100]
abbrev dktX3_holds_5 : List UInt8 := dkwX3_holds_5 ++ dktX3_holds_6
def dkwX3_holds_4 : List UInt8 := [160, 0, 26, 42, 180, 0, 128, 21, 5, 4, 100, 4, 42, 180, 0, 128, 21, 5, 4, 100, 46, 100, 79]
abbrev dktX3_holds_4 : List UInt8 := dkwX3_holds_4 ++ dktX3_holds_5
def dkwX3_holds_3 : List UInt8 := [167, 0, 13, 42, 21, 8, 28, 29, 21, 4, 182, 1, 89, 79, 132, 5, 1, 167, 0, 65, 21, 7, 8]
abbrev dktX3_holds_3 : List UInt8 := dkwX3_holds_3 ++ dktX3_holds_4
def dkwX3_holds_2 : List UInt8 := [153, 0, 9, 21, 7, 4, 160, 0, 36, 42, 180, 0, 128, 21, 5, 21, 7, 154, 0, 8, 21, 8]
abbrev dktX3_holds_2 : List UInt8 := dkwX3_holds_2 ++ dktX3_holds_3
def dkwX3_holds_1 : List UInt8 := [104, 21, 6, 96, 46, 54, 7, 42, 180, 0, 113, 16, 80, 27, 104, 21, 6, 96, 46, 54, 8, 21, 7]
abbrev dktX3_holds_1 : List UInt8 := dkwX3_holds_1 ++ dktX3_holds_2
def dkwX3_holds_0 : List UInt8 := [3, 54, 5, 3, 54, 6, 21, 6, 42, 180, 0, 98, 27, 46, 162, 0, 143, 42, 180, 0, 110, 16, 80, 27]
abbrev dktX3_holds_0 : List UInt8 := dkwX3_holds_0 ++ dktX3_holds_1
theorem dksX3_holds_0 : cX3_holds.data.toList.drop 0 = dktX3_holds_0 := by decide +kernel
theorem dksX3_holds_1 : cX3_holds.data.toList.drop 24 = dktX3_holds_1 := dk_seg dksX3_holds_0 24 rfl rfl
theorem dksX3_holds_2 : cX3_holds.data.toList.drop 47 = dktX3_holds_2 := dk_seg dksX3_holds_1 23 rfl rfl
theorem dksX3_holds_3 : cX3_holds.data.toList.drop 69 = dktX3_holds_3 := dk_seg dksX3_holds_2 22 rfl rfl
theorem dksX3_holds_4 : cX3_holds.data.toList.drop 92 = dktX3_holds_4 := dk_seg dksX3_holds_3 23 rfl rfl
theorem dksX3_holds_5 : cX3_holds.data.toList.drop 115 = dktX3_holds_5 := dk_seg dksX3_holds_4 23 rfl rfl
theorem dksX3_holds_6 : cX3_holds.data.toList.drop 139 = dktX3_holds_6 := dk_seg dksX3_holds_5 24 rfl rfl
theorem dksX3_holds_7 : cX3_holds.data.toList.drop 163 = dktX3_holds_7 := dk_seg dksX3_holds_6 24 rfl rfl
theorem dX3_holds_0 : decode cX3_holds 0 = .ok (.iconst 0, 1) := dk_3 (dk_at dksX3_holds_0 0 rfl rfl)
theorem dX3_holds_1 : decode cX3_holds 1 = .ok (.istore 5, 2) := dk_54 5 (dk_at dksX3_holds_0 1 rfl rfl)
theorem dX3_holds_3 : decode cX3_holds 3 = .ok (.iconst 0, 1) := dk_3 (dk_at dksX3_holds_0 3 rfl rfl)
theorem dX3_holds_4 : decode cX3_holds 4 = .ok (.istore 6, 2) := dk_54 6 (dk_at dksX3_holds_0 4 rfl rfl)
theorem dX3_holds_6 : decode cX3_holds 6 = .ok (.iload 6, 2) := dk_21 6 (dk_at dksX3_holds_0 6 rfl rfl)
theorem dX3_holds_8 : decode cX3_holds 8 = .ok (.aload_n 0, 1) := dk_42 (dk_at dksX3_holds_0 8 rfl rfl)
theorem dX3_holds_9 : decode cX3_holds 9 = .ok (.getfield 98, 3) := dk_180 0 98 (dk_at dksX3_holds_0 9 rfl rfl)
theorem dX3_holds_12 : decode cX3_holds 12 = .ok (.iload_n 1, 1) := dk_27 (dk_at dksX3_holds_0 12 rfl rfl)
theorem dX3_holds_13 : decode cX3_holds 13 = .ok (.iaload, 1) := dk_46 (dk_at dksX3_holds_0 13 rfl rfl)
theorem dX3_holds_14 : decode cX3_holds 14 = .ok (.if_icmp .ge 143, 3) := dk_162 0 143 (dk_at dksX3_holds_0 14 rfl rfl)
theorem dX3_holds_17 : decode cX3_holds 17 = .ok (.aload_n 0, 1) := dk_42 (dk_at dksX3_holds_0 17 rfl rfl)
theorem dX3_holds_18 : decode cX3_holds 18 = .ok (.getfield 110, 3) := dk_180 0 110 (dk_at dksX3_holds_0 18 rfl rfl)
theorem dX3_holds_21 : decode cX3_holds 21 = .ok (.bipush 80, 2) := dk_16 80 (dk_at dksX3_holds_0 21 rfl rfl)
theorem dX3_holds_23 : decode cX3_holds 23 = .ok (.iload_n 1, 1) := dk_27 (dk_at dksX3_holds_0 23 rfl rfl)
theorem dX3_holds_24 : decode cX3_holds 24 = .ok (.imul, 1) := dk_104 (dk_at dksX3_holds_1 0 rfl rfl)
theorem dX3_holds_25 : decode cX3_holds 25 = .ok (.iload 6, 2) := dk_21 6 (dk_at dksX3_holds_1 1 rfl rfl)
theorem dX3_holds_27 : decode cX3_holds 27 = .ok (.iadd, 1) := dk_96 (dk_at dksX3_holds_1 3 rfl rfl)
theorem dX3_holds_28 : decode cX3_holds 28 = .ok (.iaload, 1) := dk_46 (dk_at dksX3_holds_1 4 rfl rfl)
theorem dX3_holds_29 : decode cX3_holds 29 = .ok (.istore 7, 2) := dk_54 7 (dk_at dksX3_holds_1 5 rfl rfl)
theorem dX3_holds_31 : decode cX3_holds 31 = .ok (.aload_n 0, 1) := dk_42 (dk_at dksX3_holds_1 7 rfl rfl)
theorem dX3_holds_32 : decode cX3_holds 32 = .ok (.getfield 113, 3) := dk_180 0 113 (dk_at dksX3_holds_1 8 rfl rfl)
theorem dX3_holds_35 : decode cX3_holds 35 = .ok (.bipush 80, 2) := dk_16 80 (dk_at dksX3_holds_1 11 rfl rfl)
theorem dX3_holds_37 : decode cX3_holds 37 = .ok (.iload_n 1, 1) := dk_27 (dk_at dksX3_holds_1 13 rfl rfl)
theorem dX3_holds_38 : decode cX3_holds 38 = .ok (.imul, 1) := dk_104 (dk_at dksX3_holds_1 14 rfl rfl)
theorem dX3_holds_39 : decode cX3_holds 39 = .ok (.iload 6, 2) := dk_21 6 (dk_at dksX3_holds_1 15 rfl rfl)
theorem dX3_holds_41 : decode cX3_holds 41 = .ok (.iadd, 1) := dk_96 (dk_at dksX3_holds_1 17 rfl rfl)
theorem dX3_holds_42 : decode cX3_holds 42 = .ok (.iaload, 1) := dk_46 (dk_at dksX3_holds_1 18 rfl rfl)
theorem dX3_holds_43 : decode cX3_holds 43 = .ok (.istore 8, 2) := dk_54 8 (dk_at dksX3_holds_1 19 rfl rfl)
theorem dX3_holds_45 : decode cX3_holds 45 = .ok (.iload 7, 2) := dk_21 7 (dk_at dksX3_holds_1 21 rfl rfl)
theorem dX3_holds_47 : decode cX3_holds 47 = .ok (.ifCond .eq 9, 3) := dk_153 0 9 (dk_at dksX3_holds_2 0 rfl rfl)
theorem dX3_holds_50 : decode cX3_holds 50 = .ok (.iload 7, 2) := dk_21 7 (dk_at dksX3_holds_2 3 rfl rfl)
theorem dX3_holds_52 : decode cX3_holds 52 = .ok (.iconst 1, 1) := dk_4 (dk_at dksX3_holds_2 5 rfl rfl)
theorem dX3_holds_53 : decode cX3_holds 53 = .ok (.if_icmp .ne 36, 3) := dk_160 0 36 (dk_at dksX3_holds_2 6 rfl rfl)
theorem dX3_holds_56 : decode cX3_holds 56 = .ok (.aload_n 0, 1) := dk_42 (dk_at dksX3_holds_2 9 rfl rfl)
theorem dX3_holds_57 : decode cX3_holds 57 = .ok (.getfield 128, 3) := dk_180 0 128 (dk_at dksX3_holds_2 10 rfl rfl)
theorem dX3_holds_60 : decode cX3_holds 60 = .ok (.iload 5, 2) := dk_21 5 (dk_at dksX3_holds_2 13 rfl rfl)
theorem dX3_holds_62 : decode cX3_holds 62 = .ok (.iload 7, 2) := dk_21 7 (dk_at dksX3_holds_2 15 rfl rfl)
theorem dX3_holds_64 : decode cX3_holds 64 = .ok (.ifCond .ne 8, 3) := dk_154 0 8 (dk_at dksX3_holds_2 17 rfl rfl)
theorem dX3_holds_67 : decode cX3_holds 67 = .ok (.iload 8, 2) := dk_21 8 (dk_at dksX3_holds_2 20 rfl rfl)
theorem dX3_holds_69 : decode cX3_holds 69 = .ok (.goto 13, 3) := dk_167 0 13 (dk_at dksX3_holds_3 0 rfl rfl)
theorem dX3_holds_72 : decode cX3_holds 72 = .ok (.aload_n 0, 1) := dk_42 (dk_at dksX3_holds_3 3 rfl rfl)
theorem dX3_holds_73 : decode cX3_holds 73 = .ok (.iload 8, 2) := dk_21 8 (dk_at dksX3_holds_3 4 rfl rfl)
theorem dX3_holds_75 : decode cX3_holds 75 = .ok (.iload_n 2, 1) := dk_28 (dk_at dksX3_holds_3 6 rfl rfl)
theorem dX3_holds_76 : decode cX3_holds 76 = .ok (.iload_n 3, 1) := dk_29 (dk_at dksX3_holds_3 7 rfl rfl)
theorem dX3_holds_77 : decode cX3_holds 77 = .ok (.iload 4, 2) := dk_21 4 (dk_at dksX3_holds_3 8 rfl rfl)
theorem dX3_holds_79 : decode cX3_holds 79 = .ok (.invokevirtual 345, 3) := dk_182 1 89 (dk_at dksX3_holds_3 10 rfl rfl)
theorem dX3_holds_82 : decode cX3_holds 82 = .ok (.iastore, 1) := dk_79 (dk_at dksX3_holds_3 13 rfl rfl)
theorem dX3_holds_83 : decode cX3_holds 83 = .ok (.iinc 5 1, 3) := dk_132 5 1 (dk_at dksX3_holds_3 14 rfl rfl)
theorem dX3_holds_86 : decode cX3_holds 86 = .ok (.goto 65, 3) := dk_167 0 65 (dk_at dksX3_holds_3 17 rfl rfl)
theorem dX3_holds_89 : decode cX3_holds 89 = .ok (.iload 7, 2) := dk_21 7 (dk_at dksX3_holds_3 20 rfl rfl)
theorem dX3_holds_91 : decode cX3_holds 91 = .ok (.iconst 5, 1) := dk_8 (dk_at dksX3_holds_3 22 rfl rfl)
theorem dX3_holds_92 : decode cX3_holds 92 = .ok (.if_icmp .ne 26, 3) := dk_160 0 26 (dk_at dksX3_holds_4 0 rfl rfl)
theorem dX3_holds_95 : decode cX3_holds 95 = .ok (.aload_n 0, 1) := dk_42 (dk_at dksX3_holds_4 3 rfl rfl)
theorem dX3_holds_96 : decode cX3_holds 96 = .ok (.getfield 128, 3) := dk_180 0 128 (dk_at dksX3_holds_4 4 rfl rfl)
theorem dX3_holds_99 : decode cX3_holds 99 = .ok (.iload 5, 2) := dk_21 5 (dk_at dksX3_holds_4 7 rfl rfl)
theorem dX3_holds_101 : decode cX3_holds 101 = .ok (.iconst 1, 1) := dk_4 (dk_at dksX3_holds_4 9 rfl rfl)
theorem dX3_holds_102 : decode cX3_holds 102 = .ok (.isub, 1) := dk_100 (dk_at dksX3_holds_4 10 rfl rfl)
theorem dX3_holds_103 : decode cX3_holds 103 = .ok (.iconst 1, 1) := dk_4 (dk_at dksX3_holds_4 11 rfl rfl)
theorem dX3_holds_104 : decode cX3_holds 104 = .ok (.aload_n 0, 1) := dk_42 (dk_at dksX3_holds_4 12 rfl rfl)
theorem dX3_holds_105 : decode cX3_holds 105 = .ok (.getfield 128, 3) := dk_180 0 128 (dk_at dksX3_holds_4 13 rfl rfl)
theorem dX3_holds_108 : decode cX3_holds 108 = .ok (.iload 5, 2) := dk_21 5 (dk_at dksX3_holds_4 16 rfl rfl)
theorem dX3_holds_110 : decode cX3_holds 110 = .ok (.iconst 1, 1) := dk_4 (dk_at dksX3_holds_4 18 rfl rfl)
theorem dX3_holds_111 : decode cX3_holds 111 = .ok (.isub, 1) := dk_100 (dk_at dksX3_holds_4 19 rfl rfl)
theorem dX3_holds_112 : decode cX3_holds 112 = .ok (.iaload, 1) := dk_46 (dk_at dksX3_holds_4 20 rfl rfl)
theorem dX3_holds_113 : decode cX3_holds 113 = .ok (.isub, 1) := dk_100 (dk_at dksX3_holds_4 21 rfl rfl)
theorem dX3_holds_114 : decode cX3_holds 114 = .ok (.iastore, 1) := dk_79 (dk_at dksX3_holds_4 22 rfl rfl)
theorem dX3_holds_115 : decode cX3_holds 115 = .ok (.goto 36, 3) := dk_167 0 36 (dk_at dksX3_holds_5 0 rfl rfl)
theorem dX3_holds_118 : decode cX3_holds 118 = .ok (.iinc 5 (-1), 3) := dk_132 5 255 (dk_at dksX3_holds_5 3 rfl rfl)
theorem dX3_holds_121 : decode cX3_holds 121 = .ok (.aload_n 0, 1) := dk_42 (dk_at dksX3_holds_5 6 rfl rfl)
theorem dX3_holds_122 : decode cX3_holds 122 = .ok (.getfield 128, 3) := dk_180 0 128 (dk_at dksX3_holds_5 7 rfl rfl)
theorem dX3_holds_125 : decode cX3_holds 125 = .ok (.iload 5, 2) := dk_21 5 (dk_at dksX3_holds_5 10 rfl rfl)
theorem dX3_holds_127 : decode cX3_holds 127 = .ok (.iconst 1, 1) := dk_4 (dk_at dksX3_holds_5 12 rfl rfl)
theorem dX3_holds_128 : decode cX3_holds 128 = .ok (.isub, 1) := dk_100 (dk_at dksX3_holds_5 13 rfl rfl)
theorem dX3_holds_129 : decode cX3_holds 129 = .ok (.iload 7, 2) := dk_21 7 (dk_at dksX3_holds_5 14 rfl rfl)
theorem dX3_holds_131 : decode cX3_holds 131 = .ok (.aload_n 0, 1) := dk_42 (dk_at dksX3_holds_5 16 rfl rfl)
theorem dX3_holds_132 : decode cX3_holds 132 = .ok (.getfield 128, 3) := dk_180 0 128 (dk_at dksX3_holds_5 17 rfl rfl)
theorem dX3_holds_135 : decode cX3_holds 135 = .ok (.iload 5, 2) := dk_21 5 (dk_at dksX3_holds_5 20 rfl rfl)
theorem dX3_holds_137 : decode cX3_holds 137 = .ok (.iconst 1, 1) := dk_4 (dk_at dksX3_holds_5 22 rfl rfl)
theorem dX3_holds_138 : decode cX3_holds 138 = .ok (.isub, 1) := dk_100 (dk_at dksX3_holds_5 23 rfl rfl)
theorem dX3_holds_139 : decode cX3_holds 139 = .ok (.iaload, 1) := dk_46 (dk_at dksX3_holds_6 0 rfl rfl)
theorem dX3_holds_140 : decode cX3_holds 140 = .ok (.aload_n 0, 1) := dk_42 (dk_at dksX3_holds_6 1 rfl rfl)
theorem dX3_holds_141 : decode cX3_holds 141 = .ok (.getfield 128, 3) := dk_180 0 128 (dk_at dksX3_holds_6 2 rfl rfl)
theorem dX3_holds_144 : decode cX3_holds 144 = .ok (.iload 5, 2) := dk_21 5 (dk_at dksX3_holds_6 5 rfl rfl)
theorem dX3_holds_146 : decode cX3_holds 146 = .ok (.iaload, 1) := dk_46 (dk_at dksX3_holds_6 7 rfl rfl)
theorem dX3_holds_147 : decode cX3_holds 147 = .ok (.invokestatic 348, 3) := dk_184 1 92 (dk_at dksX3_holds_6 8 rfl rfl)
theorem dX3_holds_150 : decode cX3_holds 150 = .ok (.iastore, 1) := dk_79 (dk_at dksX3_holds_6 11 rfl rfl)
theorem dX3_holds_151 : decode cX3_holds 151 = .ok (.iinc 6 1, 3) := dk_132 6 1 (dk_at dksX3_holds_6 12 rfl rfl)
theorem dX3_holds_154 : decode cX3_holds 154 = .ok (.goto (-148), 3) := dk_167 255 108 (dk_at dksX3_holds_6 15 rfl rfl)
theorem dX3_holds_157 : decode cX3_holds 157 = .ok (.aload_n 0, 1) := dk_42 (dk_at dksX3_holds_6 18 rfl rfl)
theorem dX3_holds_158 : decode cX3_holds 158 = .ok (.getfield 128, 3) := dk_180 0 128 (dk_at dksX3_holds_6 19 rfl rfl)
theorem dX3_holds_161 : decode cX3_holds 161 = .ok (.iconst 0, 1) := dk_3 (dk_at dksX3_holds_6 22 rfl rfl)
theorem dX3_holds_162 : decode cX3_holds 162 = .ok (.iaload, 1) := dk_46 (dk_at dksX3_holds_6 23 rfl rfl)
theorem dX3_holds_163 : decode cX3_holds 163 = .ok (.iconst 1, 1) := dk_4 (dk_at dksX3_holds_7 0 rfl rfl)
theorem dX3_holds_164 : decode cX3_holds 164 = .ok (.if_icmp .ne 7, 3) := dk_160 0 7 (dk_at dksX3_holds_7 1 rfl rfl)
theorem dX3_holds_167 : decode cX3_holds 167 = .ok (.iconst 1, 1) := dk_4 (dk_at dksX3_holds_7 4 rfl rfl)
theorem dX3_holds_168 : decode cX3_holds 168 = .ok (.goto 4, 3) := dk_167 0 4 (dk_at dksX3_holds_7 5 rfl rfl)
theorem dX3_holds_171 : decode cX3_holds 171 = .ok (.iconst 0, 1) := dk_3 (dk_at dksX3_holds_7 8 rfl rfl)
theorem dX3_holds_172 : decode cX3_holds 172 = .ok (.ireturn, 1) := dk_172 (dk_at dksX3_holds_7 9 rfl rfl)
abbrev cX3_nameOf : ByteArray := prog_19_method_71_code
def yX3_nameOf : MethodName := ⟨RX3, "nameOf", "(IIII)I"⟩
def dkwX3_nameOf_4 : List UInt8 := [172, 42, 180, 0, 31, 29, 51, 153, 0, 7, 4, 167, 0, 4, 3, 172]
abbrev dktX3_nameOf_4 : List UInt8 := dkwX3_nameOf_4 ++ []
def dkwX3_nameOf_3 : List UInt8 := [180, 0, 7, 29, 46, 154, 0, 7, 3, 167, 0, 15, 42, 180, 0, 16, 29, 46, 42, 29, 182, 0, 216, 100]
abbrev dktX3_nameOf_3 : List UInt8 := dkwX3_nameOf_3 ++ dktX3_nameOf_4
def dkwX3_nameOf_2 : List UInt8 := [42, 180, 0, 56, 28, 46, 172, 42, 28, 182, 0, 241, 172, 21, 4, 172, 42, 29, 182, 0, 216, 172, 42]
abbrev dktX3_nameOf_2 : List UInt8 := dkwX3_nameOf_2 ++ dktX3_nameOf_3
def dkwX3_nameOf_1 : List UInt8 := [171, 0, 0, 0, 0, 0, 99, 0, 0, 0, 5, 0, 0, 0, 98, 0, 0, 0, 73, 0, 0, 0, 100, 0, 0, 0, 64, 0, 0, 0, 107, 0, 0, 0, 58, 0, 0, 0, 110, 0, 0, 0, 67, 0, 0, 0, 115, 0, 0, 0, 51]
abbrev dktX3_nameOf_1 : List UInt8 := dkwX3_nameOf_1 ++ dktX3_nameOf_2
def dkwX3_nameOf_0 : List UInt8 := [27]
abbrev dktX3_nameOf_0 : List UInt8 := dkwX3_nameOf_0 ++ dktX3_nameOf_1
theorem dksX3_nameOf_0 : cX3_nameOf.data.toList.drop 0 = dktX3_nameOf_0 := by decide +kernel
theorem dksX3_nameOf_1 : cX3_nameOf.data.toList.drop 1 = dktX3_nameOf_1 := dk_seg dksX3_nameOf_0 1 rfl rfl
theorem dksX3_nameOf_2 : cX3_nameOf.data.toList.drop 52 = dktX3_nameOf_2 := dk_seg dksX3_nameOf_1 51 rfl rfl
theorem dksX3_nameOf_3 : cX3_nameOf.data.toList.drop 75 = dktX3_nameOf_3 := dk_seg dksX3_nameOf_2 23 rfl rfl
theorem dksX3_nameOf_4 : cX3_nameOf.data.toList.drop 99 = dktX3_nameOf_4 := dk_seg dksX3_nameOf_3 24 rfl rfl
theorem dX3_nameOf_0 : decode cX3_nameOf 0 = .ok (.iload_n 1, 1) := dk_27 (dk_at dksX3_nameOf_0 0 rfl rfl)
theorem dX3_nameOf_1 : decode cX3_nameOf 1 = .ok (.lookupswitch 99 #[(98, 73), (100, 64), (107, 58), (110, 67), (115, 51)], 51) := by decide +kernel
theorem dX3_nameOf_52 : decode cX3_nameOf 52 = .ok (.aload_n 0, 1) := dk_42 (dk_at dksX3_nameOf_2 0 rfl rfl)
theorem dX3_nameOf_53 : decode cX3_nameOf 53 = .ok (.getfield 56, 3) := dk_180 0 56 (dk_at dksX3_nameOf_2 1 rfl rfl)
theorem dX3_nameOf_56 : decode cX3_nameOf 56 = .ok (.iload_n 2, 1) := dk_28 (dk_at dksX3_nameOf_2 4 rfl rfl)
theorem dX3_nameOf_57 : decode cX3_nameOf 57 = .ok (.iaload, 1) := dk_46 (dk_at dksX3_nameOf_2 5 rfl rfl)
theorem dX3_nameOf_58 : decode cX3_nameOf 58 = .ok (.ireturn, 1) := dk_172 (dk_at dksX3_nameOf_2 6 rfl rfl)
theorem dX3_nameOf_59 : decode cX3_nameOf 59 = .ok (.aload_n 0, 1) := dk_42 (dk_at dksX3_nameOf_2 7 rfl rfl)
theorem dX3_nameOf_60 : decode cX3_nameOf 60 = .ok (.iload_n 2, 1) := dk_28 (dk_at dksX3_nameOf_2 8 rfl rfl)
theorem dX3_nameOf_61 : decode cX3_nameOf 61 = .ok (.invokevirtual 241, 3) := dk_182 0 241 (dk_at dksX3_nameOf_2 9 rfl rfl)
theorem dX3_nameOf_64 : decode cX3_nameOf 64 = .ok (.ireturn, 1) := dk_172 (dk_at dksX3_nameOf_2 12 rfl rfl)
theorem dX3_nameOf_65 : decode cX3_nameOf 65 = .ok (.iload 4, 2) := dk_21 4 (dk_at dksX3_nameOf_2 13 rfl rfl)
theorem dX3_nameOf_67 : decode cX3_nameOf 67 = .ok (.ireturn, 1) := dk_172 (dk_at dksX3_nameOf_2 15 rfl rfl)
theorem dX3_nameOf_68 : decode cX3_nameOf 68 = .ok (.aload_n 0, 1) := dk_42 (dk_at dksX3_nameOf_2 16 rfl rfl)
theorem dX3_nameOf_69 : decode cX3_nameOf 69 = .ok (.iload_n 3, 1) := dk_29 (dk_at dksX3_nameOf_2 17 rfl rfl)
theorem dX3_nameOf_70 : decode cX3_nameOf 70 = .ok (.invokevirtual 216, 3) := dk_182 0 216 (dk_at dksX3_nameOf_2 18 rfl rfl)
theorem dX3_nameOf_73 : decode cX3_nameOf 73 = .ok (.ireturn, 1) := dk_172 (dk_at dksX3_nameOf_2 21 rfl rfl)
theorem dX3_nameOf_74 : decode cX3_nameOf 74 = .ok (.aload_n 0, 1) := dk_42 (dk_at dksX3_nameOf_2 22 rfl rfl)
theorem dX3_nameOf_75 : decode cX3_nameOf 75 = .ok (.getfield 7, 3) := dk_180 0 7 (dk_at dksX3_nameOf_3 0 rfl rfl)
theorem dX3_nameOf_78 : decode cX3_nameOf 78 = .ok (.iload_n 3, 1) := dk_29 (dk_at dksX3_nameOf_3 3 rfl rfl)
theorem dX3_nameOf_79 : decode cX3_nameOf 79 = .ok (.iaload, 1) := dk_46 (dk_at dksX3_nameOf_3 4 rfl rfl)
theorem dX3_nameOf_80 : decode cX3_nameOf 80 = .ok (.ifCond .ne 7, 3) := dk_154 0 7 (dk_at dksX3_nameOf_3 5 rfl rfl)
theorem dX3_nameOf_83 : decode cX3_nameOf 83 = .ok (.iconst 0, 1) := dk_3 (dk_at dksX3_nameOf_3 8 rfl rfl)
theorem dX3_nameOf_84 : decode cX3_nameOf 84 = .ok (.goto 15, 3) := dk_167 0 15 (dk_at dksX3_nameOf_3 9 rfl rfl)
theorem dX3_nameOf_87 : decode cX3_nameOf 87 = .ok (.aload_n 0, 1) := dk_42 (dk_at dksX3_nameOf_3 12 rfl rfl)
theorem dX3_nameOf_88 : decode cX3_nameOf 88 = .ok (.getfield 16, 3) := dk_180 0 16 (dk_at dksX3_nameOf_3 13 rfl rfl)
theorem dX3_nameOf_91 : decode cX3_nameOf 91 = .ok (.iload_n 3, 1) := dk_29 (dk_at dksX3_nameOf_3 16 rfl rfl)
theorem dX3_nameOf_92 : decode cX3_nameOf 92 = .ok (.iaload, 1) := dk_46 (dk_at dksX3_nameOf_3 17 rfl rfl)
theorem dX3_nameOf_93 : decode cX3_nameOf 93 = .ok (.aload_n 0, 1) := dk_42 (dk_at dksX3_nameOf_3 18 rfl rfl)
theorem dX3_nameOf_94 : decode cX3_nameOf 94 = .ok (.iload_n 3, 1) := dk_29 (dk_at dksX3_nameOf_3 19 rfl rfl)
theorem dX3_nameOf_95 : decode cX3_nameOf 95 = .ok (.invokevirtual 216, 3) := dk_182 0 216 (dk_at dksX3_nameOf_3 20 rfl rfl)
theorem dX3_nameOf_98 : decode cX3_nameOf 98 = .ok (.isub, 1) := dk_100 (dk_at dksX3_nameOf_3 23 rfl rfl)
theorem dX3_nameOf_99 : decode cX3_nameOf 99 = .ok (.ireturn, 1) := dk_172 (dk_at dksX3_nameOf_4 0 rfl rfl)
theorem dX3_nameOf_100 : decode cX3_nameOf 100 = .ok (.aload_n 0, 1) := dk_42 (dk_at dksX3_nameOf_4 1 rfl rfl)
theorem dX3_nameOf_101 : decode cX3_nameOf 101 = .ok (.getfield 31, 3) := dk_180 0 31 (dk_at dksX3_nameOf_4 2 rfl rfl)
theorem dX3_nameOf_104 : decode cX3_nameOf 104 = .ok (.iload_n 3, 1) := dk_29 (dk_at dksX3_nameOf_4 5 rfl rfl)
theorem dX3_nameOf_105 : decode cX3_nameOf 105 = .ok (.baload, 1) := dk_51 (dk_at dksX3_nameOf_4 6 rfl rfl)
theorem dX3_nameOf_106 : decode cX3_nameOf 106 = .ok (.ifCond .eq 7, 3) := dk_153 0 7 (dk_at dksX3_nameOf_4 7 rfl rfl)
theorem dX3_nameOf_109 : decode cX3_nameOf 109 = .ok (.iconst 1, 1) := dk_4 (dk_at dksX3_nameOf_4 10 rfl rfl)
theorem dX3_nameOf_110 : decode cX3_nameOf 110 = .ok (.goto 4, 3) := dk_167 0 4 (dk_at dksX3_nameOf_4 11 rfl rfl)
theorem dX3_nameOf_113 : decode cX3_nameOf 113 = .ok (.iconst 0, 1) := dk_3 (dk_at dksX3_nameOf_4 14 rfl rfl)
theorem dX3_nameOf_114 : decode cX3_nameOf 114 = .ok (.ireturn, 1) := dk_172 (dk_at dksX3_nameOf_4 15 rfl rfl)
abbrev cX3_done : ByteArray := prog_19_method_70_code
def yX3_done : MethodName := ⟨RX3, "done", "(III)I"⟩
def dkwX3_done_3 : List UInt8 := [160, 0, 7, 4, 167, 0, 4, 3, 172, 27, 28, 126, 172, 27, 28, 128, 172]
abbrev dktX3_done_3 : List UInt8 := dkwX3_done_3 ++ []
def dkwX3_done_2 : List UInt8 := [27, 28, 162, 0, 7, 4, 167, 0, 4, 3, 172, 27, 28, 164, 0, 7, 4, 167, 0, 4, 3, 172, 27, 28]
abbrev dktX3_done_2 : List UInt8 := dkwX3_done_2 ++ dktX3_done_3
def dkwX3_done_1 : List UInt8 := [170, 0, 0, 0, 0, 0, 72, 0, 0, 0, 2, 0, 0, 0, 6, 0, 0, 0, 35, 0, 0, 0, 46, 0, 0, 0, 57, 0, 0, 0, 72, 0, 0, 0, 68]
abbrev dktX3_done_1 : List UInt8 := dkwX3_done_1 ++ dktX3_done_2
def dkwX3_done_0 : List UInt8 := [26]
abbrev dktX3_done_0 : List UInt8 := dkwX3_done_0 ++ dktX3_done_1
theorem dksX3_done_0 : cX3_done.data.toList.drop 0 = dktX3_done_0 := by decide +kernel
theorem dksX3_done_1 : cX3_done.data.toList.drop 1 = dktX3_done_1 := dk_seg dksX3_done_0 1 rfl rfl
theorem dksX3_done_2 : cX3_done.data.toList.drop 36 = dktX3_done_2 := dk_seg dksX3_done_1 35 rfl rfl
theorem dksX3_done_3 : cX3_done.data.toList.drop 60 = dktX3_done_3 := dk_seg dksX3_done_2 24 rfl rfl
theorem dX3_done_0 : decode cX3_done 0 = .ok (.iload_n 0, 1) := dk_26 (dk_at dksX3_done_0 0 rfl rfl)
theorem dX3_done_1 : decode cX3_done 1 = .ok (.tableswitch 72 2 6 #[35, 46, 57, 72, 68], 35) := by decide +kernel
theorem dX3_done_36 : decode cX3_done 36 = .ok (.iload_n 1, 1) := dk_27 (dk_at dksX3_done_2 0 rfl rfl)
theorem dX3_done_37 : decode cX3_done 37 = .ok (.iload_n 2, 1) := dk_28 (dk_at dksX3_done_2 1 rfl rfl)
theorem dX3_done_38 : decode cX3_done 38 = .ok (.if_icmp .ge 7, 3) := dk_162 0 7 (dk_at dksX3_done_2 2 rfl rfl)
theorem dX3_done_41 : decode cX3_done 41 = .ok (.iconst 1, 1) := dk_4 (dk_at dksX3_done_2 5 rfl rfl)
theorem dX3_done_42 : decode cX3_done 42 = .ok (.goto 4, 3) := dk_167 0 4 (dk_at dksX3_done_2 6 rfl rfl)
theorem dX3_done_45 : decode cX3_done 45 = .ok (.iconst 0, 1) := dk_3 (dk_at dksX3_done_2 9 rfl rfl)
theorem dX3_done_46 : decode cX3_done 46 = .ok (.ireturn, 1) := dk_172 (dk_at dksX3_done_2 10 rfl rfl)
theorem dX3_done_47 : decode cX3_done 47 = .ok (.iload_n 1, 1) := dk_27 (dk_at dksX3_done_2 11 rfl rfl)
theorem dX3_done_48 : decode cX3_done 48 = .ok (.iload_n 2, 1) := dk_28 (dk_at dksX3_done_2 12 rfl rfl)
theorem dX3_done_49 : decode cX3_done 49 = .ok (.if_icmp .le 7, 3) := dk_164 0 7 (dk_at dksX3_done_2 13 rfl rfl)
theorem dX3_done_52 : decode cX3_done 52 = .ok (.iconst 1, 1) := dk_4 (dk_at dksX3_done_2 16 rfl rfl)
theorem dX3_done_53 : decode cX3_done 53 = .ok (.goto 4, 3) := dk_167 0 4 (dk_at dksX3_done_2 17 rfl rfl)
theorem dX3_done_56 : decode cX3_done 56 = .ok (.iconst 0, 1) := dk_3 (dk_at dksX3_done_2 20 rfl rfl)
theorem dX3_done_57 : decode cX3_done 57 = .ok (.ireturn, 1) := dk_172 (dk_at dksX3_done_2 21 rfl rfl)
theorem dX3_done_58 : decode cX3_done 58 = .ok (.iload_n 1, 1) := dk_27 (dk_at dksX3_done_2 22 rfl rfl)
theorem dX3_done_59 : decode cX3_done 59 = .ok (.iload_n 2, 1) := dk_28 (dk_at dksX3_done_2 23 rfl rfl)
theorem dX3_done_60 : decode cX3_done 60 = .ok (.if_icmp .ne 7, 3) := dk_160 0 7 (dk_at dksX3_done_3 0 rfl rfl)
theorem dX3_done_63 : decode cX3_done 63 = .ok (.iconst 1, 1) := dk_4 (dk_at dksX3_done_3 3 rfl rfl)
theorem dX3_done_64 : decode cX3_done 64 = .ok (.goto 4, 3) := dk_167 0 4 (dk_at dksX3_done_3 4 rfl rfl)
theorem dX3_done_67 : decode cX3_done 67 = .ok (.iconst 0, 1) := dk_3 (dk_at dksX3_done_3 7 rfl rfl)
theorem dX3_done_68 : decode cX3_done 68 = .ok (.ireturn, 1) := dk_172 (dk_at dksX3_done_3 8 rfl rfl)
theorem dX3_done_69 : decode cX3_done 69 = .ok (.iload_n 1, 1) := dk_27 (dk_at dksX3_done_3 9 rfl rfl)
theorem dX3_done_70 : decode cX3_done 70 = .ok (.iload_n 2, 1) := dk_28 (dk_at dksX3_done_3 10 rfl rfl)
theorem dX3_done_71 : decode cX3_done 71 = .ok (.iand, 1) := dk_126 (dk_at dksX3_done_3 11 rfl rfl)
theorem dX3_done_72 : decode cX3_done 72 = .ok (.ireturn, 1) := dk_172 (dk_at dksX3_done_3 12 rfl rfl)
theorem dX3_done_73 : decode cX3_done 73 = .ok (.iload_n 1, 1) := dk_27 (dk_at dksX3_done_3 13 rfl rfl)
theorem dX3_done_74 : decode cX3_done 74 = .ok (.iload_n 2, 1) := dk_28 (dk_at dksX3_done_3 14 rfl rfl)
theorem dX3_done_75 : decode cX3_done 75 = .ok (.ior, 1) := dk_128 (dk_at dksX3_done_3 15 rfl rfl)
theorem dX3_done_76 : decode cX3_done 76 = .ok (.ireturn, 1) := dk_172 (dk_at dksX3_done_3 16 rfl rfl)
abbrev cX3_follow : ByteArray := prog_19_method_55_code
def yX3_follow : MethodName := ⟨RX3, "follow", "(I)I"⟩
def dkwX3_follow_5 : List UInt8 := [180, 0, 74, 28, 46, 79, 42, 180, 0, 80, 27, 46, 172]
abbrev dktX3_follow_5 : List UInt8 := dkwX3_follow_5 ++ []
def dkwX3_follow_4 : List UInt8 := [167, 0, 4, 28, 61, 132, 3, 1, 167, 255, 171, 28, 156, 0, 6, 16, 252, 172, 42, 180, 0, 80, 27, 42]
abbrev dktX3_follow_4 : List UInt8 := dkwX3_follow_4 ++ dktX3_follow_5
def dkwX3_follow_3 : List UInt8 := [153, 0, 26, 28, 155, 0, 18, 42, 180, 0, 77, 29, 46, 42, 180, 0, 77, 28, 46, 164, 0, 7, 29]
abbrev dktX3_follow_3 : List UInt8 := dkwX3_follow_3 ++ dktX3_follow_4
def dkwX3_follow_2 : List UInt8 := [180, 0, 71, 29, 46, 42, 180, 0, 80, 27, 46, 160, 0, 7, 4, 167, 0, 4, 3, 54, 4, 21, 4]
abbrev dktX3_follow_2 : List UInt8 := dkwX3_follow_2 ++ dktX3_follow_3
def dkwX3_follow_1 : List UInt8 := [180, 0, 83, 27, 46, 29, 122, 4, 126, 4, 160, 0, 30, 42, 29, 182, 1, 6, 153, 0, 22, 42]
abbrev dktX3_follow_1 : List UInt8 := dkwX3_follow_1 ++ dktX3_follow_2
def dkwX3_follow_0 : List UInt8 := [42, 27, 182, 1, 12, 154, 0, 5, 2, 172, 2, 61, 3, 62, 29, 42, 180, 0, 213, 162, 0, 83, 42]
abbrev dktX3_follow_0 : List UInt8 := dkwX3_follow_0 ++ dktX3_follow_1
theorem dksX3_follow_0 : cX3_follow.data.toList.drop 0 = dktX3_follow_0 := by decide +kernel
theorem dksX3_follow_1 : cX3_follow.data.toList.drop 23 = dktX3_follow_1 := dk_seg dksX3_follow_0 23 rfl rfl
theorem dksX3_follow_2 : cX3_follow.data.toList.drop 45 = dktX3_follow_2 := dk_seg dksX3_follow_1 22 rfl rfl
theorem dksX3_follow_3 : cX3_follow.data.toList.drop 68 = dktX3_follow_3 := dk_seg dksX3_follow_2 23 rfl rfl
theorem dksX3_follow_4 : cX3_follow.data.toList.drop 91 = dktX3_follow_4 := dk_seg dksX3_follow_3 23 rfl rfl
theorem dksX3_follow_5 : cX3_follow.data.toList.drop 115 = dktX3_follow_5 := dk_seg dksX3_follow_4 24 rfl rfl
theorem dX3_follow_0 : decode cX3_follow 0 = .ok (.aload_n 0, 1) := dk_42 (dk_at dksX3_follow_0 0 rfl rfl)
theorem dX3_follow_1 : decode cX3_follow 1 = .ok (.iload_n 1, 1) := dk_27 (dk_at dksX3_follow_0 1 rfl rfl)
theorem dX3_follow_2 : decode cX3_follow 2 = .ok (.invokevirtual 268, 3) := dk_182 1 12 (dk_at dksX3_follow_0 2 rfl rfl)
theorem dX3_follow_5 : decode cX3_follow 5 = .ok (.ifCond .ne 5, 3) := dk_154 0 5 (dk_at dksX3_follow_0 5 rfl rfl)
theorem dX3_follow_8 : decode cX3_follow 8 = .ok (.iconst (-1), 1) := dk_2 (dk_at dksX3_follow_0 8 rfl rfl)
theorem dX3_follow_9 : decode cX3_follow 9 = .ok (.ireturn, 1) := dk_172 (dk_at dksX3_follow_0 9 rfl rfl)
theorem dX3_follow_10 : decode cX3_follow 10 = .ok (.iconst (-1), 1) := dk_2 (dk_at dksX3_follow_0 10 rfl rfl)
theorem dX3_follow_11 : decode cX3_follow 11 = .ok (.istore_n 2, 1) := dk_61 (dk_at dksX3_follow_0 11 rfl rfl)
theorem dX3_follow_12 : decode cX3_follow 12 = .ok (.iconst 0, 1) := dk_3 (dk_at dksX3_follow_0 12 rfl rfl)
theorem dX3_follow_13 : decode cX3_follow 13 = .ok (.istore_n 3, 1) := dk_62 (dk_at dksX3_follow_0 13 rfl rfl)
theorem dX3_follow_14 : decode cX3_follow 14 = .ok (.iload_n 3, 1) := dk_29 (dk_at dksX3_follow_0 14 rfl rfl)
theorem dX3_follow_15 : decode cX3_follow 15 = .ok (.aload_n 0, 1) := dk_42 (dk_at dksX3_follow_0 15 rfl rfl)
theorem dX3_follow_16 : decode cX3_follow 16 = .ok (.getfield 213, 3) := dk_180 0 213 (dk_at dksX3_follow_0 16 rfl rfl)
theorem dX3_follow_19 : decode cX3_follow 19 = .ok (.if_icmp .ge 83, 3) := dk_162 0 83 (dk_at dksX3_follow_0 19 rfl rfl)
theorem dX3_follow_22 : decode cX3_follow 22 = .ok (.aload_n 0, 1) := dk_42 (dk_at dksX3_follow_0 22 rfl rfl)
theorem dX3_follow_23 : decode cX3_follow 23 = .ok (.getfield 83, 3) := dk_180 0 83 (dk_at dksX3_follow_1 0 rfl rfl)
theorem dX3_follow_26 : decode cX3_follow 26 = .ok (.iload_n 1, 1) := dk_27 (dk_at dksX3_follow_1 3 rfl rfl)
theorem dX3_follow_27 : decode cX3_follow 27 = .ok (.iaload, 1) := dk_46 (dk_at dksX3_follow_1 4 rfl rfl)
theorem dX3_follow_28 : decode cX3_follow 28 = .ok (.iload_n 3, 1) := dk_29 (dk_at dksX3_follow_1 5 rfl rfl)
theorem dX3_follow_29 : decode cX3_follow 29 = .ok (.ishr, 1) := dk_122 (dk_at dksX3_follow_1 6 rfl rfl)
theorem dX3_follow_30 : decode cX3_follow 30 = .ok (.iconst 1, 1) := dk_4 (dk_at dksX3_follow_1 7 rfl rfl)
theorem dX3_follow_31 : decode cX3_follow 31 = .ok (.iand, 1) := dk_126 (dk_at dksX3_follow_1 8 rfl rfl)
theorem dX3_follow_32 : decode cX3_follow 32 = .ok (.iconst 1, 1) := dk_4 (dk_at dksX3_follow_1 9 rfl rfl)
theorem dX3_follow_33 : decode cX3_follow 33 = .ok (.if_icmp .ne 30, 3) := dk_160 0 30 (dk_at dksX3_follow_1 10 rfl rfl)
theorem dX3_follow_36 : decode cX3_follow 36 = .ok (.aload_n 0, 1) := dk_42 (dk_at dksX3_follow_1 13 rfl rfl)
theorem dX3_follow_37 : decode cX3_follow 37 = .ok (.iload_n 3, 1) := dk_29 (dk_at dksX3_follow_1 14 rfl rfl)
theorem dX3_follow_38 : decode cX3_follow 38 = .ok (.invokevirtual 262, 3) := dk_182 1 6 (dk_at dksX3_follow_1 15 rfl rfl)
theorem dX3_follow_41 : decode cX3_follow 41 = .ok (.ifCond .eq 22, 3) := dk_153 0 22 (dk_at dksX3_follow_1 18 rfl rfl)
theorem dX3_follow_44 : decode cX3_follow 44 = .ok (.aload_n 0, 1) := dk_42 (dk_at dksX3_follow_1 21 rfl rfl)
theorem dX3_follow_45 : decode cX3_follow 45 = .ok (.getfield 71, 3) := dk_180 0 71 (dk_at dksX3_follow_2 0 rfl rfl)
theorem dX3_follow_48 : decode cX3_follow 48 = .ok (.iload_n 3, 1) := dk_29 (dk_at dksX3_follow_2 3 rfl rfl)
theorem dX3_follow_49 : decode cX3_follow 49 = .ok (.iaload, 1) := dk_46 (dk_at dksX3_follow_2 4 rfl rfl)
theorem dX3_follow_50 : decode cX3_follow 50 = .ok (.aload_n 0, 1) := dk_42 (dk_at dksX3_follow_2 5 rfl rfl)
theorem dX3_follow_51 : decode cX3_follow 51 = .ok (.getfield 80, 3) := dk_180 0 80 (dk_at dksX3_follow_2 6 rfl rfl)
theorem dX3_follow_54 : decode cX3_follow 54 = .ok (.iload_n 1, 1) := dk_27 (dk_at dksX3_follow_2 9 rfl rfl)
theorem dX3_follow_55 : decode cX3_follow 55 = .ok (.iaload, 1) := dk_46 (dk_at dksX3_follow_2 10 rfl rfl)
theorem dX3_follow_56 : decode cX3_follow 56 = .ok (.if_icmp .ne 7, 3) := dk_160 0 7 (dk_at dksX3_follow_2 11 rfl rfl)
theorem dX3_follow_59 : decode cX3_follow 59 = .ok (.iconst 1, 1) := dk_4 (dk_at dksX3_follow_2 14 rfl rfl)
theorem dX3_follow_60 : decode cX3_follow 60 = .ok (.goto 4, 3) := dk_167 0 4 (dk_at dksX3_follow_2 15 rfl rfl)
theorem dX3_follow_63 : decode cX3_follow 63 = .ok (.iconst 0, 1) := dk_3 (dk_at dksX3_follow_2 18 rfl rfl)
theorem dX3_follow_64 : decode cX3_follow 64 = .ok (.istore 4, 2) := dk_54 4 (dk_at dksX3_follow_2 19 rfl rfl)
theorem dX3_follow_66 : decode cX3_follow 66 = .ok (.iload 4, 2) := dk_21 4 (dk_at dksX3_follow_2 21 rfl rfl)
theorem dX3_follow_68 : decode cX3_follow 68 = .ok (.ifCond .eq 26, 3) := dk_153 0 26 (dk_at dksX3_follow_3 0 rfl rfl)
theorem dX3_follow_71 : decode cX3_follow 71 = .ok (.iload_n 2, 1) := dk_28 (dk_at dksX3_follow_3 3 rfl rfl)
theorem dX3_follow_72 : decode cX3_follow 72 = .ok (.ifCond .lt 18, 3) := dk_155 0 18 (dk_at dksX3_follow_3 4 rfl rfl)
theorem dX3_follow_75 : decode cX3_follow 75 = .ok (.aload_n 0, 1) := dk_42 (dk_at dksX3_follow_3 7 rfl rfl)
theorem dX3_follow_76 : decode cX3_follow 76 = .ok (.getfield 77, 3) := dk_180 0 77 (dk_at dksX3_follow_3 8 rfl rfl)
theorem dX3_follow_79 : decode cX3_follow 79 = .ok (.iload_n 3, 1) := dk_29 (dk_at dksX3_follow_3 11 rfl rfl)
theorem dX3_follow_80 : decode cX3_follow 80 = .ok (.iaload, 1) := dk_46 (dk_at dksX3_follow_3 12 rfl rfl)
theorem dX3_follow_81 : decode cX3_follow 81 = .ok (.aload_n 0, 1) := dk_42 (dk_at dksX3_follow_3 13 rfl rfl)
theorem dX3_follow_82 : decode cX3_follow 82 = .ok (.getfield 77, 3) := dk_180 0 77 (dk_at dksX3_follow_3 14 rfl rfl)
theorem dX3_follow_85 : decode cX3_follow 85 = .ok (.iload_n 2, 1) := dk_28 (dk_at dksX3_follow_3 17 rfl rfl)
theorem dX3_follow_86 : decode cX3_follow 86 = .ok (.iaload, 1) := dk_46 (dk_at dksX3_follow_3 18 rfl rfl)
theorem dX3_follow_87 : decode cX3_follow 87 = .ok (.if_icmp .le 7, 3) := dk_164 0 7 (dk_at dksX3_follow_3 19 rfl rfl)
theorem dX3_follow_90 : decode cX3_follow 90 = .ok (.iload_n 3, 1) := dk_29 (dk_at dksX3_follow_3 22 rfl rfl)
theorem dX3_follow_91 : decode cX3_follow 91 = .ok (.goto 4, 3) := dk_167 0 4 (dk_at dksX3_follow_4 0 rfl rfl)
theorem dX3_follow_94 : decode cX3_follow 94 = .ok (.iload_n 2, 1) := dk_28 (dk_at dksX3_follow_4 3 rfl rfl)
theorem dX3_follow_95 : decode cX3_follow 95 = .ok (.istore_n 2, 1) := dk_61 (dk_at dksX3_follow_4 4 rfl rfl)
theorem dX3_follow_96 : decode cX3_follow 96 = .ok (.iinc 3 1, 3) := dk_132 3 1 (dk_at dksX3_follow_4 5 rfl rfl)
theorem dX3_follow_99 : decode cX3_follow 99 = .ok (.goto (-85), 3) := dk_167 255 171 (dk_at dksX3_follow_4 8 rfl rfl)
theorem dX3_follow_102 : decode cX3_follow 102 = .ok (.iload_n 2, 1) := dk_28 (dk_at dksX3_follow_4 11 rfl rfl)
theorem dX3_follow_103 : decode cX3_follow 103 = .ok (.ifCond .ge 6, 3) := dk_156 0 6 (dk_at dksX3_follow_4 12 rfl rfl)
theorem dX3_follow_106 : decode cX3_follow 106 = .ok (.bipush (-4), 2) := dk_16 252 (dk_at dksX3_follow_4 15 rfl rfl)
theorem dX3_follow_108 : decode cX3_follow 108 = .ok (.ireturn, 1) := dk_172 (dk_at dksX3_follow_4 17 rfl rfl)
theorem dX3_follow_109 : decode cX3_follow 109 = .ok (.aload_n 0, 1) := dk_42 (dk_at dksX3_follow_4 18 rfl rfl)
theorem dX3_follow_110 : decode cX3_follow 110 = .ok (.getfield 80, 3) := dk_180 0 80 (dk_at dksX3_follow_4 19 rfl rfl)
theorem dX3_follow_113 : decode cX3_follow 113 = .ok (.iload_n 1, 1) := dk_27 (dk_at dksX3_follow_4 22 rfl rfl)
theorem dX3_follow_114 : decode cX3_follow 114 = .ok (.aload_n 0, 1) := dk_42 (dk_at dksX3_follow_4 23 rfl rfl)
theorem dX3_follow_115 : decode cX3_follow 115 = .ok (.getfield 74, 3) := dk_180 0 74 (dk_at dksX3_follow_5 0 rfl rfl)
theorem dX3_follow_118 : decode cX3_follow 118 = .ok (.iload_n 2, 1) := dk_28 (dk_at dksX3_follow_5 3 rfl rfl)
theorem dX3_follow_119 : decode cX3_follow 119 = .ok (.iaload, 1) := dk_46 (dk_at dksX3_follow_5 4 rfl rfl)
theorem dX3_follow_120 : decode cX3_follow 120 = .ok (.iastore, 1) := dk_79 (dk_at dksX3_follow_5 5 rfl rfl)
theorem dX3_follow_121 : decode cX3_follow 121 = .ok (.aload_n 0, 1) := dk_42 (dk_at dksX3_follow_5 6 rfl rfl)
theorem dX3_follow_122 : decode cX3_follow 122 = .ok (.getfield 80, 3) := dk_180 0 80 (dk_at dksX3_follow_5 7 rfl rfl)
theorem dX3_follow_125 : decode cX3_follow 125 = .ok (.iload_n 1, 1) := dk_27 (dk_at dksX3_follow_5 10 rfl rfl)
theorem dX3_follow_126 : decode cX3_follow 126 = .ok (.iaload, 1) := dk_46 (dk_at dksX3_follow_5 11 rfl rfl)
theorem dX3_follow_127 : decode cX3_follow 127 = .ok (.ireturn, 1) := dk_172 (dk_at dksX3_follow_5 12 rfl rfl)
abbrev cX3_type : ByteArray := prog_19_method_56_code
def yX3_type : MethodName := ⟨RX3, "type", "(JI)I"⟩
def dkwX3_type_5 : List UInt8 := [180, 1, 32, 172]
abbrev dktX3_type_5 : List UInt8 := dkwX3_type_5 ++ []
def dkwX3_type_4 : List UInt8 := [20, 1, 26, 127, 136, 79, 42, 89, 180, 1, 32, 4, 96, 181, 1, 32, 132, 4, 255, 167, 255, 217, 42]
abbrev dktX3_type_4 : List UInt8 := dkwX3_type_4 ++ dktX3_type_5
def dkwX3_type_3 : List UInt8 := [54, 4, 21, 4, 155, 0, 40, 42, 180, 0, 116, 42, 180, 1, 32, 31, 16, 8, 21, 4, 104, 123]
abbrev dktX3_type_3 : List UInt8 := dkwX3_type_3 ++ dktX3_type_4
def dkwX3_type_2 : List UInt8 := [132, 4, 1, 167, 255, 222, 42, 180, 1, 32, 29, 96, 16, 80, 164, 0, 6, 16, 253, 172, 29, 4, 100]
abbrev dktX3_type_2 : List UInt8 := dkwX3_type_2 ++ dktX3_type_3
def dkwX3_type_1 : List UInt8 := [16, 8, 21, 4, 104, 123, 20, 1, 26, 127, 20, 1, 28, 20, 1, 30, 184, 0, 160, 154, 0, 5, 2, 172]
abbrev dktX3_type_1 : List UInt8 := dkwX3_type_1 ++ dktX3_type_2
def dkwX3_type_0 : List UInt8 := [29, 133, 10, 20, 1, 24, 184, 0, 160, 154, 0, 5, 2, 172, 3, 54, 4, 21, 4, 29, 162, 0, 34, 31]
abbrev dktX3_type_0 : List UInt8 := dkwX3_type_0 ++ dktX3_type_1
theorem dksX3_type_0 : cX3_type.data.toList.drop 0 = dktX3_type_0 := by decide +kernel
theorem dksX3_type_1 : cX3_type.data.toList.drop 24 = dktX3_type_1 := dk_seg dksX3_type_0 24 rfl rfl
theorem dksX3_type_2 : cX3_type.data.toList.drop 48 = dktX3_type_2 := dk_seg dksX3_type_1 24 rfl rfl
theorem dksX3_type_3 : cX3_type.data.toList.drop 71 = dktX3_type_3 := dk_seg dksX3_type_2 23 rfl rfl
theorem dksX3_type_4 : cX3_type.data.toList.drop 93 = dktX3_type_4 := dk_seg dksX3_type_3 22 rfl rfl
theorem dksX3_type_5 : cX3_type.data.toList.drop 116 = dktX3_type_5 := dk_seg dksX3_type_4 23 rfl rfl
theorem dX3_type_0 : decode cX3_type 0 = .ok (.iload_n 3, 1) := dk_29 (dk_at dksX3_type_0 0 rfl rfl)
theorem dX3_type_1 : decode cX3_type 1 = .ok (.i2l, 1) := dk_133 (dk_at dksX3_type_0 1 rfl rfl)
theorem dX3_type_2 : decode cX3_type 2 = .ok (.lconst 1, 1) := dk_10 (dk_at dksX3_type_0 2 rfl rfl)
theorem dX3_type_3 : decode cX3_type 3 = .ok (.ldc2_w 280, 3) := dk_20 1 24 (dk_at dksX3_type_0 3 rfl rfl)
theorem dX3_type_6 : decode cX3_type 6 = .ok (.invokestatic 160, 3) := dk_184 0 160 (dk_at dksX3_type_0 6 rfl rfl)
theorem dX3_type_9 : decode cX3_type 9 = .ok (.ifCond .ne 5, 3) := dk_154 0 5 (dk_at dksX3_type_0 9 rfl rfl)
theorem dX3_type_12 : decode cX3_type 12 = .ok (.iconst (-1), 1) := dk_2 (dk_at dksX3_type_0 12 rfl rfl)
theorem dX3_type_13 : decode cX3_type 13 = .ok (.ireturn, 1) := dk_172 (dk_at dksX3_type_0 13 rfl rfl)
theorem dX3_type_14 : decode cX3_type 14 = .ok (.iconst 0, 1) := dk_3 (dk_at dksX3_type_0 14 rfl rfl)
theorem dX3_type_15 : decode cX3_type 15 = .ok (.istore 4, 2) := dk_54 4 (dk_at dksX3_type_0 15 rfl rfl)
theorem dX3_type_17 : decode cX3_type 17 = .ok (.iload 4, 2) := dk_21 4 (dk_at dksX3_type_0 17 rfl rfl)
theorem dX3_type_19 : decode cX3_type 19 = .ok (.iload_n 3, 1) := dk_29 (dk_at dksX3_type_0 19 rfl rfl)
theorem dX3_type_20 : decode cX3_type 20 = .ok (.if_icmp .ge 34, 3) := dk_162 0 34 (dk_at dksX3_type_0 20 rfl rfl)
theorem dX3_type_23 : decode cX3_type 23 = .ok (.lload_n 1, 1) := dk_31 (dk_at dksX3_type_0 23 rfl rfl)
theorem dX3_type_24 : decode cX3_type 24 = .ok (.bipush 8, 2) := dk_16 8 (dk_at dksX3_type_1 0 rfl rfl)
theorem dX3_type_26 : decode cX3_type 26 = .ok (.iload 4, 2) := dk_21 4 (dk_at dksX3_type_1 2 rfl rfl)
theorem dX3_type_28 : decode cX3_type 28 = .ok (.imul, 1) := dk_104 (dk_at dksX3_type_1 4 rfl rfl)
theorem dX3_type_29 : decode cX3_type 29 = .ok (.lshr, 1) := dk_123 (dk_at dksX3_type_1 5 rfl rfl)
theorem dX3_type_30 : decode cX3_type 30 = .ok (.ldc2_w 282, 3) := dk_20 1 26 (dk_at dksX3_type_1 6 rfl rfl)
theorem dX3_type_33 : decode cX3_type 33 = .ok (.land, 1) := dk_127 (dk_at dksX3_type_1 9 rfl rfl)
theorem dX3_type_34 : decode cX3_type 34 = .ok (.ldc2_w 284, 3) := dk_20 1 28 (dk_at dksX3_type_1 10 rfl rfl)
theorem dX3_type_37 : decode cX3_type 37 = .ok (.ldc2_w 286, 3) := dk_20 1 30 (dk_at dksX3_type_1 13 rfl rfl)
theorem dX3_type_40 : decode cX3_type 40 = .ok (.invokestatic 160, 3) := dk_184 0 160 (dk_at dksX3_type_1 16 rfl rfl)
theorem dX3_type_43 : decode cX3_type 43 = .ok (.ifCond .ne 5, 3) := dk_154 0 5 (dk_at dksX3_type_1 19 rfl rfl)
theorem dX3_type_46 : decode cX3_type 46 = .ok (.iconst (-1), 1) := dk_2 (dk_at dksX3_type_1 22 rfl rfl)
theorem dX3_type_47 : decode cX3_type 47 = .ok (.ireturn, 1) := dk_172 (dk_at dksX3_type_1 23 rfl rfl)
theorem dX3_type_48 : decode cX3_type 48 = .ok (.iinc 4 1, 3) := dk_132 4 1 (dk_at dksX3_type_2 0 rfl rfl)
theorem dX3_type_51 : decode cX3_type 51 = .ok (.goto (-34), 3) := dk_167 255 222 (dk_at dksX3_type_2 3 rfl rfl)
theorem dX3_type_54 : decode cX3_type 54 = .ok (.aload_n 0, 1) := dk_42 (dk_at dksX3_type_2 6 rfl rfl)
theorem dX3_type_55 : decode cX3_type 55 = .ok (.getfield 288, 3) := dk_180 1 32 (dk_at dksX3_type_2 7 rfl rfl)
theorem dX3_type_58 : decode cX3_type 58 = .ok (.iload_n 3, 1) := dk_29 (dk_at dksX3_type_2 10 rfl rfl)
theorem dX3_type_59 : decode cX3_type 59 = .ok (.iadd, 1) := dk_96 (dk_at dksX3_type_2 11 rfl rfl)
theorem dX3_type_60 : decode cX3_type 60 = .ok (.bipush 80, 2) := dk_16 80 (dk_at dksX3_type_2 12 rfl rfl)
theorem dX3_type_62 : decode cX3_type 62 = .ok (.if_icmp .le 6, 3) := dk_164 0 6 (dk_at dksX3_type_2 14 rfl rfl)
theorem dX3_type_65 : decode cX3_type 65 = .ok (.bipush (-3), 2) := dk_16 253 (dk_at dksX3_type_2 17 rfl rfl)
theorem dX3_type_67 : decode cX3_type 67 = .ok (.ireturn, 1) := dk_172 (dk_at dksX3_type_2 19 rfl rfl)
theorem dX3_type_68 : decode cX3_type 68 = .ok (.iload_n 3, 1) := dk_29 (dk_at dksX3_type_2 20 rfl rfl)
theorem dX3_type_69 : decode cX3_type 69 = .ok (.iconst 1, 1) := dk_4 (dk_at dksX3_type_2 21 rfl rfl)
theorem dX3_type_70 : decode cX3_type 70 = .ok (.isub, 1) := dk_100 (dk_at dksX3_type_2 22 rfl rfl)
theorem dX3_type_71 : decode cX3_type 71 = .ok (.istore 4, 2) := dk_54 4 (dk_at dksX3_type_3 0 rfl rfl)
theorem dX3_type_73 : decode cX3_type 73 = .ok (.iload 4, 2) := dk_21 4 (dk_at dksX3_type_3 2 rfl rfl)
theorem dX3_type_75 : decode cX3_type 75 = .ok (.ifCond .lt 40, 3) := dk_155 0 40 (dk_at dksX3_type_3 4 rfl rfl)
theorem dX3_type_78 : decode cX3_type 78 = .ok (.aload_n 0, 1) := dk_42 (dk_at dksX3_type_3 7 rfl rfl)
theorem dX3_type_79 : decode cX3_type 79 = .ok (.getfield 116, 3) := dk_180 0 116 (dk_at dksX3_type_3 8 rfl rfl)
theorem dX3_type_82 : decode cX3_type 82 = .ok (.aload_n 0, 1) := dk_42 (dk_at dksX3_type_3 11 rfl rfl)
theorem dX3_type_83 : decode cX3_type 83 = .ok (.getfield 288, 3) := dk_180 1 32 (dk_at dksX3_type_3 12 rfl rfl)
theorem dX3_type_86 : decode cX3_type 86 = .ok (.lload_n 1, 1) := dk_31 (dk_at dksX3_type_3 15 rfl rfl)
theorem dX3_type_87 : decode cX3_type 87 = .ok (.bipush 8, 2) := dk_16 8 (dk_at dksX3_type_3 16 rfl rfl)
theorem dX3_type_89 : decode cX3_type 89 = .ok (.iload 4, 2) := dk_21 4 (dk_at dksX3_type_3 18 rfl rfl)
theorem dX3_type_91 : decode cX3_type 91 = .ok (.imul, 1) := dk_104 (dk_at dksX3_type_3 20 rfl rfl)
theorem dX3_type_92 : decode cX3_type 92 = .ok (.lshr, 1) := dk_123 (dk_at dksX3_type_3 21 rfl rfl)
theorem dX3_type_93 : decode cX3_type 93 = .ok (.ldc2_w 282, 3) := dk_20 1 26 (dk_at dksX3_type_4 0 rfl rfl)
theorem dX3_type_96 : decode cX3_type 96 = .ok (.land, 1) := dk_127 (dk_at dksX3_type_4 3 rfl rfl)
theorem dX3_type_97 : decode cX3_type 97 = .ok (.l2i, 1) := dk_136 (dk_at dksX3_type_4 4 rfl rfl)
theorem dX3_type_98 : decode cX3_type 98 = .ok (.iastore, 1) := dk_79 (dk_at dksX3_type_4 5 rfl rfl)
theorem dX3_type_99 : decode cX3_type 99 = .ok (.aload_n 0, 1) := dk_42 (dk_at dksX3_type_4 6 rfl rfl)
theorem dX3_type_100 : decode cX3_type 100 = .ok (.dup, 1) := dk_89 (dk_at dksX3_type_4 7 rfl rfl)
theorem dX3_type_101 : decode cX3_type 101 = .ok (.getfield 288, 3) := dk_180 1 32 (dk_at dksX3_type_4 8 rfl rfl)
theorem dX3_type_104 : decode cX3_type 104 = .ok (.iconst 1, 1) := dk_4 (dk_at dksX3_type_4 11 rfl rfl)
theorem dX3_type_105 : decode cX3_type 105 = .ok (.iadd, 1) := dk_96 (dk_at dksX3_type_4 12 rfl rfl)
theorem dX3_type_106 : decode cX3_type 106 = .ok (.putfield 288, 3) := dk_181 1 32 (dk_at dksX3_type_4 13 rfl rfl)
theorem dX3_type_109 : decode cX3_type 109 = .ok (.iinc 4 (-1), 3) := dk_132 4 255 (dk_at dksX3_type_4 16 rfl rfl)
theorem dX3_type_112 : decode cX3_type 112 = .ok (.goto (-39), 3) := dk_167 255 217 (dk_at dksX3_type_4 19 rfl rfl)
theorem dX3_type_115 : decode cX3_type 115 = .ok (.aload_n 0, 1) := dk_42 (dk_at dksX3_type_4 22 rfl rfl)
theorem dX3_type_116 : decode cX3_type 116 = .ok (.getfield 288, 3) := dk_180 1 32 (dk_at dksX3_type_5 0 rfl rfl)
theorem dX3_type_119 : decode cX3_type 119 = .ok (.ireturn, 1) := dk_172 (dk_at dksX3_type_5 3 rfl rfl)
abbrev cX3_law : ByteArray := prog_19_method_65_code
def yX3_law : MethodName := ⟨RX3, "law", "()I"⟩
def dkwX3_law_13 : List UInt8 := [180, 1, 46, 4, 100, 172]
abbrev dktX3_law_13 : List UInt8 := dkwX3_law_13 ++ []
def dkwX3_law_12 : List UInt8 := [180, 0, 107, 42, 180, 1, 46, 17, 1, 161, 79, 42, 89, 180, 1, 46, 4, 96, 181, 1, 46, 42]
abbrev dktX3_law_12 : List UInt8 := dkwX3_law_12 ++ dktX3_law_13
def dkwX3_law_11 : List UInt8 := [42, 180, 0, 101, 42, 180, 1, 46, 3, 79, 42, 180, 0, 104, 42, 180, 1, 46, 17, 1, 160, 79, 42]
abbrev dktX3_law_11 : List UInt8 := dkwX3_law_11 ++ dktX3_law_12
def dkwX3_law_10 : List UInt8 := [29, 154, 0, 8, 16, 15, 167, 0, 4, 29, 79, 42, 180, 0, 98, 42, 180, 1, 46, 42, 180, 1, 49, 79]
abbrev dktX3_law_10 : List UInt8 := dkwX3_law_10 ++ dktX3_law_11
def dkwX3_law_9 : List UInt8 := [160, 0, 6, 16, 253, 172, 42, 180, 0, 92, 42, 180, 1, 46, 28, 79, 42, 180, 0, 95, 42, 180, 1, 46]
abbrev dktX3_law_9 : List UInt8 := dkwX3_law_9 ++ dktX3_law_10
def dkwX3_law_8 : List UInt8 := [181, 1, 32, 42, 180, 1, 38, 153, 0, 11, 16, 236, 42, 180, 1, 35, 100, 172, 42, 180, 1, 46, 16, 16]
abbrev dktX3_law_8 : List UInt8 := dkwX3_law_8 ++ dktX3_law_9
def dkwX3_law_7 : List UInt8 := [180, 1, 38, 154, 0, 10, 42, 182, 1, 42, 153, 0, 7, 4, 167, 0, 4, 3, 181, 1, 38, 42, 3]
abbrev dktX3_law_7 : List UInt8 := dkwX3_law_7 ++ dktX3_law_8
def dkwX3_law_6 : List UInt8 := [89, 180, 1, 35, 4, 96, 181, 1, 35, 167, 255, 198, 42, 16, 58, 182, 1, 72, 42, 182, 1, 78, 42, 42]
abbrev dktX3_law_6 : List UInt8 := dkwX3_law_6 ++ dktX3_law_7
def dkwX3_law_5 : List UInt8 := [42, 182, 1, 42, 16, 48, 100, 122, 154, 0, 28, 29, 4, 42, 182, 1, 42, 16, 48, 100, 120, 128, 62, 42]
abbrev dktX3_law_5 : List UInt8 := dkwX3_law_5 ++ dktX3_law_6
def dkwX3_law_4 : List UInt8 := [180, 1, 38, 154, 0, 57, 42, 182, 1, 42, 133, 20, 1, 52, 20, 1, 76, 184, 0, 160, 153, 0, 40, 29]
abbrev dktX3_law_4 : List UInt8 := dkwX3_law_4 ++ dktX3_law_5
def dkwX3_law_3 : List UInt8 := [89, 180, 1, 35, 42, 180, 1, 38, 153, 0, 7, 3, 167, 0, 4, 4, 96, 181, 1, 35, 3, 62, 42]
abbrev dktX3_law_3 : List UInt8 := dkwX3_law_3 ++ dktX3_law_4
def dkwX3_law_2 : List UInt8 := [159, 0, 19, 27, 16, 114, 159, 0, 13, 27, 16, 99, 159, 0, 7, 4, 167, 0, 4, 3, 181, 1, 38, 42]
abbrev dktX3_law_2 : List UInt8 := dkwX3_law_2 ++ dktX3_law_3
def dkwX3_law_1 : List UInt8 := [160, 0, 7, 3, 167, 0, 14, 27, 16, 114, 160, 0, 7, 4, 167, 0, 4, 5, 61, 42, 27, 16, 116]
abbrev dktX3_law_1 : List UInt8 := dkwX3_law_1 ++ dktX3_law_2
def dkwX3_law_0 : List UInt8 := [42, 3, 181, 1, 35, 42, 3, 181, 1, 38, 42, 3, 181, 1, 49, 42, 182, 1, 42, 60, 27, 16, 116]
abbrev dktX3_law_0 : List UInt8 := dkwX3_law_0 ++ dktX3_law_1
theorem dksX3_law_0 : cX3_law.data.toList.drop 0 = dktX3_law_0 := by decide +kernel
theorem dksX3_law_1 : cX3_law.data.toList.drop 23 = dktX3_law_1 := dk_seg dksX3_law_0 23 rfl rfl
theorem dksX3_law_2 : cX3_law.data.toList.drop 46 = dktX3_law_2 := dk_seg dksX3_law_1 23 rfl rfl
theorem dksX3_law_3 : cX3_law.data.toList.drop 70 = dktX3_law_3 := dk_seg dksX3_law_2 24 rfl rfl
theorem dksX3_law_4 : cX3_law.data.toList.drop 93 = dktX3_law_4 := dk_seg dksX3_law_3 23 rfl rfl
theorem dksX3_law_5 : cX3_law.data.toList.drop 117 = dktX3_law_5 := dk_seg dksX3_law_4 24 rfl rfl
theorem dksX3_law_6 : cX3_law.data.toList.drop 141 = dktX3_law_6 := dk_seg dksX3_law_5 24 rfl rfl
theorem dksX3_law_7 : cX3_law.data.toList.drop 165 = dktX3_law_7 := dk_seg dksX3_law_6 24 rfl rfl
theorem dksX3_law_8 : cX3_law.data.toList.drop 188 = dktX3_law_8 := dk_seg dksX3_law_7 23 rfl rfl
theorem dksX3_law_9 : cX3_law.data.toList.drop 212 = dktX3_law_9 := dk_seg dksX3_law_8 24 rfl rfl
theorem dksX3_law_10 : cX3_law.data.toList.drop 236 = dktX3_law_10 := dk_seg dksX3_law_9 24 rfl rfl
theorem dksX3_law_11 : cX3_law.data.toList.drop 260 = dktX3_law_11 := dk_seg dksX3_law_10 24 rfl rfl
theorem dksX3_law_12 : cX3_law.data.toList.drop 283 = dktX3_law_12 := dk_seg dksX3_law_11 23 rfl rfl
theorem dksX3_law_13 : cX3_law.data.toList.drop 305 = dktX3_law_13 := dk_seg dksX3_law_12 22 rfl rfl
theorem dX3_law_0 : decode cX3_law 0 = .ok (.aload_n 0, 1) := dk_42 (dk_at dksX3_law_0 0 rfl rfl)
theorem dX3_law_1 : decode cX3_law 1 = .ok (.iconst 0, 1) := dk_3 (dk_at dksX3_law_0 1 rfl rfl)
theorem dX3_law_2 : decode cX3_law 2 = .ok (.putfield 291, 3) := dk_181 1 35 (dk_at dksX3_law_0 2 rfl rfl)
theorem dX3_law_5 : decode cX3_law 5 = .ok (.aload_n 0, 1) := dk_42 (dk_at dksX3_law_0 5 rfl rfl)
theorem dX3_law_6 : decode cX3_law 6 = .ok (.iconst 0, 1) := dk_3 (dk_at dksX3_law_0 6 rfl rfl)
theorem dX3_law_7 : decode cX3_law 7 = .ok (.putfield 294, 3) := dk_181 1 38 (dk_at dksX3_law_0 7 rfl rfl)
theorem dX3_law_10 : decode cX3_law 10 = .ok (.aload_n 0, 1) := dk_42 (dk_at dksX3_law_0 10 rfl rfl)
theorem dX3_law_11 : decode cX3_law 11 = .ok (.iconst 0, 1) := dk_3 (dk_at dksX3_law_0 11 rfl rfl)
theorem dX3_law_12 : decode cX3_law 12 = .ok (.putfield 305, 3) := dk_181 1 49 (dk_at dksX3_law_0 12 rfl rfl)
theorem dX3_law_15 : decode cX3_law 15 = .ok (.aload_n 0, 1) := dk_42 (dk_at dksX3_law_0 15 rfl rfl)
theorem dX3_law_16 : decode cX3_law 16 = .ok (.invokevirtual 298, 3) := dk_182 1 42 (dk_at dksX3_law_0 16 rfl rfl)
theorem dX3_law_19 : decode cX3_law 19 = .ok (.istore_n 1, 1) := dk_60 (dk_at dksX3_law_0 19 rfl rfl)
theorem dX3_law_20 : decode cX3_law 20 = .ok (.iload_n 1, 1) := dk_27 (dk_at dksX3_law_0 20 rfl rfl)
theorem dX3_law_21 : decode cX3_law 21 = .ok (.bipush 116, 2) := dk_16 116 (dk_at dksX3_law_0 21 rfl rfl)
theorem dX3_law_23 : decode cX3_law 23 = .ok (.if_icmp .ne 7, 3) := dk_160 0 7 (dk_at dksX3_law_1 0 rfl rfl)
theorem dX3_law_26 : decode cX3_law 26 = .ok (.iconst 0, 1) := dk_3 (dk_at dksX3_law_1 3 rfl rfl)
theorem dX3_law_27 : decode cX3_law 27 = .ok (.goto 14, 3) := dk_167 0 14 (dk_at dksX3_law_1 4 rfl rfl)
theorem dX3_law_30 : decode cX3_law 30 = .ok (.iload_n 1, 1) := dk_27 (dk_at dksX3_law_1 7 rfl rfl)
theorem dX3_law_31 : decode cX3_law 31 = .ok (.bipush 114, 2) := dk_16 114 (dk_at dksX3_law_1 8 rfl rfl)
theorem dX3_law_33 : decode cX3_law 33 = .ok (.if_icmp .ne 7, 3) := dk_160 0 7 (dk_at dksX3_law_1 10 rfl rfl)
theorem dX3_law_36 : decode cX3_law 36 = .ok (.iconst 1, 1) := dk_4 (dk_at dksX3_law_1 13 rfl rfl)
theorem dX3_law_37 : decode cX3_law 37 = .ok (.goto 4, 3) := dk_167 0 4 (dk_at dksX3_law_1 14 rfl rfl)
theorem dX3_law_40 : decode cX3_law 40 = .ok (.iconst 2, 1) := dk_5 (dk_at dksX3_law_1 17 rfl rfl)
theorem dX3_law_41 : decode cX3_law 41 = .ok (.istore_n 2, 1) := dk_61 (dk_at dksX3_law_1 18 rfl rfl)
theorem dX3_law_42 : decode cX3_law 42 = .ok (.aload_n 0, 1) := dk_42 (dk_at dksX3_law_1 19 rfl rfl)
theorem dX3_law_43 : decode cX3_law 43 = .ok (.iload_n 1, 1) := dk_27 (dk_at dksX3_law_1 20 rfl rfl)
theorem dX3_law_44 : decode cX3_law 44 = .ok (.bipush 116, 2) := dk_16 116 (dk_at dksX3_law_1 21 rfl rfl)
theorem dX3_law_46 : decode cX3_law 46 = .ok (.if_icmp .eq 19, 3) := dk_159 0 19 (dk_at dksX3_law_2 0 rfl rfl)
theorem dX3_law_49 : decode cX3_law 49 = .ok (.iload_n 1, 1) := dk_27 (dk_at dksX3_law_2 3 rfl rfl)
theorem dX3_law_50 : decode cX3_law 50 = .ok (.bipush 114, 2) := dk_16 114 (dk_at dksX3_law_2 4 rfl rfl)
theorem dX3_law_52 : decode cX3_law 52 = .ok (.if_icmp .eq 13, 3) := dk_159 0 13 (dk_at dksX3_law_2 6 rfl rfl)
theorem dX3_law_55 : decode cX3_law 55 = .ok (.iload_n 1, 1) := dk_27 (dk_at dksX3_law_2 9 rfl rfl)
theorem dX3_law_56 : decode cX3_law 56 = .ok (.bipush 99, 2) := dk_16 99 (dk_at dksX3_law_2 10 rfl rfl)
theorem dX3_law_58 : decode cX3_law 58 = .ok (.if_icmp .eq 7, 3) := dk_159 0 7 (dk_at dksX3_law_2 12 rfl rfl)
theorem dX3_law_61 : decode cX3_law 61 = .ok (.iconst 1, 1) := dk_4 (dk_at dksX3_law_2 15 rfl rfl)
theorem dX3_law_62 : decode cX3_law 62 = .ok (.goto 4, 3) := dk_167 0 4 (dk_at dksX3_law_2 16 rfl rfl)
theorem dX3_law_65 : decode cX3_law 65 = .ok (.iconst 0, 1) := dk_3 (dk_at dksX3_law_2 19 rfl rfl)
theorem dX3_law_66 : decode cX3_law 66 = .ok (.putfield 294, 3) := dk_181 1 38 (dk_at dksX3_law_2 20 rfl rfl)
theorem dX3_law_69 : decode cX3_law 69 = .ok (.aload_n 0, 1) := dk_42 (dk_at dksX3_law_2 23 rfl rfl)
theorem dX3_law_70 : decode cX3_law 70 = .ok (.dup, 1) := dk_89 (dk_at dksX3_law_3 0 rfl rfl)
theorem dX3_law_71 : decode cX3_law 71 = .ok (.getfield 291, 3) := dk_180 1 35 (dk_at dksX3_law_3 1 rfl rfl)
theorem dX3_law_74 : decode cX3_law 74 = .ok (.aload_n 0, 1) := dk_42 (dk_at dksX3_law_3 4 rfl rfl)
theorem dX3_law_75 : decode cX3_law 75 = .ok (.getfield 294, 3) := dk_180 1 38 (dk_at dksX3_law_3 5 rfl rfl)
theorem dX3_law_78 : decode cX3_law 78 = .ok (.ifCond .eq 7, 3) := dk_153 0 7 (dk_at dksX3_law_3 8 rfl rfl)
theorem dX3_law_81 : decode cX3_law 81 = .ok (.iconst 0, 1) := dk_3 (dk_at dksX3_law_3 11 rfl rfl)
theorem dX3_law_82 : decode cX3_law 82 = .ok (.goto 4, 3) := dk_167 0 4 (dk_at dksX3_law_3 12 rfl rfl)
theorem dX3_law_85 : decode cX3_law 85 = .ok (.iconst 1, 1) := dk_4 (dk_at dksX3_law_3 15 rfl rfl)
theorem dX3_law_86 : decode cX3_law 86 = .ok (.iadd, 1) := dk_96 (dk_at dksX3_law_3 16 rfl rfl)
theorem dX3_law_87 : decode cX3_law 87 = .ok (.putfield 291, 3) := dk_181 1 35 (dk_at dksX3_law_3 17 rfl rfl)
theorem dX3_law_90 : decode cX3_law 90 = .ok (.iconst 0, 1) := dk_3 (dk_at dksX3_law_3 20 rfl rfl)
theorem dX3_law_91 : decode cX3_law 91 = .ok (.istore_n 3, 1) := dk_62 (dk_at dksX3_law_3 21 rfl rfl)
theorem dX3_law_92 : decode cX3_law 92 = .ok (.aload_n 0, 1) := dk_42 (dk_at dksX3_law_3 22 rfl rfl)
theorem dX3_law_93 : decode cX3_law 93 = .ok (.getfield 294, 3) := dk_180 1 38 (dk_at dksX3_law_4 0 rfl rfl)
theorem dX3_law_96 : decode cX3_law 96 = .ok (.ifCond .ne 57, 3) := dk_154 0 57 (dk_at dksX3_law_4 3 rfl rfl)
theorem dX3_law_99 : decode cX3_law 99 = .ok (.aload_n 0, 1) := dk_42 (dk_at dksX3_law_4 6 rfl rfl)
theorem dX3_law_100 : decode cX3_law 100 = .ok (.invokevirtual 298, 3) := dk_182 1 42 (dk_at dksX3_law_4 7 rfl rfl)
theorem dX3_law_103 : decode cX3_law 103 = .ok (.i2l, 1) := dk_133 (dk_at dksX3_law_4 10 rfl rfl)
theorem dX3_law_104 : decode cX3_law 104 = .ok (.ldc2_w 308, 3) := dk_20 1 52 (dk_at dksX3_law_4 11 rfl rfl)
theorem dX3_law_107 : decode cX3_law 107 = .ok (.ldc2_w 332, 3) := dk_20 1 76 (dk_at dksX3_law_4 14 rfl rfl)
theorem dX3_law_110 : decode cX3_law 110 = .ok (.invokestatic 160, 3) := dk_184 0 160 (dk_at dksX3_law_4 17 rfl rfl)
theorem dX3_law_113 : decode cX3_law 113 = .ok (.ifCond .eq 40, 3) := dk_153 0 40 (dk_at dksX3_law_4 20 rfl rfl)
theorem dX3_law_116 : decode cX3_law 116 = .ok (.iload_n 3, 1) := dk_29 (dk_at dksX3_law_4 23 rfl rfl)
theorem dX3_law_117 : decode cX3_law 117 = .ok (.aload_n 0, 1) := dk_42 (dk_at dksX3_law_5 0 rfl rfl)
theorem dX3_law_118 : decode cX3_law 118 = .ok (.invokevirtual 298, 3) := dk_182 1 42 (dk_at dksX3_law_5 1 rfl rfl)
theorem dX3_law_121 : decode cX3_law 121 = .ok (.bipush 48, 2) := dk_16 48 (dk_at dksX3_law_5 4 rfl rfl)
theorem dX3_law_123 : decode cX3_law 123 = .ok (.isub, 1) := dk_100 (dk_at dksX3_law_5 6 rfl rfl)
theorem dX3_law_124 : decode cX3_law 124 = .ok (.ishr, 1) := dk_122 (dk_at dksX3_law_5 7 rfl rfl)
theorem dX3_law_125 : decode cX3_law 125 = .ok (.ifCond .ne 28, 3) := dk_154 0 28 (dk_at dksX3_law_5 8 rfl rfl)
theorem dX3_law_128 : decode cX3_law 128 = .ok (.iload_n 3, 1) := dk_29 (dk_at dksX3_law_5 11 rfl rfl)
theorem dX3_law_129 : decode cX3_law 129 = .ok (.iconst 1, 1) := dk_4 (dk_at dksX3_law_5 12 rfl rfl)
theorem dX3_law_130 : decode cX3_law 130 = .ok (.aload_n 0, 1) := dk_42 (dk_at dksX3_law_5 13 rfl rfl)
theorem dX3_law_131 : decode cX3_law 131 = .ok (.invokevirtual 298, 3) := dk_182 1 42 (dk_at dksX3_law_5 14 rfl rfl)
theorem dX3_law_134 : decode cX3_law 134 = .ok (.bipush 48, 2) := dk_16 48 (dk_at dksX3_law_5 17 rfl rfl)
theorem dX3_law_136 : decode cX3_law 136 = .ok (.isub, 1) := dk_100 (dk_at dksX3_law_5 19 rfl rfl)
theorem dX3_law_137 : decode cX3_law 137 = .ok (.ishl, 1) := dk_120 (dk_at dksX3_law_5 20 rfl rfl)
theorem dX3_law_138 : decode cX3_law 138 = .ok (.ior, 1) := dk_128 (dk_at dksX3_law_5 21 rfl rfl)
theorem dX3_law_139 : decode cX3_law 139 = .ok (.istore_n 3, 1) := dk_62 (dk_at dksX3_law_5 22 rfl rfl)
theorem dX3_law_140 : decode cX3_law 140 = .ok (.aload_n 0, 1) := dk_42 (dk_at dksX3_law_5 23 rfl rfl)
theorem dX3_law_141 : decode cX3_law 141 = .ok (.dup, 1) := dk_89 (dk_at dksX3_law_6 0 rfl rfl)
theorem dX3_law_142 : decode cX3_law 142 = .ok (.getfield 291, 3) := dk_180 1 35 (dk_at dksX3_law_6 1 rfl rfl)
theorem dX3_law_145 : decode cX3_law 145 = .ok (.iconst 1, 1) := dk_4 (dk_at dksX3_law_6 4 rfl rfl)
theorem dX3_law_146 : decode cX3_law 146 = .ok (.iadd, 1) := dk_96 (dk_at dksX3_law_6 5 rfl rfl)
theorem dX3_law_147 : decode cX3_law 147 = .ok (.putfield 291, 3) := dk_181 1 35 (dk_at dksX3_law_6 6 rfl rfl)
theorem dX3_law_150 : decode cX3_law 150 = .ok (.goto (-58), 3) := dk_167 255 198 (dk_at dksX3_law_6 9 rfl rfl)
theorem dX3_law_153 : decode cX3_law 153 = .ok (.aload_n 0, 1) := dk_42 (dk_at dksX3_law_6 12 rfl rfl)
theorem dX3_law_154 : decode cX3_law 154 = .ok (.bipush 58, 2) := dk_16 58 (dk_at dksX3_law_6 13 rfl rfl)
theorem dX3_law_156 : decode cX3_law 156 = .ok (.invokevirtual 328, 3) := dk_182 1 72 (dk_at dksX3_law_6 15 rfl rfl)
theorem dX3_law_159 : decode cX3_law 159 = .ok (.aload_n 0, 1) := dk_42 (dk_at dksX3_law_6 18 rfl rfl)
theorem dX3_law_160 : decode cX3_law 160 = .ok (.invokevirtual 334, 3) := dk_182 1 78 (dk_at dksX3_law_6 19 rfl rfl)
theorem dX3_law_163 : decode cX3_law 163 = .ok (.aload_n 0, 1) := dk_42 (dk_at dksX3_law_6 22 rfl rfl)
theorem dX3_law_164 : decode cX3_law 164 = .ok (.aload_n 0, 1) := dk_42 (dk_at dksX3_law_6 23 rfl rfl)
theorem dX3_law_165 : decode cX3_law 165 = .ok (.getfield 294, 3) := dk_180 1 38 (dk_at dksX3_law_7 0 rfl rfl)
theorem dX3_law_168 : decode cX3_law 168 = .ok (.ifCond .ne 10, 3) := dk_154 0 10 (dk_at dksX3_law_7 3 rfl rfl)
theorem dX3_law_171 : decode cX3_law 171 = .ok (.aload_n 0, 1) := dk_42 (dk_at dksX3_law_7 6 rfl rfl)
theorem dX3_law_172 : decode cX3_law 172 = .ok (.invokevirtual 298, 3) := dk_182 1 42 (dk_at dksX3_law_7 7 rfl rfl)
theorem dX3_law_175 : decode cX3_law 175 = .ok (.ifCond .eq 7, 3) := dk_153 0 7 (dk_at dksX3_law_7 10 rfl rfl)
theorem dX3_law_178 : decode cX3_law 178 = .ok (.iconst 1, 1) := dk_4 (dk_at dksX3_law_7 13 rfl rfl)
theorem dX3_law_179 : decode cX3_law 179 = .ok (.goto 4, 3) := dk_167 0 4 (dk_at dksX3_law_7 14 rfl rfl)
theorem dX3_law_182 : decode cX3_law 182 = .ok (.iconst 0, 1) := dk_3 (dk_at dksX3_law_7 17 rfl rfl)
theorem dX3_law_183 : decode cX3_law 183 = .ok (.putfield 294, 3) := dk_181 1 38 (dk_at dksX3_law_7 18 rfl rfl)
theorem dX3_law_186 : decode cX3_law 186 = .ok (.aload_n 0, 1) := dk_42 (dk_at dksX3_law_7 21 rfl rfl)
theorem dX3_law_187 : decode cX3_law 187 = .ok (.iconst 0, 1) := dk_3 (dk_at dksX3_law_7 22 rfl rfl)
theorem dX3_law_188 : decode cX3_law 188 = .ok (.putfield 288, 3) := dk_181 1 32 (dk_at dksX3_law_8 0 rfl rfl)
theorem dX3_law_191 : decode cX3_law 191 = .ok (.aload_n 0, 1) := dk_42 (dk_at dksX3_law_8 3 rfl rfl)
theorem dX3_law_192 : decode cX3_law 192 = .ok (.getfield 294, 3) := dk_180 1 38 (dk_at dksX3_law_8 4 rfl rfl)
theorem dX3_law_195 : decode cX3_law 195 = .ok (.ifCond .eq 11, 3) := dk_153 0 11 (dk_at dksX3_law_8 7 rfl rfl)
theorem dX3_law_198 : decode cX3_law 198 = .ok (.bipush (-20), 2) := dk_16 236 (dk_at dksX3_law_8 10 rfl rfl)
theorem dX3_law_200 : decode cX3_law 200 = .ok (.aload_n 0, 1) := dk_42 (dk_at dksX3_law_8 12 rfl rfl)
theorem dX3_law_201 : decode cX3_law 201 = .ok (.getfield 291, 3) := dk_180 1 35 (dk_at dksX3_law_8 13 rfl rfl)
theorem dX3_law_204 : decode cX3_law 204 = .ok (.isub, 1) := dk_100 (dk_at dksX3_law_8 16 rfl rfl)
theorem dX3_law_205 : decode cX3_law 205 = .ok (.ireturn, 1) := dk_172 (dk_at dksX3_law_8 17 rfl rfl)
theorem dX3_law_206 : decode cX3_law 206 = .ok (.aload_n 0, 1) := dk_42 (dk_at dksX3_law_8 18 rfl rfl)
theorem dX3_law_207 : decode cX3_law 207 = .ok (.getfield 302, 3) := dk_180 1 46 (dk_at dksX3_law_8 19 rfl rfl)
theorem dX3_law_210 : decode cX3_law 210 = .ok (.bipush 16, 2) := dk_16 16 (dk_at dksX3_law_8 22 rfl rfl)
theorem dX3_law_212 : decode cX3_law 212 = .ok (.if_icmp .ne 6, 3) := dk_160 0 6 (dk_at dksX3_law_9 0 rfl rfl)
theorem dX3_law_215 : decode cX3_law 215 = .ok (.bipush (-3), 2) := dk_16 253 (dk_at dksX3_law_9 3 rfl rfl)
theorem dX3_law_217 : decode cX3_law 217 = .ok (.ireturn, 1) := dk_172 (dk_at dksX3_law_9 5 rfl rfl)
theorem dX3_law_218 : decode cX3_law 218 = .ok (.aload_n 0, 1) := dk_42 (dk_at dksX3_law_9 6 rfl rfl)
theorem dX3_law_219 : decode cX3_law 219 = .ok (.getfield 92, 3) := dk_180 0 92 (dk_at dksX3_law_9 7 rfl rfl)
theorem dX3_law_222 : decode cX3_law 222 = .ok (.aload_n 0, 1) := dk_42 (dk_at dksX3_law_9 10 rfl rfl)
theorem dX3_law_223 : decode cX3_law 223 = .ok (.getfield 302, 3) := dk_180 1 46 (dk_at dksX3_law_9 11 rfl rfl)
theorem dX3_law_226 : decode cX3_law 226 = .ok (.iload_n 2, 1) := dk_28 (dk_at dksX3_law_9 14 rfl rfl)
theorem dX3_law_227 : decode cX3_law 227 = .ok (.iastore, 1) := dk_79 (dk_at dksX3_law_9 15 rfl rfl)
theorem dX3_law_228 : decode cX3_law 228 = .ok (.aload_n 0, 1) := dk_42 (dk_at dksX3_law_9 16 rfl rfl)
theorem dX3_law_229 : decode cX3_law 229 = .ok (.getfield 95, 3) := dk_180 0 95 (dk_at dksX3_law_9 17 rfl rfl)
theorem dX3_law_232 : decode cX3_law 232 = .ok (.aload_n 0, 1) := dk_42 (dk_at dksX3_law_9 20 rfl rfl)
theorem dX3_law_233 : decode cX3_law 233 = .ok (.getfield 302, 3) := dk_180 1 46 (dk_at dksX3_law_9 21 rfl rfl)
theorem dX3_law_236 : decode cX3_law 236 = .ok (.iload_n 3, 1) := dk_29 (dk_at dksX3_law_10 0 rfl rfl)
theorem dX3_law_237 : decode cX3_law 237 = .ok (.ifCond .ne 8, 3) := dk_154 0 8 (dk_at dksX3_law_10 1 rfl rfl)
theorem dX3_law_240 : decode cX3_law 240 = .ok (.bipush 15, 2) := dk_16 15 (dk_at dksX3_law_10 4 rfl rfl)
theorem dX3_law_242 : decode cX3_law 242 = .ok (.goto 4, 3) := dk_167 0 4 (dk_at dksX3_law_10 6 rfl rfl)
theorem dX3_law_245 : decode cX3_law 245 = .ok (.iload_n 3, 1) := dk_29 (dk_at dksX3_law_10 9 rfl rfl)
theorem dX3_law_246 : decode cX3_law 246 = .ok (.iastore, 1) := dk_79 (dk_at dksX3_law_10 10 rfl rfl)
theorem dX3_law_247 : decode cX3_law 247 = .ok (.aload_n 0, 1) := dk_42 (dk_at dksX3_law_10 11 rfl rfl)
theorem dX3_law_248 : decode cX3_law 248 = .ok (.getfield 98, 3) := dk_180 0 98 (dk_at dksX3_law_10 12 rfl rfl)
theorem dX3_law_251 : decode cX3_law 251 = .ok (.aload_n 0, 1) := dk_42 (dk_at dksX3_law_10 15 rfl rfl)
theorem dX3_law_252 : decode cX3_law 252 = .ok (.getfield 302, 3) := dk_180 1 46 (dk_at dksX3_law_10 16 rfl rfl)
theorem dX3_law_255 : decode cX3_law 255 = .ok (.aload_n 0, 1) := dk_42 (dk_at dksX3_law_10 19 rfl rfl)
theorem dX3_law_256 : decode cX3_law 256 = .ok (.getfield 305, 3) := dk_180 1 49 (dk_at dksX3_law_10 20 rfl rfl)
theorem dX3_law_259 : decode cX3_law 259 = .ok (.iastore, 1) := dk_79 (dk_at dksX3_law_10 23 rfl rfl)
theorem dX3_law_260 : decode cX3_law 260 = .ok (.aload_n 0, 1) := dk_42 (dk_at dksX3_law_11 0 rfl rfl)
theorem dX3_law_261 : decode cX3_law 261 = .ok (.getfield 101, 3) := dk_180 0 101 (dk_at dksX3_law_11 1 rfl rfl)
theorem dX3_law_264 : decode cX3_law 264 = .ok (.aload_n 0, 1) := dk_42 (dk_at dksX3_law_11 4 rfl rfl)
theorem dX3_law_265 : decode cX3_law 265 = .ok (.getfield 302, 3) := dk_180 1 46 (dk_at dksX3_law_11 5 rfl rfl)
theorem dX3_law_268 : decode cX3_law 268 = .ok (.iconst 0, 1) := dk_3 (dk_at dksX3_law_11 8 rfl rfl)
theorem dX3_law_269 : decode cX3_law 269 = .ok (.iastore, 1) := dk_79 (dk_at dksX3_law_11 9 rfl rfl)
theorem dX3_law_270 : decode cX3_law 270 = .ok (.aload_n 0, 1) := dk_42 (dk_at dksX3_law_11 10 rfl rfl)
theorem dX3_law_271 : decode cX3_law 271 = .ok (.getfield 104, 3) := dk_180 0 104 (dk_at dksX3_law_11 11 rfl rfl)
theorem dX3_law_274 : decode cX3_law 274 = .ok (.aload_n 0, 1) := dk_42 (dk_at dksX3_law_11 14 rfl rfl)
theorem dX3_law_275 : decode cX3_law 275 = .ok (.getfield 302, 3) := dk_180 1 46 (dk_at dksX3_law_11 15 rfl rfl)
theorem dX3_law_278 : decode cX3_law 278 = .ok (.sipush 416, 3) := dk_17 1 160 (dk_at dksX3_law_11 18 rfl rfl)
theorem dX3_law_281 : decode cX3_law 281 = .ok (.iastore, 1) := dk_79 (dk_at dksX3_law_11 21 rfl rfl)
theorem dX3_law_282 : decode cX3_law 282 = .ok (.aload_n 0, 1) := dk_42 (dk_at dksX3_law_11 22 rfl rfl)
theorem dX3_law_283 : decode cX3_law 283 = .ok (.getfield 107, 3) := dk_180 0 107 (dk_at dksX3_law_12 0 rfl rfl)
theorem dX3_law_286 : decode cX3_law 286 = .ok (.aload_n 0, 1) := dk_42 (dk_at dksX3_law_12 3 rfl rfl)
theorem dX3_law_287 : decode cX3_law 287 = .ok (.getfield 302, 3) := dk_180 1 46 (dk_at dksX3_law_12 4 rfl rfl)
theorem dX3_law_290 : decode cX3_law 290 = .ok (.sipush 417, 3) := dk_17 1 161 (dk_at dksX3_law_12 7 rfl rfl)
theorem dX3_law_293 : decode cX3_law 293 = .ok (.iastore, 1) := dk_79 (dk_at dksX3_law_12 10 rfl rfl)
theorem dX3_law_294 : decode cX3_law 294 = .ok (.aload_n 0, 1) := dk_42 (dk_at dksX3_law_12 11 rfl rfl)
theorem dX3_law_295 : decode cX3_law 295 = .ok (.dup, 1) := dk_89 (dk_at dksX3_law_12 12 rfl rfl)
theorem dX3_law_296 : decode cX3_law 296 = .ok (.getfield 302, 3) := dk_180 1 46 (dk_at dksX3_law_12 13 rfl rfl)
theorem dX3_law_299 : decode cX3_law 299 = .ok (.iconst 1, 1) := dk_4 (dk_at dksX3_law_12 16 rfl rfl)
theorem dX3_law_300 : decode cX3_law 300 = .ok (.iadd, 1) := dk_96 (dk_at dksX3_law_12 17 rfl rfl)
theorem dX3_law_301 : decode cX3_law 301 = .ok (.putfield 302, 3) := dk_181 1 46 (dk_at dksX3_law_12 18 rfl rfl)
theorem dX3_law_304 : decode cX3_law 304 = .ok (.aload_n 0, 1) := dk_42 (dk_at dksX3_law_12 21 rfl rfl)
theorem dX3_law_305 : decode cX3_law 305 = .ok (.getfield 302, 3) := dk_180 1 46 (dk_at dksX3_law_13 0 rfl rfl)
theorem dX3_law_308 : decode cX3_law 308 = .ok (.iconst 1, 1) := dk_4 (dk_at dksX3_law_13 3 rfl rfl)
theorem dX3_law_309 : decode cX3_law 309 = .ok (.isub, 1) := dk_100 (dk_at dksX3_law_13 4 rfl rfl)
theorem dX3_law_310 : decode cX3_law 310 = .ok (.ireturn, 1) := dk_172 (dk_at dksX3_law_13 5 rfl rfl)
abbrev cX3_next : ByteArray := prog_19_method_57_code
def yX3_next : MethodName := ⟨RX3, "next", "()I"⟩
def dkwX3_next_2 : List UInt8 := [162, 0, 15, 42, 180, 0, 116, 42, 180, 1, 35, 46, 167, 0, 4, 3, 172]
abbrev dktX3_next_2 : List UInt8 := dkwX3_next_2 ++ []
def dkwX3_next_1 : List UInt8 := [160, 0, 16, 42, 89, 180, 1, 35, 4, 96, 181, 1, 35, 167, 255, 221, 42, 180, 1, 35, 42, 180, 1, 32]
abbrev dktX3_next_1 : List UInt8 := dkwX3_next_1 ++ dktX3_next_2
def dkwX3_next_0 : List UInt8 := [42, 180, 1, 35, 42, 180, 1, 32, 162, 0, 30, 42, 180, 0, 116, 42, 180, 1, 35, 46, 16, 32]
abbrev dktX3_next_0 : List UInt8 := dkwX3_next_0 ++ dktX3_next_1
theorem dksX3_next_0 : cX3_next.data.toList.drop 0 = dktX3_next_0 := by decide +kernel
theorem dksX3_next_1 : cX3_next.data.toList.drop 22 = dktX3_next_1 := dk_seg dksX3_next_0 22 rfl rfl
theorem dksX3_next_2 : cX3_next.data.toList.drop 46 = dktX3_next_2 := dk_seg dksX3_next_1 24 rfl rfl
theorem dX3_next_0 : decode cX3_next 0 = .ok (.aload_n 0, 1) := dk_42 (dk_at dksX3_next_0 0 rfl rfl)
theorem dX3_next_1 : decode cX3_next 1 = .ok (.getfield 291, 3) := dk_180 1 35 (dk_at dksX3_next_0 1 rfl rfl)
theorem dX3_next_4 : decode cX3_next 4 = .ok (.aload_n 0, 1) := dk_42 (dk_at dksX3_next_0 4 rfl rfl)
theorem dX3_next_5 : decode cX3_next 5 = .ok (.getfield 288, 3) := dk_180 1 32 (dk_at dksX3_next_0 5 rfl rfl)
theorem dX3_next_8 : decode cX3_next 8 = .ok (.if_icmp .ge 30, 3) := dk_162 0 30 (dk_at dksX3_next_0 8 rfl rfl)
theorem dX3_next_11 : decode cX3_next 11 = .ok (.aload_n 0, 1) := dk_42 (dk_at dksX3_next_0 11 rfl rfl)
theorem dX3_next_12 : decode cX3_next 12 = .ok (.getfield 116, 3) := dk_180 0 116 (dk_at dksX3_next_0 12 rfl rfl)
theorem dX3_next_15 : decode cX3_next 15 = .ok (.aload_n 0, 1) := dk_42 (dk_at dksX3_next_0 15 rfl rfl)
theorem dX3_next_16 : decode cX3_next 16 = .ok (.getfield 291, 3) := dk_180 1 35 (dk_at dksX3_next_0 16 rfl rfl)
theorem dX3_next_19 : decode cX3_next 19 = .ok (.iaload, 1) := dk_46 (dk_at dksX3_next_0 19 rfl rfl)
theorem dX3_next_20 : decode cX3_next 20 = .ok (.bipush 32, 2) := dk_16 32 (dk_at dksX3_next_0 20 rfl rfl)
theorem dX3_next_22 : decode cX3_next 22 = .ok (.if_icmp .ne 16, 3) := dk_160 0 16 (dk_at dksX3_next_1 0 rfl rfl)
theorem dX3_next_25 : decode cX3_next 25 = .ok (.aload_n 0, 1) := dk_42 (dk_at dksX3_next_1 3 rfl rfl)
theorem dX3_next_26 : decode cX3_next 26 = .ok (.dup, 1) := dk_89 (dk_at dksX3_next_1 4 rfl rfl)
theorem dX3_next_27 : decode cX3_next 27 = .ok (.getfield 291, 3) := dk_180 1 35 (dk_at dksX3_next_1 5 rfl rfl)
theorem dX3_next_30 : decode cX3_next 30 = .ok (.iconst 1, 1) := dk_4 (dk_at dksX3_next_1 8 rfl rfl)
theorem dX3_next_31 : decode cX3_next 31 = .ok (.iadd, 1) := dk_96 (dk_at dksX3_next_1 9 rfl rfl)
theorem dX3_next_32 : decode cX3_next 32 = .ok (.putfield 291, 3) := dk_181 1 35 (dk_at dksX3_next_1 10 rfl rfl)
theorem dX3_next_35 : decode cX3_next 35 = .ok (.goto (-35), 3) := dk_167 255 221 (dk_at dksX3_next_1 13 rfl rfl)
theorem dX3_next_38 : decode cX3_next 38 = .ok (.aload_n 0, 1) := dk_42 (dk_at dksX3_next_1 16 rfl rfl)
theorem dX3_next_39 : decode cX3_next 39 = .ok (.getfield 291, 3) := dk_180 1 35 (dk_at dksX3_next_1 17 rfl rfl)
theorem dX3_next_42 : decode cX3_next 42 = .ok (.aload_n 0, 1) := dk_42 (dk_at dksX3_next_1 20 rfl rfl)
theorem dX3_next_43 : decode cX3_next 43 = .ok (.getfield 288, 3) := dk_180 1 32 (dk_at dksX3_next_1 21 rfl rfl)
theorem dX3_next_46 : decode cX3_next 46 = .ok (.if_icmp .ge 15, 3) := dk_162 0 15 (dk_at dksX3_next_2 0 rfl rfl)
theorem dX3_next_49 : decode cX3_next 49 = .ok (.aload_n 0, 1) := dk_42 (dk_at dksX3_next_2 3 rfl rfl)
theorem dX3_next_50 : decode cX3_next 50 = .ok (.getfield 116, 3) := dk_180 0 116 (dk_at dksX3_next_2 4 rfl rfl)
theorem dX3_next_53 : decode cX3_next 53 = .ok (.aload_n 0, 1) := dk_42 (dk_at dksX3_next_2 7 rfl rfl)
theorem dX3_next_54 : decode cX3_next 54 = .ok (.getfield 291, 3) := dk_180 1 35 (dk_at dksX3_next_2 8 rfl rfl)
theorem dX3_next_57 : decode cX3_next 57 = .ok (.iaload, 1) := dk_46 (dk_at dksX3_next_2 11 rfl rfl)
theorem dX3_next_58 : decode cX3_next 58 = .ok (.goto 4, 3) := dk_167 0 4 (dk_at dksX3_next_2 12 rfl rfl)
theorem dX3_next_61 : decode cX3_next 61 = .ok (.iconst 0, 1) := dk_3 (dk_at dksX3_next_2 15 rfl rfl)
theorem dX3_next_62 : decode cX3_next 62 = .ok (.ireturn, 1) := dk_172 (dk_at dksX3_next_2 16 rfl rfl)
abbrev cX3_needs : ByteArray := prog_19_method_58_code
def yX3_needs : MethodName := ⟨RX3, "needs", "(I)V"⟩
def dkwX3_needs_1 : List UInt8 := [42, 89, 180, 1, 35, 42, 180, 1, 38, 153, 0, 7, 3, 167, 0, 4, 4, 96, 181, 1, 35, 177]
abbrev dktX3_needs_1 : List UInt8 := dkwX3_needs_1 ++ []
def dkwX3_needs_0 : List UInt8 := [42, 42, 180, 1, 38, 154, 0, 11, 42, 182, 1, 42, 27, 159, 0, 7, 4, 167, 0, 4, 3, 181, 1, 38]
abbrev dktX3_needs_0 : List UInt8 := dkwX3_needs_0 ++ dktX3_needs_1
theorem dksX3_needs_0 : cX3_needs.data.toList.drop 0 = dktX3_needs_0 := by decide +kernel
theorem dksX3_needs_1 : cX3_needs.data.toList.drop 24 = dktX3_needs_1 := dk_seg dksX3_needs_0 24 rfl rfl
theorem dX3_needs_0 : decode cX3_needs 0 = .ok (.aload_n 0, 1) := dk_42 (dk_at dksX3_needs_0 0 rfl rfl)
theorem dX3_needs_1 : decode cX3_needs 1 = .ok (.aload_n 0, 1) := dk_42 (dk_at dksX3_needs_0 1 rfl rfl)
theorem dX3_needs_2 : decode cX3_needs 2 = .ok (.getfield 294, 3) := dk_180 1 38 (dk_at dksX3_needs_0 2 rfl rfl)
theorem dX3_needs_5 : decode cX3_needs 5 = .ok (.ifCond .ne 11, 3) := dk_154 0 11 (dk_at dksX3_needs_0 5 rfl rfl)
theorem dX3_needs_8 : decode cX3_needs 8 = .ok (.aload_n 0, 1) := dk_42 (dk_at dksX3_needs_0 8 rfl rfl)
theorem dX3_needs_9 : decode cX3_needs 9 = .ok (.invokevirtual 298, 3) := dk_182 1 42 (dk_at dksX3_needs_0 9 rfl rfl)
theorem dX3_needs_12 : decode cX3_needs 12 = .ok (.iload_n 1, 1) := dk_27 (dk_at dksX3_needs_0 12 rfl rfl)
theorem dX3_needs_13 : decode cX3_needs 13 = .ok (.if_icmp .eq 7, 3) := dk_159 0 7 (dk_at dksX3_needs_0 13 rfl rfl)
theorem dX3_needs_16 : decode cX3_needs 16 = .ok (.iconst 1, 1) := dk_4 (dk_at dksX3_needs_0 16 rfl rfl)
theorem dX3_needs_17 : decode cX3_needs 17 = .ok (.goto 4, 3) := dk_167 0 4 (dk_at dksX3_needs_0 17 rfl rfl)
theorem dX3_needs_20 : decode cX3_needs 20 = .ok (.iconst 0, 1) := dk_3 (dk_at dksX3_needs_0 20 rfl rfl)
theorem dX3_needs_21 : decode cX3_needs 21 = .ok (.putfield 294, 3) := dk_181 1 38 (dk_at dksX3_needs_0 21 rfl rfl)
theorem dX3_needs_24 : decode cX3_needs 24 = .ok (.aload_n 0, 1) := dk_42 (dk_at dksX3_needs_1 0 rfl rfl)
theorem dX3_needs_25 : decode cX3_needs 25 = .ok (.dup, 1) := dk_89 (dk_at dksX3_needs_1 1 rfl rfl)
theorem dX3_needs_26 : decode cX3_needs 26 = .ok (.getfield 291, 3) := dk_180 1 35 (dk_at dksX3_needs_1 2 rfl rfl)
theorem dX3_needs_29 : decode cX3_needs 29 = .ok (.aload_n 0, 1) := dk_42 (dk_at dksX3_needs_1 5 rfl rfl)
theorem dX3_needs_30 : decode cX3_needs 30 = .ok (.getfield 294, 3) := dk_180 1 38 (dk_at dksX3_needs_1 6 rfl rfl)
theorem dX3_needs_33 : decode cX3_needs 33 = .ok (.ifCond .eq 7, 3) := dk_153 0 7 (dk_at dksX3_needs_1 9 rfl rfl)
theorem dX3_needs_36 : decode cX3_needs 36 = .ok (.iconst 0, 1) := dk_3 (dk_at dksX3_needs_1 12 rfl rfl)
theorem dX3_needs_37 : decode cX3_needs 37 = .ok (.goto 4, 3) := dk_167 0 4 (dk_at dksX3_needs_1 13 rfl rfl)
theorem dX3_needs_40 : decode cX3_needs 40 = .ok (.iconst 1, 1) := dk_4 (dk_at dksX3_needs_1 16 rfl rfl)
theorem dX3_needs_41 : decode cX3_needs 41 = .ok (.iadd, 1) := dk_96 (dk_at dksX3_needs_1 17 rfl rfl)
theorem dX3_needs_42 : decode cX3_needs 42 = .ok (.putfield 291, 3) := dk_181 1 35 (dk_at dksX3_needs_1 18 rfl rfl)
theorem dX3_needs_45 : decode cX3_needs 45 = .ok (.return_, 1) := dk_177 (dk_at dksX3_needs_1 21 rfl rfl)
abbrev cX3_test : ByteArray := prog_19_method_64_code
def yX3_test : MethodName := ⟨RX3, "test", "()V"⟩
def dkwX3_test_9 : List UInt8 := [154, 0, 4, 177, 167, 255, 60, 177]
abbrev dktX3_test_9 : List UInt8 := dkwX3_test_9 ++ []
def dkwX3_test_8 : List UInt8 := [180, 1, 38, 154, 0, 11, 42, 27, 182, 1, 69, 153, 0, 7, 4, 167, 0, 4, 3, 62, 167, 255, 196, 29]
abbrev dktX3_test_8 : List UInt8 := dkwX3_test_8 ++ dktX3_test_9
def dkwX3_test_7 : List UInt8 := [180, 0, 125, 27, 51, 153, 0, 16, 42, 180, 1, 38, 154, 0, 9, 42, 8, 3, 182, 1, 56, 42]
abbrev dktX3_test_7 : List UInt8 := dkwX3_test_7 ++ dktX3_test_8
def dkwX3_test_6 : List UInt8 := [167, 0, 4, 3, 62, 29, 154, 0, 62, 27, 158, 0, 58, 42, 16, 41, 182, 1, 72, 132, 1, 255, 42]
abbrev dktX3_test_6 : List UInt8 := dkwX3_test_6 ++ dktX3_test_7
def dkwX3_test_5 : List UInt8 := [42, 8, 3, 182, 1, 56, 42, 180, 1, 38, 154, 0, 11, 42, 27, 182, 1, 69, 153, 0, 7, 4]
abbrev dktX3_test_5 : List UInt8 := dkwX3_test_5 ++ dktX3_test_6
def dkwX3_test_4 : List UInt8 := [180, 0, 122, 27, 3, 84, 167, 0, 113, 42, 182, 1, 66, 28, 153, 0, 16, 42, 180, 1, 38, 154, 0, 9]
abbrev dktX3_test_4 : List UInt8 := dkwX3_test_4 ++ dktX3_test_5
def dkwX3_test_3 : List UInt8 := [96, 181, 1, 35, 42, 180, 0, 125, 27, 28, 84, 132, 1, 1, 42, 180, 0, 119, 27, 3, 84, 42]
abbrev dktX3_test_3 : List UInt8 := dkwX3_test_3 ++ dktX3_test_4
def dkwX3_test_2 : List UInt8 := [167, 0, 4, 3, 181, 1, 38, 42, 89, 180, 1, 35, 42, 180, 1, 38, 153, 0, 7, 3, 167, 0, 4, 4]
abbrev dktX3_test_2 : List UInt8 := dkwX3_test_2 ++ dktX3_test_3
def dkwX3_test_1 : List UInt8 := [16, 33, 182, 1, 63, 61, 42, 182, 1, 42, 16, 40, 160, 0, 66, 42, 27, 16, 6, 160, 0, 7, 4]
abbrev dktX3_test_1 : List UInt8 := dkwX3_test_1 ++ dktX3_test_2
def dkwX3_test_0 : List UInt8 := [3, 60, 42, 180, 0, 119, 3, 3, 84, 42, 180, 0, 122, 3, 3, 84, 42, 180, 1, 38, 154, 0, 195, 42]
abbrev dktX3_test_0 : List UInt8 := dkwX3_test_0 ++ dktX3_test_1
theorem dksX3_test_0 : cX3_test.data.toList.drop 0 = dktX3_test_0 := by decide +kernel
theorem dksX3_test_1 : cX3_test.data.toList.drop 24 = dktX3_test_1 := dk_seg dksX3_test_0 24 rfl rfl
theorem dksX3_test_2 : cX3_test.data.toList.drop 47 = dktX3_test_2 := dk_seg dksX3_test_1 23 rfl rfl
theorem dksX3_test_3 : cX3_test.data.toList.drop 71 = dktX3_test_3 := dk_seg dksX3_test_2 24 rfl rfl
theorem dksX3_test_4 : cX3_test.data.toList.drop 93 = dktX3_test_4 := dk_seg dksX3_test_3 22 rfl rfl
theorem dksX3_test_5 : cX3_test.data.toList.drop 117 = dktX3_test_5 := dk_seg dksX3_test_4 24 rfl rfl
theorem dksX3_test_6 : cX3_test.data.toList.drop 139 = dktX3_test_6 := dk_seg dksX3_test_5 22 rfl rfl
theorem dksX3_test_7 : cX3_test.data.toList.drop 162 = dktX3_test_7 := dk_seg dksX3_test_6 23 rfl rfl
theorem dksX3_test_8 : cX3_test.data.toList.drop 184 = dktX3_test_8 := dk_seg dksX3_test_7 22 rfl rfl
theorem dksX3_test_9 : cX3_test.data.toList.drop 208 = dktX3_test_9 := dk_seg dksX3_test_8 24 rfl rfl
theorem dX3_test_0 : decode cX3_test 0 = .ok (.iconst 0, 1) := dk_3 (dk_at dksX3_test_0 0 rfl rfl)
theorem dX3_test_1 : decode cX3_test 1 = .ok (.istore_n 1, 1) := dk_60 (dk_at dksX3_test_0 1 rfl rfl)
theorem dX3_test_2 : decode cX3_test 2 = .ok (.aload_n 0, 1) := dk_42 (dk_at dksX3_test_0 2 rfl rfl)
theorem dX3_test_3 : decode cX3_test 3 = .ok (.getfield 119, 3) := dk_180 0 119 (dk_at dksX3_test_0 3 rfl rfl)
theorem dX3_test_6 : decode cX3_test 6 = .ok (.iconst 0, 1) := dk_3 (dk_at dksX3_test_0 6 rfl rfl)
theorem dX3_test_7 : decode cX3_test 7 = .ok (.iconst 0, 1) := dk_3 (dk_at dksX3_test_0 7 rfl rfl)
theorem dX3_test_8 : decode cX3_test 8 = .ok (.bastore, 1) := dk_84 (dk_at dksX3_test_0 8 rfl rfl)
theorem dX3_test_9 : decode cX3_test 9 = .ok (.aload_n 0, 1) := dk_42 (dk_at dksX3_test_0 9 rfl rfl)
theorem dX3_test_10 : decode cX3_test 10 = .ok (.getfield 122, 3) := dk_180 0 122 (dk_at dksX3_test_0 10 rfl rfl)
theorem dX3_test_13 : decode cX3_test 13 = .ok (.iconst 0, 1) := dk_3 (dk_at dksX3_test_0 13 rfl rfl)
theorem dX3_test_14 : decode cX3_test 14 = .ok (.iconst 0, 1) := dk_3 (dk_at dksX3_test_0 14 rfl rfl)
theorem dX3_test_15 : decode cX3_test 15 = .ok (.bastore, 1) := dk_84 (dk_at dksX3_test_0 15 rfl rfl)
theorem dX3_test_16 : decode cX3_test 16 = .ok (.aload_n 0, 1) := dk_42 (dk_at dksX3_test_0 16 rfl rfl)
theorem dX3_test_17 : decode cX3_test 17 = .ok (.getfield 294, 3) := dk_180 1 38 (dk_at dksX3_test_0 17 rfl rfl)
theorem dX3_test_20 : decode cX3_test 20 = .ok (.ifCond .ne 195, 3) := dk_154 0 195 (dk_at dksX3_test_0 20 rfl rfl)
theorem dX3_test_23 : decode cX3_test 23 = .ok (.aload_n 0, 1) := dk_42 (dk_at dksX3_test_0 23 rfl rfl)
theorem dX3_test_24 : decode cX3_test 24 = .ok (.bipush 33, 2) := dk_16 33 (dk_at dksX3_test_1 0 rfl rfl)
theorem dX3_test_26 : decode cX3_test 26 = .ok (.invokevirtual 319, 3) := dk_182 1 63 (dk_at dksX3_test_1 2 rfl rfl)
theorem dX3_test_29 : decode cX3_test 29 = .ok (.istore_n 2, 1) := dk_61 (dk_at dksX3_test_1 5 rfl rfl)
theorem dX3_test_30 : decode cX3_test 30 = .ok (.aload_n 0, 1) := dk_42 (dk_at dksX3_test_1 6 rfl rfl)
theorem dX3_test_31 : decode cX3_test 31 = .ok (.invokevirtual 298, 3) := dk_182 1 42 (dk_at dksX3_test_1 7 rfl rfl)
theorem dX3_test_34 : decode cX3_test 34 = .ok (.bipush 40, 2) := dk_16 40 (dk_at dksX3_test_1 10 rfl rfl)
theorem dX3_test_36 : decode cX3_test 36 = .ok (.if_icmp .ne 66, 3) := dk_160 0 66 (dk_at dksX3_test_1 12 rfl rfl)
theorem dX3_test_39 : decode cX3_test 39 = .ok (.aload_n 0, 1) := dk_42 (dk_at dksX3_test_1 15 rfl rfl)
theorem dX3_test_40 : decode cX3_test 40 = .ok (.iload_n 1, 1) := dk_27 (dk_at dksX3_test_1 16 rfl rfl)
theorem dX3_test_41 : decode cX3_test 41 = .ok (.bipush 6, 2) := dk_16 6 (dk_at dksX3_test_1 17 rfl rfl)
theorem dX3_test_43 : decode cX3_test 43 = .ok (.if_icmp .ne 7, 3) := dk_160 0 7 (dk_at dksX3_test_1 19 rfl rfl)
theorem dX3_test_46 : decode cX3_test 46 = .ok (.iconst 1, 1) := dk_4 (dk_at dksX3_test_1 22 rfl rfl)
theorem dX3_test_47 : decode cX3_test 47 = .ok (.goto 4, 3) := dk_167 0 4 (dk_at dksX3_test_2 0 rfl rfl)
theorem dX3_test_50 : decode cX3_test 50 = .ok (.iconst 0, 1) := dk_3 (dk_at dksX3_test_2 3 rfl rfl)
theorem dX3_test_51 : decode cX3_test 51 = .ok (.putfield 294, 3) := dk_181 1 38 (dk_at dksX3_test_2 4 rfl rfl)
theorem dX3_test_54 : decode cX3_test 54 = .ok (.aload_n 0, 1) := dk_42 (dk_at dksX3_test_2 7 rfl rfl)
theorem dX3_test_55 : decode cX3_test 55 = .ok (.dup, 1) := dk_89 (dk_at dksX3_test_2 8 rfl rfl)
theorem dX3_test_56 : decode cX3_test 56 = .ok (.getfield 291, 3) := dk_180 1 35 (dk_at dksX3_test_2 9 rfl rfl)
theorem dX3_test_59 : decode cX3_test 59 = .ok (.aload_n 0, 1) := dk_42 (dk_at dksX3_test_2 12 rfl rfl)
theorem dX3_test_60 : decode cX3_test 60 = .ok (.getfield 294, 3) := dk_180 1 38 (dk_at dksX3_test_2 13 rfl rfl)
theorem dX3_test_63 : decode cX3_test 63 = .ok (.ifCond .eq 7, 3) := dk_153 0 7 (dk_at dksX3_test_2 16 rfl rfl)
theorem dX3_test_66 : decode cX3_test 66 = .ok (.iconst 0, 1) := dk_3 (dk_at dksX3_test_2 19 rfl rfl)
theorem dX3_test_67 : decode cX3_test 67 = .ok (.goto 4, 3) := dk_167 0 4 (dk_at dksX3_test_2 20 rfl rfl)
theorem dX3_test_70 : decode cX3_test 70 = .ok (.iconst 1, 1) := dk_4 (dk_at dksX3_test_2 23 rfl rfl)
theorem dX3_test_71 : decode cX3_test 71 = .ok (.iadd, 1) := dk_96 (dk_at dksX3_test_3 0 rfl rfl)
theorem dX3_test_72 : decode cX3_test 72 = .ok (.putfield 291, 3) := dk_181 1 35 (dk_at dksX3_test_3 1 rfl rfl)
theorem dX3_test_75 : decode cX3_test 75 = .ok (.aload_n 0, 1) := dk_42 (dk_at dksX3_test_3 4 rfl rfl)
theorem dX3_test_76 : decode cX3_test 76 = .ok (.getfield 125, 3) := dk_180 0 125 (dk_at dksX3_test_3 5 rfl rfl)
theorem dX3_test_79 : decode cX3_test 79 = .ok (.iload_n 1, 1) := dk_27 (dk_at dksX3_test_3 8 rfl rfl)
theorem dX3_test_80 : decode cX3_test 80 = .ok (.iload_n 2, 1) := dk_28 (dk_at dksX3_test_3 9 rfl rfl)
theorem dX3_test_81 : decode cX3_test 81 = .ok (.bastore, 1) := dk_84 (dk_at dksX3_test_3 10 rfl rfl)
theorem dX3_test_82 : decode cX3_test 82 = .ok (.iinc 1 1, 3) := dk_132 1 1 (dk_at dksX3_test_3 11 rfl rfl)
theorem dX3_test_85 : decode cX3_test 85 = .ok (.aload_n 0, 1) := dk_42 (dk_at dksX3_test_3 14 rfl rfl)
theorem dX3_test_86 : decode cX3_test 86 = .ok (.getfield 119, 3) := dk_180 0 119 (dk_at dksX3_test_3 15 rfl rfl)
theorem dX3_test_89 : decode cX3_test 89 = .ok (.iload_n 1, 1) := dk_27 (dk_at dksX3_test_3 18 rfl rfl)
theorem dX3_test_90 : decode cX3_test 90 = .ok (.iconst 0, 1) := dk_3 (dk_at dksX3_test_3 19 rfl rfl)
theorem dX3_test_91 : decode cX3_test 91 = .ok (.bastore, 1) := dk_84 (dk_at dksX3_test_3 20 rfl rfl)
theorem dX3_test_92 : decode cX3_test 92 = .ok (.aload_n 0, 1) := dk_42 (dk_at dksX3_test_3 21 rfl rfl)
theorem dX3_test_93 : decode cX3_test 93 = .ok (.getfield 122, 3) := dk_180 0 122 (dk_at dksX3_test_4 0 rfl rfl)
theorem dX3_test_96 : decode cX3_test 96 = .ok (.iload_n 1, 1) := dk_27 (dk_at dksX3_test_4 3 rfl rfl)
theorem dX3_test_97 : decode cX3_test 97 = .ok (.iconst 0, 1) := dk_3 (dk_at dksX3_test_4 4 rfl rfl)
theorem dX3_test_98 : decode cX3_test 98 = .ok (.bastore, 1) := dk_84 (dk_at dksX3_test_4 5 rfl rfl)
theorem dX3_test_99 : decode cX3_test 99 = .ok (.goto 113, 3) := dk_167 0 113 (dk_at dksX3_test_4 6 rfl rfl)
theorem dX3_test_102 : decode cX3_test 102 = .ok (.aload_n 0, 1) := dk_42 (dk_at dksX3_test_4 9 rfl rfl)
theorem dX3_test_103 : decode cX3_test 103 = .ok (.invokevirtual 322, 3) := dk_182 1 66 (dk_at dksX3_test_4 10 rfl rfl)
theorem dX3_test_106 : decode cX3_test 106 = .ok (.iload_n 2, 1) := dk_28 (dk_at dksX3_test_4 13 rfl rfl)
theorem dX3_test_107 : decode cX3_test 107 = .ok (.ifCond .eq 16, 3) := dk_153 0 16 (dk_at dksX3_test_4 14 rfl rfl)
theorem dX3_test_110 : decode cX3_test 110 = .ok (.aload_n 0, 1) := dk_42 (dk_at dksX3_test_4 17 rfl rfl)
theorem dX3_test_111 : decode cX3_test 111 = .ok (.getfield 294, 3) := dk_180 1 38 (dk_at dksX3_test_4 18 rfl rfl)
theorem dX3_test_114 : decode cX3_test 114 = .ok (.ifCond .ne 9, 3) := dk_154 0 9 (dk_at dksX3_test_4 21 rfl rfl)
theorem dX3_test_117 : decode cX3_test 117 = .ok (.aload_n 0, 1) := dk_42 (dk_at dksX3_test_5 0 rfl rfl)
theorem dX3_test_118 : decode cX3_test 118 = .ok (.iconst 5, 1) := dk_8 (dk_at dksX3_test_5 1 rfl rfl)
theorem dX3_test_119 : decode cX3_test 119 = .ok (.iconst 0, 1) := dk_3 (dk_at dksX3_test_5 2 rfl rfl)
theorem dX3_test_120 : decode cX3_test 120 = .ok (.invokevirtual 312, 3) := dk_182 1 56 (dk_at dksX3_test_5 3 rfl rfl)
theorem dX3_test_123 : decode cX3_test 123 = .ok (.aload_n 0, 1) := dk_42 (dk_at dksX3_test_5 6 rfl rfl)
theorem dX3_test_124 : decode cX3_test 124 = .ok (.getfield 294, 3) := dk_180 1 38 (dk_at dksX3_test_5 7 rfl rfl)
theorem dX3_test_127 : decode cX3_test 127 = .ok (.ifCond .ne 11, 3) := dk_154 0 11 (dk_at dksX3_test_5 10 rfl rfl)
theorem dX3_test_130 : decode cX3_test 130 = .ok (.aload_n 0, 1) := dk_42 (dk_at dksX3_test_5 13 rfl rfl)
theorem dX3_test_131 : decode cX3_test 131 = .ok (.iload_n 1, 1) := dk_27 (dk_at dksX3_test_5 14 rfl rfl)
theorem dX3_test_132 : decode cX3_test 132 = .ok (.invokevirtual 325, 3) := dk_182 1 69 (dk_at dksX3_test_5 15 rfl rfl)
theorem dX3_test_135 : decode cX3_test 135 = .ok (.ifCond .eq 7, 3) := dk_153 0 7 (dk_at dksX3_test_5 18 rfl rfl)
theorem dX3_test_138 : decode cX3_test 138 = .ok (.iconst 1, 1) := dk_4 (dk_at dksX3_test_5 21 rfl rfl)
theorem dX3_test_139 : decode cX3_test 139 = .ok (.goto 4, 3) := dk_167 0 4 (dk_at dksX3_test_6 0 rfl rfl)
theorem dX3_test_142 : decode cX3_test 142 = .ok (.iconst 0, 1) := dk_3 (dk_at dksX3_test_6 3 rfl rfl)
theorem dX3_test_143 : decode cX3_test 143 = .ok (.istore_n 3, 1) := dk_62 (dk_at dksX3_test_6 4 rfl rfl)
theorem dX3_test_144 : decode cX3_test 144 = .ok (.iload_n 3, 1) := dk_29 (dk_at dksX3_test_6 5 rfl rfl)
theorem dX3_test_145 : decode cX3_test 145 = .ok (.ifCond .ne 62, 3) := dk_154 0 62 (dk_at dksX3_test_6 6 rfl rfl)
theorem dX3_test_148 : decode cX3_test 148 = .ok (.iload_n 1, 1) := dk_27 (dk_at dksX3_test_6 9 rfl rfl)
theorem dX3_test_149 : decode cX3_test 149 = .ok (.ifCond .le 58, 3) := dk_158 0 58 (dk_at dksX3_test_6 10 rfl rfl)
theorem dX3_test_152 : decode cX3_test 152 = .ok (.aload_n 0, 1) := dk_42 (dk_at dksX3_test_6 13 rfl rfl)
theorem dX3_test_153 : decode cX3_test 153 = .ok (.bipush 41, 2) := dk_16 41 (dk_at dksX3_test_6 14 rfl rfl)
theorem dX3_test_155 : decode cX3_test 155 = .ok (.invokevirtual 328, 3) := dk_182 1 72 (dk_at dksX3_test_6 16 rfl rfl)
theorem dX3_test_158 : decode cX3_test 158 = .ok (.iinc 1 (-1), 3) := dk_132 1 255 (dk_at dksX3_test_6 19 rfl rfl)
theorem dX3_test_161 : decode cX3_test 161 = .ok (.aload_n 0, 1) := dk_42 (dk_at dksX3_test_6 22 rfl rfl)
theorem dX3_test_162 : decode cX3_test 162 = .ok (.getfield 125, 3) := dk_180 0 125 (dk_at dksX3_test_7 0 rfl rfl)
theorem dX3_test_165 : decode cX3_test 165 = .ok (.iload_n 1, 1) := dk_27 (dk_at dksX3_test_7 3 rfl rfl)
theorem dX3_test_166 : decode cX3_test 166 = .ok (.baload, 1) := dk_51 (dk_at dksX3_test_7 4 rfl rfl)
theorem dX3_test_167 : decode cX3_test 167 = .ok (.ifCond .eq 16, 3) := dk_153 0 16 (dk_at dksX3_test_7 5 rfl rfl)
theorem dX3_test_170 : decode cX3_test 170 = .ok (.aload_n 0, 1) := dk_42 (dk_at dksX3_test_7 8 rfl rfl)
theorem dX3_test_171 : decode cX3_test 171 = .ok (.getfield 294, 3) := dk_180 1 38 (dk_at dksX3_test_7 9 rfl rfl)
theorem dX3_test_174 : decode cX3_test 174 = .ok (.ifCond .ne 9, 3) := dk_154 0 9 (dk_at dksX3_test_7 12 rfl rfl)
theorem dX3_test_177 : decode cX3_test 177 = .ok (.aload_n 0, 1) := dk_42 (dk_at dksX3_test_7 15 rfl rfl)
theorem dX3_test_178 : decode cX3_test 178 = .ok (.iconst 5, 1) := dk_8 (dk_at dksX3_test_7 16 rfl rfl)
theorem dX3_test_179 : decode cX3_test 179 = .ok (.iconst 0, 1) := dk_3 (dk_at dksX3_test_7 17 rfl rfl)
theorem dX3_test_180 : decode cX3_test 180 = .ok (.invokevirtual 312, 3) := dk_182 1 56 (dk_at dksX3_test_7 18 rfl rfl)
theorem dX3_test_183 : decode cX3_test 183 = .ok (.aload_n 0, 1) := dk_42 (dk_at dksX3_test_7 21 rfl rfl)
theorem dX3_test_184 : decode cX3_test 184 = .ok (.getfield 294, 3) := dk_180 1 38 (dk_at dksX3_test_8 0 rfl rfl)
theorem dX3_test_187 : decode cX3_test 187 = .ok (.ifCond .ne 11, 3) := dk_154 0 11 (dk_at dksX3_test_8 3 rfl rfl)
theorem dX3_test_190 : decode cX3_test 190 = .ok (.aload_n 0, 1) := dk_42 (dk_at dksX3_test_8 6 rfl rfl)
theorem dX3_test_191 : decode cX3_test 191 = .ok (.iload_n 1, 1) := dk_27 (dk_at dksX3_test_8 7 rfl rfl)
theorem dX3_test_192 : decode cX3_test 192 = .ok (.invokevirtual 325, 3) := dk_182 1 69 (dk_at dksX3_test_8 8 rfl rfl)
theorem dX3_test_195 : decode cX3_test 195 = .ok (.ifCond .eq 7, 3) := dk_153 0 7 (dk_at dksX3_test_8 11 rfl rfl)
theorem dX3_test_198 : decode cX3_test 198 = .ok (.iconst 1, 1) := dk_4 (dk_at dksX3_test_8 14 rfl rfl)
theorem dX3_test_199 : decode cX3_test 199 = .ok (.goto 4, 3) := dk_167 0 4 (dk_at dksX3_test_8 15 rfl rfl)
theorem dX3_test_202 : decode cX3_test 202 = .ok (.iconst 0, 1) := dk_3 (dk_at dksX3_test_8 18 rfl rfl)
theorem dX3_test_203 : decode cX3_test 203 = .ok (.istore_n 3, 1) := dk_62 (dk_at dksX3_test_8 19 rfl rfl)
theorem dX3_test_204 : decode cX3_test 204 = .ok (.goto (-60), 3) := dk_167 255 196 (dk_at dksX3_test_8 20 rfl rfl)
theorem dX3_test_207 : decode cX3_test 207 = .ok (.iload_n 3, 1) := dk_29 (dk_at dksX3_test_8 23 rfl rfl)
theorem dX3_test_208 : decode cX3_test 208 = .ok (.ifCond .ne 4, 3) := dk_154 0 4 (dk_at dksX3_test_9 0 rfl rfl)
theorem dX3_test_211 : decode cX3_test 211 = .ok (.return_, 1) := dk_177 (dk_at dksX3_test_9 3 rfl rfl)
theorem dX3_test_212 : decode cX3_test 212 = .ok (.goto (-196), 3) := dk_167 255 60 (dk_at dksX3_test_9 4 rfl rfl)
theorem dX3_test_215 : decode cX3_test 215 = .ok (.return_, 1) := dk_177 (dk_at dksX3_test_9 7 rfl rfl)
abbrev cX3_passes : ByteArray := prog_19_method_59_code
def yX3_passes : MethodName := ⟨RX3, "passes", "(I)Z"⟩
def dkwX3_passes_1 : List UInt8 := [180, 1, 35, 28, 153, 0, 7, 4, 167, 0, 4, 3, 96, 181, 1, 35, 28, 172]
abbrev dktX3_passes_1 : List UInt8 := dkwX3_passes_1 ++ []
def dkwX3_passes_0 : List UInt8 := [42, 180, 1, 38, 154, 0, 15, 42, 182, 1, 42, 27, 160, 0, 7, 4, 167, 0, 4, 3, 61, 42, 89]
abbrev dktX3_passes_0 : List UInt8 := dkwX3_passes_0 ++ dktX3_passes_1
theorem dksX3_passes_0 : cX3_passes.data.toList.drop 0 = dktX3_passes_0 := by decide +kernel
theorem dksX3_passes_1 : cX3_passes.data.toList.drop 23 = dktX3_passes_1 := dk_seg dksX3_passes_0 23 rfl rfl
theorem dX3_passes_0 : decode cX3_passes 0 = .ok (.aload_n 0, 1) := dk_42 (dk_at dksX3_passes_0 0 rfl rfl)
theorem dX3_passes_1 : decode cX3_passes 1 = .ok (.getfield 294, 3) := dk_180 1 38 (dk_at dksX3_passes_0 1 rfl rfl)
theorem dX3_passes_4 : decode cX3_passes 4 = .ok (.ifCond .ne 15, 3) := dk_154 0 15 (dk_at dksX3_passes_0 4 rfl rfl)
theorem dX3_passes_7 : decode cX3_passes 7 = .ok (.aload_n 0, 1) := dk_42 (dk_at dksX3_passes_0 7 rfl rfl)
theorem dX3_passes_8 : decode cX3_passes 8 = .ok (.invokevirtual 298, 3) := dk_182 1 42 (dk_at dksX3_passes_0 8 rfl rfl)
theorem dX3_passes_11 : decode cX3_passes 11 = .ok (.iload_n 1, 1) := dk_27 (dk_at dksX3_passes_0 11 rfl rfl)
theorem dX3_passes_12 : decode cX3_passes 12 = .ok (.if_icmp .ne 7, 3) := dk_160 0 7 (dk_at dksX3_passes_0 12 rfl rfl)
theorem dX3_passes_15 : decode cX3_passes 15 = .ok (.iconst 1, 1) := dk_4 (dk_at dksX3_passes_0 15 rfl rfl)
theorem dX3_passes_16 : decode cX3_passes 16 = .ok (.goto 4, 3) := dk_167 0 4 (dk_at dksX3_passes_0 16 rfl rfl)
theorem dX3_passes_19 : decode cX3_passes 19 = .ok (.iconst 0, 1) := dk_3 (dk_at dksX3_passes_0 19 rfl rfl)
theorem dX3_passes_20 : decode cX3_passes 20 = .ok (.istore_n 2, 1) := dk_61 (dk_at dksX3_passes_0 20 rfl rfl)
theorem dX3_passes_21 : decode cX3_passes 21 = .ok (.aload_n 0, 1) := dk_42 (dk_at dksX3_passes_0 21 rfl rfl)
theorem dX3_passes_22 : decode cX3_passes 22 = .ok (.dup, 1) := dk_89 (dk_at dksX3_passes_0 22 rfl rfl)
theorem dX3_passes_23 : decode cX3_passes 23 = .ok (.getfield 291, 3) := dk_180 1 35 (dk_at dksX3_passes_1 0 rfl rfl)
theorem dX3_passes_26 : decode cX3_passes 26 = .ok (.iload_n 2, 1) := dk_28 (dk_at dksX3_passes_1 3 rfl rfl)
theorem dX3_passes_27 : decode cX3_passes 27 = .ok (.ifCond .eq 7, 3) := dk_153 0 7 (dk_at dksX3_passes_1 4 rfl rfl)
theorem dX3_passes_30 : decode cX3_passes 30 = .ok (.iconst 1, 1) := dk_4 (dk_at dksX3_passes_1 7 rfl rfl)
theorem dX3_passes_31 : decode cX3_passes 31 = .ok (.goto 4, 3) := dk_167 0 4 (dk_at dksX3_passes_1 8 rfl rfl)
theorem dX3_passes_34 : decode cX3_passes 34 = .ok (.iconst 0, 1) := dk_3 (dk_at dksX3_passes_1 11 rfl rfl)
theorem dX3_passes_35 : decode cX3_passes 35 = .ok (.iadd, 1) := dk_96 (dk_at dksX3_passes_1 12 rfl rfl)
theorem dX3_passes_36 : decode cX3_passes 36 = .ok (.putfield 291, 3) := dk_181 1 35 (dk_at dksX3_passes_1 13 rfl rfl)
theorem dX3_passes_39 : decode cX3_passes 39 = .ok (.iload_n 2, 1) := dk_28 (dk_at dksX3_passes_1 16 rfl rfl)
theorem dX3_passes_40 : decode cX3_passes 40 = .ok (.ireturn, 1) := dk_172 (dk_at dksX3_passes_1 17 rfl rfl)
abbrev cX3_claim : ByteArray := prog_19_method_62_code
def yX3_claim : MethodName := ⟨RX3, "claim", "()V"⟩
def dkwX3_claim_4 : List UInt8 := [96, 181, 1, 35, 42, 182, 1, 60, 42, 180, 1, 38, 154, 0, 9, 42, 28, 3, 182, 1, 56, 177]
abbrev dktX3_claim_4 : List UInt8 := dkwX3_claim_4 ++ []
def dkwX3_claim_3 : List UInt8 := [167, 0, 4, 3, 181, 1, 38, 42, 89, 180, 1, 35, 42, 180, 1, 38, 153, 0, 7, 3, 167, 0, 4, 4]
abbrev dktX3_claim_3 : List UInt8 := dkwX3_claim_3 ++ dktX3_claim_4
def dkwX3_claim_2 : List UInt8 := [154, 0, 21, 27, 16, 60, 159, 0, 19, 27, 16, 62, 159, 0, 13, 27, 16, 61, 159, 0, 7, 4]
abbrev dktX3_claim_2 : List UInt8 := dkwX3_claim_2 ++ dktX3_claim_3
def dkwX3_claim_1 : List UInt8 := [160, 0, 7, 5, 167, 0, 14, 27, 16, 62, 160, 0, 7, 6, 167, 0, 4, 7, 61, 42, 42, 180, 1, 38]
abbrev dktX3_claim_1 : List UInt8 := dkwX3_claim_1 ++ dktX3_claim_2
def dkwX3_claim_0 : List UInt8 := [42, 182, 1, 60, 42, 180, 1, 38, 153, 0, 7, 3, 167, 0, 7, 42, 182, 1, 42, 60, 27, 16, 60]
abbrev dktX3_claim_0 : List UInt8 := dkwX3_claim_0 ++ dktX3_claim_1
theorem dksX3_claim_0 : cX3_claim.data.toList.drop 0 = dktX3_claim_0 := by decide +kernel
theorem dksX3_claim_1 : cX3_claim.data.toList.drop 23 = dktX3_claim_1 := dk_seg dksX3_claim_0 23 rfl rfl
theorem dksX3_claim_2 : cX3_claim.data.toList.drop 47 = dktX3_claim_2 := dk_seg dksX3_claim_1 24 rfl rfl
theorem dksX3_claim_3 : cX3_claim.data.toList.drop 69 = dktX3_claim_3 := dk_seg dksX3_claim_2 22 rfl rfl
theorem dksX3_claim_4 : cX3_claim.data.toList.drop 93 = dktX3_claim_4 := dk_seg dksX3_claim_3 24 rfl rfl
theorem dX3_claim_0 : decode cX3_claim 0 = .ok (.aload_n 0, 1) := dk_42 (dk_at dksX3_claim_0 0 rfl rfl)
theorem dX3_claim_1 : decode cX3_claim 1 = .ok (.invokevirtual 316, 3) := dk_182 1 60 (dk_at dksX3_claim_0 1 rfl rfl)
theorem dX3_claim_4 : decode cX3_claim 4 = .ok (.aload_n 0, 1) := dk_42 (dk_at dksX3_claim_0 4 rfl rfl)
theorem dX3_claim_5 : decode cX3_claim 5 = .ok (.getfield 294, 3) := dk_180 1 38 (dk_at dksX3_claim_0 5 rfl rfl)
theorem dX3_claim_8 : decode cX3_claim 8 = .ok (.ifCond .eq 7, 3) := dk_153 0 7 (dk_at dksX3_claim_0 8 rfl rfl)
theorem dX3_claim_11 : decode cX3_claim 11 = .ok (.iconst 0, 1) := dk_3 (dk_at dksX3_claim_0 11 rfl rfl)
theorem dX3_claim_12 : decode cX3_claim 12 = .ok (.goto 7, 3) := dk_167 0 7 (dk_at dksX3_claim_0 12 rfl rfl)
theorem dX3_claim_15 : decode cX3_claim 15 = .ok (.aload_n 0, 1) := dk_42 (dk_at dksX3_claim_0 15 rfl rfl)
theorem dX3_claim_16 : decode cX3_claim 16 = .ok (.invokevirtual 298, 3) := dk_182 1 42 (dk_at dksX3_claim_0 16 rfl rfl)
theorem dX3_claim_19 : decode cX3_claim 19 = .ok (.istore_n 1, 1) := dk_60 (dk_at dksX3_claim_0 19 rfl rfl)
theorem dX3_claim_20 : decode cX3_claim 20 = .ok (.iload_n 1, 1) := dk_27 (dk_at dksX3_claim_0 20 rfl rfl)
theorem dX3_claim_21 : decode cX3_claim 21 = .ok (.bipush 60, 2) := dk_16 60 (dk_at dksX3_claim_0 21 rfl rfl)
theorem dX3_claim_23 : decode cX3_claim 23 = .ok (.if_icmp .ne 7, 3) := dk_160 0 7 (dk_at dksX3_claim_1 0 rfl rfl)
theorem dX3_claim_26 : decode cX3_claim 26 = .ok (.iconst 2, 1) := dk_5 (dk_at dksX3_claim_1 3 rfl rfl)
theorem dX3_claim_27 : decode cX3_claim 27 = .ok (.goto 14, 3) := dk_167 0 14 (dk_at dksX3_claim_1 4 rfl rfl)
theorem dX3_claim_30 : decode cX3_claim 30 = .ok (.iload_n 1, 1) := dk_27 (dk_at dksX3_claim_1 7 rfl rfl)
theorem dX3_claim_31 : decode cX3_claim 31 = .ok (.bipush 62, 2) := dk_16 62 (dk_at dksX3_claim_1 8 rfl rfl)
theorem dX3_claim_33 : decode cX3_claim 33 = .ok (.if_icmp .ne 7, 3) := dk_160 0 7 (dk_at dksX3_claim_1 10 rfl rfl)
theorem dX3_claim_36 : decode cX3_claim 36 = .ok (.iconst 3, 1) := dk_6 (dk_at dksX3_claim_1 13 rfl rfl)
theorem dX3_claim_37 : decode cX3_claim 37 = .ok (.goto 4, 3) := dk_167 0 4 (dk_at dksX3_claim_1 14 rfl rfl)
theorem dX3_claim_40 : decode cX3_claim 40 = .ok (.iconst 4, 1) := dk_7 (dk_at dksX3_claim_1 17 rfl rfl)
theorem dX3_claim_41 : decode cX3_claim 41 = .ok (.istore_n 2, 1) := dk_61 (dk_at dksX3_claim_1 18 rfl rfl)
theorem dX3_claim_42 : decode cX3_claim 42 = .ok (.aload_n 0, 1) := dk_42 (dk_at dksX3_claim_1 19 rfl rfl)
theorem dX3_claim_43 : decode cX3_claim 43 = .ok (.aload_n 0, 1) := dk_42 (dk_at dksX3_claim_1 20 rfl rfl)
theorem dX3_claim_44 : decode cX3_claim 44 = .ok (.getfield 294, 3) := dk_180 1 38 (dk_at dksX3_claim_1 21 rfl rfl)
theorem dX3_claim_47 : decode cX3_claim 47 = .ok (.ifCond .ne 21, 3) := dk_154 0 21 (dk_at dksX3_claim_2 0 rfl rfl)
theorem dX3_claim_50 : decode cX3_claim 50 = .ok (.iload_n 1, 1) := dk_27 (dk_at dksX3_claim_2 3 rfl rfl)
theorem dX3_claim_51 : decode cX3_claim 51 = .ok (.bipush 60, 2) := dk_16 60 (dk_at dksX3_claim_2 4 rfl rfl)
theorem dX3_claim_53 : decode cX3_claim 53 = .ok (.if_icmp .eq 19, 3) := dk_159 0 19 (dk_at dksX3_claim_2 6 rfl rfl)
theorem dX3_claim_56 : decode cX3_claim 56 = .ok (.iload_n 1, 1) := dk_27 (dk_at dksX3_claim_2 9 rfl rfl)
theorem dX3_claim_57 : decode cX3_claim 57 = .ok (.bipush 62, 2) := dk_16 62 (dk_at dksX3_claim_2 10 rfl rfl)
theorem dX3_claim_59 : decode cX3_claim 59 = .ok (.if_icmp .eq 13, 3) := dk_159 0 13 (dk_at dksX3_claim_2 12 rfl rfl)
theorem dX3_claim_62 : decode cX3_claim 62 = .ok (.iload_n 1, 1) := dk_27 (dk_at dksX3_claim_2 15 rfl rfl)
theorem dX3_claim_63 : decode cX3_claim 63 = .ok (.bipush 61, 2) := dk_16 61 (dk_at dksX3_claim_2 16 rfl rfl)
theorem dX3_claim_65 : decode cX3_claim 65 = .ok (.if_icmp .eq 7, 3) := dk_159 0 7 (dk_at dksX3_claim_2 18 rfl rfl)
theorem dX3_claim_68 : decode cX3_claim 68 = .ok (.iconst 1, 1) := dk_4 (dk_at dksX3_claim_2 21 rfl rfl)
theorem dX3_claim_69 : decode cX3_claim 69 = .ok (.goto 4, 3) := dk_167 0 4 (dk_at dksX3_claim_3 0 rfl rfl)
theorem dX3_claim_72 : decode cX3_claim 72 = .ok (.iconst 0, 1) := dk_3 (dk_at dksX3_claim_3 3 rfl rfl)
theorem dX3_claim_73 : decode cX3_claim 73 = .ok (.putfield 294, 3) := dk_181 1 38 (dk_at dksX3_claim_3 4 rfl rfl)
theorem dX3_claim_76 : decode cX3_claim 76 = .ok (.aload_n 0, 1) := dk_42 (dk_at dksX3_claim_3 7 rfl rfl)
theorem dX3_claim_77 : decode cX3_claim 77 = .ok (.dup, 1) := dk_89 (dk_at dksX3_claim_3 8 rfl rfl)
theorem dX3_claim_78 : decode cX3_claim 78 = .ok (.getfield 291, 3) := dk_180 1 35 (dk_at dksX3_claim_3 9 rfl rfl)
theorem dX3_claim_81 : decode cX3_claim 81 = .ok (.aload_n 0, 1) := dk_42 (dk_at dksX3_claim_3 12 rfl rfl)
theorem dX3_claim_82 : decode cX3_claim 82 = .ok (.getfield 294, 3) := dk_180 1 38 (dk_at dksX3_claim_3 13 rfl rfl)
theorem dX3_claim_85 : decode cX3_claim 85 = .ok (.ifCond .eq 7, 3) := dk_153 0 7 (dk_at dksX3_claim_3 16 rfl rfl)
theorem dX3_claim_88 : decode cX3_claim 88 = .ok (.iconst 0, 1) := dk_3 (dk_at dksX3_claim_3 19 rfl rfl)
theorem dX3_claim_89 : decode cX3_claim 89 = .ok (.goto 4, 3) := dk_167 0 4 (dk_at dksX3_claim_3 20 rfl rfl)
theorem dX3_claim_92 : decode cX3_claim 92 = .ok (.iconst 1, 1) := dk_4 (dk_at dksX3_claim_3 23 rfl rfl)
theorem dX3_claim_93 : decode cX3_claim 93 = .ok (.iadd, 1) := dk_96 (dk_at dksX3_claim_4 0 rfl rfl)
theorem dX3_claim_94 : decode cX3_claim 94 = .ok (.putfield 291, 3) := dk_181 1 35 (dk_at dksX3_claim_4 1 rfl rfl)
theorem dX3_claim_97 : decode cX3_claim 97 = .ok (.aload_n 0, 1) := dk_42 (dk_at dksX3_claim_4 4 rfl rfl)
theorem dX3_claim_98 : decode cX3_claim 98 = .ok (.invokevirtual 316, 3) := dk_182 1 60 (dk_at dksX3_claim_4 5 rfl rfl)
theorem dX3_claim_101 : decode cX3_claim 101 = .ok (.aload_n 0, 1) := dk_42 (dk_at dksX3_claim_4 8 rfl rfl)
theorem dX3_claim_102 : decode cX3_claim 102 = .ok (.getfield 294, 3) := dk_180 1 38 (dk_at dksX3_claim_4 9 rfl rfl)
theorem dX3_claim_105 : decode cX3_claim 105 = .ok (.ifCond .ne 9, 3) := dk_154 0 9 (dk_at dksX3_claim_4 12 rfl rfl)
theorem dX3_claim_108 : decode cX3_claim 108 = .ok (.aload_n 0, 1) := dk_42 (dk_at dksX3_claim_4 15 rfl rfl)
theorem dX3_claim_109 : decode cX3_claim 109 = .ok (.iload_n 2, 1) := dk_28 (dk_at dksX3_claim_4 16 rfl rfl)
theorem dX3_claim_110 : decode cX3_claim 110 = .ok (.iconst 0, 1) := dk_3 (dk_at dksX3_claim_4 17 rfl rfl)
theorem dX3_claim_111 : decode cX3_claim 111 = .ok (.invokevirtual 312, 3) := dk_182 1 56 (dk_at dksX3_claim_4 18 rfl rfl)
theorem dX3_claim_114 : decode cX3_claim 114 = .ok (.return_, 1) := dk_177 (dk_at dksX3_claim_4 21 rfl rfl)
abbrev cX3_word : ByteArray := prog_19_method_61_code
def yX3_word : MethodName := ⟨RX3, "word", "()V"⟩
def dkwX3_word_10 : List UInt8 := [42, 4, 27, 182, 1, 56, 177]
abbrev dktX3_word_10 : List UInt8 := dkwX3_word_10 ++ []
def dkwX3_word_9 : List UInt8 := [167, 0, 4, 3, 181, 1, 38, 42, 180, 1, 38, 154, 0, 19, 42, 89, 180, 1, 35, 4, 96, 181, 1, 35]
abbrev dktX3_word_9 : List UInt8 := dkwX3_word_9 ++ dktX3_word_10
def dkwX3_word_8 : List UInt8 := [160, 0, 7, 4, 167, 0, 4, 3, 61, 42, 42, 180, 1, 38, 154, 0, 7, 28, 154, 0, 7, 4]
abbrev dktX3_word_8 : List UInt8 := dkwX3_word_8 ++ dktX3_word_9
def dkwX3_word_7 : List UInt8 := [159, 0, 27, 27, 16, 100, 159, 0, 21, 27, 16, 110, 159, 0, 15, 27, 16, 98, 159, 0, 9, 27, 16, 119]
abbrev dktX3_word_7 : List UInt8 := dkwX3_word_7 ++ dktX3_word_8
def dkwX3_word_6 : List UInt8 := [180, 1, 35, 181, 1, 35, 42, 3, 29, 182, 1, 56, 177, 27, 16, 115, 159, 0, 33, 27, 16, 107]
abbrev dktX3_word_6 : List UInt8 := dkwX3_word_6 ++ dktX3_word_7
def dkwX3_word_5 : List UInt8 := [164, 0, 7, 4, 167, 0, 4, 3, 181, 1, 38, 42, 42, 180, 1, 38, 153, 0, 7, 28, 167, 0, 7, 42]
abbrev dktX3_word_5 : List UInt8 := dkwX3_word_5 ++ dktX3_word_6
def dkwX3_word_4 : List UInt8 := [16, 48, 100, 62, 42, 89, 180, 1, 35, 4, 96, 181, 1, 35, 167, 255, 184, 42, 29, 17, 3, 231]
abbrev dktX3_word_4 : List UInt8 := dkwX3_word_4 ++ dktX3_word_5
def dkwX3_word_3 : List UInt8 := [17, 3, 231, 164, 0, 7, 29, 167, 0, 20, 16, 10, 29, 104, 42, 180, 0, 116, 42, 180, 1, 35, 46, 96]
abbrev dktX3_word_3 : List UInt8 := dkwX3_word_3 ++ dktX3_word_4
def dkwX3_word_2 : List UInt8 := [42, 180, 0, 116, 42, 180, 1, 35, 46, 133, 20, 1, 52, 20, 1, 54, 184, 0, 160, 153, 0, 45, 29]
abbrev dktX3_word_2 : List UInt8 := dkwX3_word_2 ++ dktX3_word_3
def dkwX3_word_1 : List UInt8 := [184, 0, 160, 153, 0, 127, 42, 180, 1, 35, 61, 3, 62, 42, 180, 1, 35, 42, 180, 1, 32, 162, 0, 67]
abbrev dktX3_word_1 : List UInt8 := dkwX3_word_1 ++ dktX3_word_2
def dkwX3_word_0 : List UInt8 := [42, 180, 1, 38, 153, 0, 7, 3, 167, 0, 7, 42, 182, 1, 42, 60, 27, 133, 20, 1, 52, 20, 1, 54]
abbrev dktX3_word_0 : List UInt8 := dkwX3_word_0 ++ dktX3_word_1
theorem dksX3_word_0 : cX3_word.data.toList.drop 0 = dktX3_word_0 := by decide +kernel
theorem dksX3_word_1 : cX3_word.data.toList.drop 24 = dktX3_word_1 := dk_seg dksX3_word_0 24 rfl rfl
theorem dksX3_word_2 : cX3_word.data.toList.drop 48 = dktX3_word_2 := dk_seg dksX3_word_1 24 rfl rfl
theorem dksX3_word_3 : cX3_word.data.toList.drop 71 = dktX3_word_3 := dk_seg dksX3_word_2 23 rfl rfl
theorem dksX3_word_4 : cX3_word.data.toList.drop 95 = dktX3_word_4 := dk_seg dksX3_word_3 24 rfl rfl
theorem dksX3_word_5 : cX3_word.data.toList.drop 117 = dktX3_word_5 := dk_seg dksX3_word_4 22 rfl rfl
theorem dksX3_word_6 : cX3_word.data.toList.drop 141 = dktX3_word_6 := dk_seg dksX3_word_5 24 rfl rfl
theorem dksX3_word_7 : cX3_word.data.toList.drop 163 = dktX3_word_7 := dk_seg dksX3_word_6 22 rfl rfl
theorem dksX3_word_8 : cX3_word.data.toList.drop 187 = dktX3_word_8 := dk_seg dksX3_word_7 24 rfl rfl
theorem dksX3_word_9 : cX3_word.data.toList.drop 209 = dktX3_word_9 := dk_seg dksX3_word_8 22 rfl rfl
theorem dksX3_word_10 : cX3_word.data.toList.drop 233 = dktX3_word_10 := dk_seg dksX3_word_9 24 rfl rfl
theorem dX3_word_0 : decode cX3_word 0 = .ok (.aload_n 0, 1) := dk_42 (dk_at dksX3_word_0 0 rfl rfl)
theorem dX3_word_1 : decode cX3_word 1 = .ok (.getfield 294, 3) := dk_180 1 38 (dk_at dksX3_word_0 1 rfl rfl)
theorem dX3_word_4 : decode cX3_word 4 = .ok (.ifCond .eq 7, 3) := dk_153 0 7 (dk_at dksX3_word_0 4 rfl rfl)
theorem dX3_word_7 : decode cX3_word 7 = .ok (.iconst 0, 1) := dk_3 (dk_at dksX3_word_0 7 rfl rfl)
theorem dX3_word_8 : decode cX3_word 8 = .ok (.goto 7, 3) := dk_167 0 7 (dk_at dksX3_word_0 8 rfl rfl)
theorem dX3_word_11 : decode cX3_word 11 = .ok (.aload_n 0, 1) := dk_42 (dk_at dksX3_word_0 11 rfl rfl)
theorem dX3_word_12 : decode cX3_word 12 = .ok (.invokevirtual 298, 3) := dk_182 1 42 (dk_at dksX3_word_0 12 rfl rfl)
theorem dX3_word_15 : decode cX3_word 15 = .ok (.istore_n 1, 1) := dk_60 (dk_at dksX3_word_0 15 rfl rfl)
theorem dX3_word_16 : decode cX3_word 16 = .ok (.iload_n 1, 1) := dk_27 (dk_at dksX3_word_0 16 rfl rfl)
theorem dX3_word_17 : decode cX3_word 17 = .ok (.i2l, 1) := dk_133 (dk_at dksX3_word_0 17 rfl rfl)
theorem dX3_word_18 : decode cX3_word 18 = .ok (.ldc2_w 308, 3) := dk_20 1 52 (dk_at dksX3_word_0 18 rfl rfl)
theorem dX3_word_21 : decode cX3_word 21 = .ok (.ldc2_w 310, 3) := dk_20 1 54 (dk_at dksX3_word_0 21 rfl rfl)
theorem dX3_word_24 : decode cX3_word 24 = .ok (.invokestatic 160, 3) := dk_184 0 160 (dk_at dksX3_word_1 0 rfl rfl)
theorem dX3_word_27 : decode cX3_word 27 = .ok (.ifCond .eq 127, 3) := dk_153 0 127 (dk_at dksX3_word_1 3 rfl rfl)
theorem dX3_word_30 : decode cX3_word 30 = .ok (.aload_n 0, 1) := dk_42 (dk_at dksX3_word_1 6 rfl rfl)
theorem dX3_word_31 : decode cX3_word 31 = .ok (.getfield 291, 3) := dk_180 1 35 (dk_at dksX3_word_1 7 rfl rfl)
theorem dX3_word_34 : decode cX3_word 34 = .ok (.istore_n 2, 1) := dk_61 (dk_at dksX3_word_1 10 rfl rfl)
theorem dX3_word_35 : decode cX3_word 35 = .ok (.iconst 0, 1) := dk_3 (dk_at dksX3_word_1 11 rfl rfl)
theorem dX3_word_36 : decode cX3_word 36 = .ok (.istore_n 3, 1) := dk_62 (dk_at dksX3_word_1 12 rfl rfl)
theorem dX3_word_37 : decode cX3_word 37 = .ok (.aload_n 0, 1) := dk_42 (dk_at dksX3_word_1 13 rfl rfl)
theorem dX3_word_38 : decode cX3_word 38 = .ok (.getfield 291, 3) := dk_180 1 35 (dk_at dksX3_word_1 14 rfl rfl)
theorem dX3_word_41 : decode cX3_word 41 = .ok (.aload_n 0, 1) := dk_42 (dk_at dksX3_word_1 17 rfl rfl)
theorem dX3_word_42 : decode cX3_word 42 = .ok (.getfield 288, 3) := dk_180 1 32 (dk_at dksX3_word_1 18 rfl rfl)
theorem dX3_word_45 : decode cX3_word 45 = .ok (.if_icmp .ge 67, 3) := dk_162 0 67 (dk_at dksX3_word_1 21 rfl rfl)
theorem dX3_word_48 : decode cX3_word 48 = .ok (.aload_n 0, 1) := dk_42 (dk_at dksX3_word_2 0 rfl rfl)
theorem dX3_word_49 : decode cX3_word 49 = .ok (.getfield 116, 3) := dk_180 0 116 (dk_at dksX3_word_2 1 rfl rfl)
theorem dX3_word_52 : decode cX3_word 52 = .ok (.aload_n 0, 1) := dk_42 (dk_at dksX3_word_2 4 rfl rfl)
theorem dX3_word_53 : decode cX3_word 53 = .ok (.getfield 291, 3) := dk_180 1 35 (dk_at dksX3_word_2 5 rfl rfl)
theorem dX3_word_56 : decode cX3_word 56 = .ok (.iaload, 1) := dk_46 (dk_at dksX3_word_2 8 rfl rfl)
theorem dX3_word_57 : decode cX3_word 57 = .ok (.i2l, 1) := dk_133 (dk_at dksX3_word_2 9 rfl rfl)
theorem dX3_word_58 : decode cX3_word 58 = .ok (.ldc2_w 308, 3) := dk_20 1 52 (dk_at dksX3_word_2 10 rfl rfl)
theorem dX3_word_61 : decode cX3_word 61 = .ok (.ldc2_w 310, 3) := dk_20 1 54 (dk_at dksX3_word_2 13 rfl rfl)
theorem dX3_word_64 : decode cX3_word 64 = .ok (.invokestatic 160, 3) := dk_184 0 160 (dk_at dksX3_word_2 16 rfl rfl)
theorem dX3_word_67 : decode cX3_word 67 = .ok (.ifCond .eq 45, 3) := dk_153 0 45 (dk_at dksX3_word_2 19 rfl rfl)
theorem dX3_word_70 : decode cX3_word 70 = .ok (.iload_n 3, 1) := dk_29 (dk_at dksX3_word_2 22 rfl rfl)
theorem dX3_word_71 : decode cX3_word 71 = .ok (.sipush 999, 3) := dk_17 3 231 (dk_at dksX3_word_3 0 rfl rfl)
theorem dX3_word_74 : decode cX3_word 74 = .ok (.if_icmp .le 7, 3) := dk_164 0 7 (dk_at dksX3_word_3 3 rfl rfl)
theorem dX3_word_77 : decode cX3_word 77 = .ok (.iload_n 3, 1) := dk_29 (dk_at dksX3_word_3 6 rfl rfl)
theorem dX3_word_78 : decode cX3_word 78 = .ok (.goto 20, 3) := dk_167 0 20 (dk_at dksX3_word_3 7 rfl rfl)
theorem dX3_word_81 : decode cX3_word 81 = .ok (.bipush 10, 2) := dk_16 10 (dk_at dksX3_word_3 10 rfl rfl)
theorem dX3_word_83 : decode cX3_word 83 = .ok (.iload_n 3, 1) := dk_29 (dk_at dksX3_word_3 12 rfl rfl)
theorem dX3_word_84 : decode cX3_word 84 = .ok (.imul, 1) := dk_104 (dk_at dksX3_word_3 13 rfl rfl)
theorem dX3_word_85 : decode cX3_word 85 = .ok (.aload_n 0, 1) := dk_42 (dk_at dksX3_word_3 14 rfl rfl)
theorem dX3_word_86 : decode cX3_word 86 = .ok (.getfield 116, 3) := dk_180 0 116 (dk_at dksX3_word_3 15 rfl rfl)
theorem dX3_word_89 : decode cX3_word 89 = .ok (.aload_n 0, 1) := dk_42 (dk_at dksX3_word_3 18 rfl rfl)
theorem dX3_word_90 : decode cX3_word 90 = .ok (.getfield 291, 3) := dk_180 1 35 (dk_at dksX3_word_3 19 rfl rfl)
theorem dX3_word_93 : decode cX3_word 93 = .ok (.iaload, 1) := dk_46 (dk_at dksX3_word_3 22 rfl rfl)
theorem dX3_word_94 : decode cX3_word 94 = .ok (.iadd, 1) := dk_96 (dk_at dksX3_word_3 23 rfl rfl)
theorem dX3_word_95 : decode cX3_word 95 = .ok (.bipush 48, 2) := dk_16 48 (dk_at dksX3_word_4 0 rfl rfl)
theorem dX3_word_97 : decode cX3_word 97 = .ok (.isub, 1) := dk_100 (dk_at dksX3_word_4 2 rfl rfl)
theorem dX3_word_98 : decode cX3_word 98 = .ok (.istore_n 3, 1) := dk_62 (dk_at dksX3_word_4 3 rfl rfl)
theorem dX3_word_99 : decode cX3_word 99 = .ok (.aload_n 0, 1) := dk_42 (dk_at dksX3_word_4 4 rfl rfl)
theorem dX3_word_100 : decode cX3_word 100 = .ok (.dup, 1) := dk_89 (dk_at dksX3_word_4 5 rfl rfl)
theorem dX3_word_101 : decode cX3_word 101 = .ok (.getfield 291, 3) := dk_180 1 35 (dk_at dksX3_word_4 6 rfl rfl)
theorem dX3_word_104 : decode cX3_word 104 = .ok (.iconst 1, 1) := dk_4 (dk_at dksX3_word_4 9 rfl rfl)
theorem dX3_word_105 : decode cX3_word 105 = .ok (.iadd, 1) := dk_96 (dk_at dksX3_word_4 10 rfl rfl)
theorem dX3_word_106 : decode cX3_word 106 = .ok (.putfield 291, 3) := dk_181 1 35 (dk_at dksX3_word_4 11 rfl rfl)
theorem dX3_word_109 : decode cX3_word 109 = .ok (.goto (-72), 3) := dk_167 255 184 (dk_at dksX3_word_4 14 rfl rfl)
theorem dX3_word_112 : decode cX3_word 112 = .ok (.aload_n 0, 1) := dk_42 (dk_at dksX3_word_4 17 rfl rfl)
theorem dX3_word_113 : decode cX3_word 113 = .ok (.iload_n 3, 1) := dk_29 (dk_at dksX3_word_4 18 rfl rfl)
theorem dX3_word_114 : decode cX3_word 114 = .ok (.sipush 999, 3) := dk_17 3 231 (dk_at dksX3_word_4 19 rfl rfl)
theorem dX3_word_117 : decode cX3_word 117 = .ok (.if_icmp .le 7, 3) := dk_164 0 7 (dk_at dksX3_word_5 0 rfl rfl)
theorem dX3_word_120 : decode cX3_word 120 = .ok (.iconst 1, 1) := dk_4 (dk_at dksX3_word_5 3 rfl rfl)
theorem dX3_word_121 : decode cX3_word 121 = .ok (.goto 4, 3) := dk_167 0 4 (dk_at dksX3_word_5 4 rfl rfl)
theorem dX3_word_124 : decode cX3_word 124 = .ok (.iconst 0, 1) := dk_3 (dk_at dksX3_word_5 7 rfl rfl)
theorem dX3_word_125 : decode cX3_word 125 = .ok (.putfield 294, 3) := dk_181 1 38 (dk_at dksX3_word_5 8 rfl rfl)
theorem dX3_word_128 : decode cX3_word 128 = .ok (.aload_n 0, 1) := dk_42 (dk_at dksX3_word_5 11 rfl rfl)
theorem dX3_word_129 : decode cX3_word 129 = .ok (.aload_n 0, 1) := dk_42 (dk_at dksX3_word_5 12 rfl rfl)
theorem dX3_word_130 : decode cX3_word 130 = .ok (.getfield 294, 3) := dk_180 1 38 (dk_at dksX3_word_5 13 rfl rfl)
theorem dX3_word_133 : decode cX3_word 133 = .ok (.ifCond .eq 7, 3) := dk_153 0 7 (dk_at dksX3_word_5 16 rfl rfl)
theorem dX3_word_136 : decode cX3_word 136 = .ok (.iload_n 2, 1) := dk_28 (dk_at dksX3_word_5 19 rfl rfl)
theorem dX3_word_137 : decode cX3_word 137 = .ok (.goto 7, 3) := dk_167 0 7 (dk_at dksX3_word_5 20 rfl rfl)
theorem dX3_word_140 : decode cX3_word 140 = .ok (.aload_n 0, 1) := dk_42 (dk_at dksX3_word_5 23 rfl rfl)
theorem dX3_word_141 : decode cX3_word 141 = .ok (.getfield 291, 3) := dk_180 1 35 (dk_at dksX3_word_6 0 rfl rfl)
theorem dX3_word_144 : decode cX3_word 144 = .ok (.putfield 291, 3) := dk_181 1 35 (dk_at dksX3_word_6 3 rfl rfl)
theorem dX3_word_147 : decode cX3_word 147 = .ok (.aload_n 0, 1) := dk_42 (dk_at dksX3_word_6 6 rfl rfl)
theorem dX3_word_148 : decode cX3_word 148 = .ok (.iconst 0, 1) := dk_3 (dk_at dksX3_word_6 7 rfl rfl)
theorem dX3_word_149 : decode cX3_word 149 = .ok (.iload_n 3, 1) := dk_29 (dk_at dksX3_word_6 8 rfl rfl)
theorem dX3_word_150 : decode cX3_word 150 = .ok (.invokevirtual 312, 3) := dk_182 1 56 (dk_at dksX3_word_6 9 rfl rfl)
theorem dX3_word_153 : decode cX3_word 153 = .ok (.return_, 1) := dk_177 (dk_at dksX3_word_6 12 rfl rfl)
theorem dX3_word_154 : decode cX3_word 154 = .ok (.iload_n 1, 1) := dk_27 (dk_at dksX3_word_6 13 rfl rfl)
theorem dX3_word_155 : decode cX3_word 155 = .ok (.bipush 115, 2) := dk_16 115 (dk_at dksX3_word_6 14 rfl rfl)
theorem dX3_word_157 : decode cX3_word 157 = .ok (.if_icmp .eq 33, 3) := dk_159 0 33 (dk_at dksX3_word_6 16 rfl rfl)
theorem dX3_word_160 : decode cX3_word 160 = .ok (.iload_n 1, 1) := dk_27 (dk_at dksX3_word_6 19 rfl rfl)
theorem dX3_word_161 : decode cX3_word 161 = .ok (.bipush 107, 2) := dk_16 107 (dk_at dksX3_word_6 20 rfl rfl)
theorem dX3_word_163 : decode cX3_word 163 = .ok (.if_icmp .eq 27, 3) := dk_159 0 27 (dk_at dksX3_word_7 0 rfl rfl)
theorem dX3_word_166 : decode cX3_word 166 = .ok (.iload_n 1, 1) := dk_27 (dk_at dksX3_word_7 3 rfl rfl)
theorem dX3_word_167 : decode cX3_word 167 = .ok (.bipush 100, 2) := dk_16 100 (dk_at dksX3_word_7 4 rfl rfl)
theorem dX3_word_169 : decode cX3_word 169 = .ok (.if_icmp .eq 21, 3) := dk_159 0 21 (dk_at dksX3_word_7 6 rfl rfl)
theorem dX3_word_172 : decode cX3_word 172 = .ok (.iload_n 1, 1) := dk_27 (dk_at dksX3_word_7 9 rfl rfl)
theorem dX3_word_173 : decode cX3_word 173 = .ok (.bipush 110, 2) := dk_16 110 (dk_at dksX3_word_7 10 rfl rfl)
theorem dX3_word_175 : decode cX3_word 175 = .ok (.if_icmp .eq 15, 3) := dk_159 0 15 (dk_at dksX3_word_7 12 rfl rfl)
theorem dX3_word_178 : decode cX3_word 178 = .ok (.iload_n 1, 1) := dk_27 (dk_at dksX3_word_7 15 rfl rfl)
theorem dX3_word_179 : decode cX3_word 179 = .ok (.bipush 98, 2) := dk_16 98 (dk_at dksX3_word_7 16 rfl rfl)
theorem dX3_word_181 : decode cX3_word 181 = .ok (.if_icmp .eq 9, 3) := dk_159 0 9 (dk_at dksX3_word_7 18 rfl rfl)
theorem dX3_word_184 : decode cX3_word 184 = .ok (.iload_n 1, 1) := dk_27 (dk_at dksX3_word_7 21 rfl rfl)
theorem dX3_word_185 : decode cX3_word 185 = .ok (.bipush 119, 2) := dk_16 119 (dk_at dksX3_word_7 22 rfl rfl)
theorem dX3_word_187 : decode cX3_word 187 = .ok (.if_icmp .ne 7, 3) := dk_160 0 7 (dk_at dksX3_word_8 0 rfl rfl)
theorem dX3_word_190 : decode cX3_word 190 = .ok (.iconst 1, 1) := dk_4 (dk_at dksX3_word_8 3 rfl rfl)
theorem dX3_word_191 : decode cX3_word 191 = .ok (.goto 4, 3) := dk_167 0 4 (dk_at dksX3_word_8 4 rfl rfl)
theorem dX3_word_194 : decode cX3_word 194 = .ok (.iconst 0, 1) := dk_3 (dk_at dksX3_word_8 7 rfl rfl)
theorem dX3_word_195 : decode cX3_word 195 = .ok (.istore_n 2, 1) := dk_61 (dk_at dksX3_word_8 8 rfl rfl)
theorem dX3_word_196 : decode cX3_word 196 = .ok (.aload_n 0, 1) := dk_42 (dk_at dksX3_word_8 9 rfl rfl)
theorem dX3_word_197 : decode cX3_word 197 = .ok (.aload_n 0, 1) := dk_42 (dk_at dksX3_word_8 10 rfl rfl)
theorem dX3_word_198 : decode cX3_word 198 = .ok (.getfield 294, 3) := dk_180 1 38 (dk_at dksX3_word_8 11 rfl rfl)
theorem dX3_word_201 : decode cX3_word 201 = .ok (.ifCond .ne 7, 3) := dk_154 0 7 (dk_at dksX3_word_8 14 rfl rfl)
theorem dX3_word_204 : decode cX3_word 204 = .ok (.iload_n 2, 1) := dk_28 (dk_at dksX3_word_8 17 rfl rfl)
theorem dX3_word_205 : decode cX3_word 205 = .ok (.ifCond .ne 7, 3) := dk_154 0 7 (dk_at dksX3_word_8 18 rfl rfl)
theorem dX3_word_208 : decode cX3_word 208 = .ok (.iconst 1, 1) := dk_4 (dk_at dksX3_word_8 21 rfl rfl)
theorem dX3_word_209 : decode cX3_word 209 = .ok (.goto 4, 3) := dk_167 0 4 (dk_at dksX3_word_9 0 rfl rfl)
theorem dX3_word_212 : decode cX3_word 212 = .ok (.iconst 0, 1) := dk_3 (dk_at dksX3_word_9 3 rfl rfl)
theorem dX3_word_213 : decode cX3_word 213 = .ok (.putfield 294, 3) := dk_181 1 38 (dk_at dksX3_word_9 4 rfl rfl)
theorem dX3_word_216 : decode cX3_word 216 = .ok (.aload_n 0, 1) := dk_42 (dk_at dksX3_word_9 7 rfl rfl)
theorem dX3_word_217 : decode cX3_word 217 = .ok (.getfield 294, 3) := dk_180 1 38 (dk_at dksX3_word_9 8 rfl rfl)
theorem dX3_word_220 : decode cX3_word 220 = .ok (.ifCond .ne 19, 3) := dk_154 0 19 (dk_at dksX3_word_9 11 rfl rfl)
theorem dX3_word_223 : decode cX3_word 223 = .ok (.aload_n 0, 1) := dk_42 (dk_at dksX3_word_9 14 rfl rfl)
theorem dX3_word_224 : decode cX3_word 224 = .ok (.dup, 1) := dk_89 (dk_at dksX3_word_9 15 rfl rfl)
theorem dX3_word_225 : decode cX3_word 225 = .ok (.getfield 291, 3) := dk_180 1 35 (dk_at dksX3_word_9 16 rfl rfl)
theorem dX3_word_228 : decode cX3_word 228 = .ok (.iconst 1, 1) := dk_4 (dk_at dksX3_word_9 19 rfl rfl)
theorem dX3_word_229 : decode cX3_word 229 = .ok (.iadd, 1) := dk_96 (dk_at dksX3_word_9 20 rfl rfl)
theorem dX3_word_230 : decode cX3_word 230 = .ok (.putfield 291, 3) := dk_181 1 35 (dk_at dksX3_word_9 21 rfl rfl)
theorem dX3_word_233 : decode cX3_word 233 = .ok (.aload_n 0, 1) := dk_42 (dk_at dksX3_word_10 0 rfl rfl)
theorem dX3_word_234 : decode cX3_word 234 = .ok (.iconst 1, 1) := dk_4 (dk_at dksX3_word_10 1 rfl rfl)
theorem dX3_word_235 : decode cX3_word 235 = .ok (.iload_n 1, 1) := dk_27 (dk_at dksX3_word_10 2 rfl rfl)
theorem dX3_word_236 : decode cX3_word 236 = .ok (.invokevirtual 312, 3) := dk_182 1 56 (dk_at dksX3_word_10 3 rfl rfl)
theorem dX3_word_239 : decode cX3_word 239 = .ok (.return_, 1) := dk_177 (dk_at dksX3_word_10 6 rfl rfl)
abbrev cX3_emits : ByteArray := prog_19_method_60_code
def yX3_emits : MethodName := ⟨RX3, "emits", "(II)V"⟩
def dkwX3_emits_1 : List UInt8 := [42, 180, 1, 46, 104, 42, 180, 1, 49, 96, 28, 79, 42, 89, 180, 1, 49, 4, 96, 181, 1, 49, 177]
abbrev dktX3_emits_1 : List UInt8 := dkwX3_emits_1 ++ []
def dkwX3_emits_0 : List UInt8 := [42, 180, 0, 110, 16, 80, 42, 180, 1, 46, 104, 42, 180, 1, 49, 96, 27, 79, 42, 180, 0, 113, 16, 80]
abbrev dktX3_emits_0 : List UInt8 := dkwX3_emits_0 ++ dktX3_emits_1
theorem dksX3_emits_0 : cX3_emits.data.toList.drop 0 = dktX3_emits_0 := by decide +kernel
theorem dksX3_emits_1 : cX3_emits.data.toList.drop 24 = dktX3_emits_1 := dk_seg dksX3_emits_0 24 rfl rfl
theorem dX3_emits_0 : decode cX3_emits 0 = .ok (.aload_n 0, 1) := dk_42 (dk_at dksX3_emits_0 0 rfl rfl)
theorem dX3_emits_1 : decode cX3_emits 1 = .ok (.getfield 110, 3) := dk_180 0 110 (dk_at dksX3_emits_0 1 rfl rfl)
theorem dX3_emits_4 : decode cX3_emits 4 = .ok (.bipush 80, 2) := dk_16 80 (dk_at dksX3_emits_0 4 rfl rfl)
theorem dX3_emits_6 : decode cX3_emits 6 = .ok (.aload_n 0, 1) := dk_42 (dk_at dksX3_emits_0 6 rfl rfl)
theorem dX3_emits_7 : decode cX3_emits 7 = .ok (.getfield 302, 3) := dk_180 1 46 (dk_at dksX3_emits_0 7 rfl rfl)
theorem dX3_emits_10 : decode cX3_emits 10 = .ok (.imul, 1) := dk_104 (dk_at dksX3_emits_0 10 rfl rfl)
theorem dX3_emits_11 : decode cX3_emits 11 = .ok (.aload_n 0, 1) := dk_42 (dk_at dksX3_emits_0 11 rfl rfl)
theorem dX3_emits_12 : decode cX3_emits 12 = .ok (.getfield 305, 3) := dk_180 1 49 (dk_at dksX3_emits_0 12 rfl rfl)
theorem dX3_emits_15 : decode cX3_emits 15 = .ok (.iadd, 1) := dk_96 (dk_at dksX3_emits_0 15 rfl rfl)
theorem dX3_emits_16 : decode cX3_emits 16 = .ok (.iload_n 1, 1) := dk_27 (dk_at dksX3_emits_0 16 rfl rfl)
theorem dX3_emits_17 : decode cX3_emits 17 = .ok (.iastore, 1) := dk_79 (dk_at dksX3_emits_0 17 rfl rfl)
theorem dX3_emits_18 : decode cX3_emits 18 = .ok (.aload_n 0, 1) := dk_42 (dk_at dksX3_emits_0 18 rfl rfl)
theorem dX3_emits_19 : decode cX3_emits 19 = .ok (.getfield 113, 3) := dk_180 0 113 (dk_at dksX3_emits_0 19 rfl rfl)
theorem dX3_emits_22 : decode cX3_emits 22 = .ok (.bipush 80, 2) := dk_16 80 (dk_at dksX3_emits_0 22 rfl rfl)
theorem dX3_emits_24 : decode cX3_emits 24 = .ok (.aload_n 0, 1) := dk_42 (dk_at dksX3_emits_1 0 rfl rfl)
theorem dX3_emits_25 : decode cX3_emits 25 = .ok (.getfield 302, 3) := dk_180 1 46 (dk_at dksX3_emits_1 1 rfl rfl)
theorem dX3_emits_28 : decode cX3_emits 28 = .ok (.imul, 1) := dk_104 (dk_at dksX3_emits_1 4 rfl rfl)
theorem dX3_emits_29 : decode cX3_emits 29 = .ok (.aload_n 0, 1) := dk_42 (dk_at dksX3_emits_1 5 rfl rfl)
theorem dX3_emits_30 : decode cX3_emits 30 = .ok (.getfield 305, 3) := dk_180 1 49 (dk_at dksX3_emits_1 6 rfl rfl)
theorem dX3_emits_33 : decode cX3_emits 33 = .ok (.iadd, 1) := dk_96 (dk_at dksX3_emits_1 9 rfl rfl)
theorem dX3_emits_34 : decode cX3_emits 34 = .ok (.iload_n 2, 1) := dk_28 (dk_at dksX3_emits_1 10 rfl rfl)
theorem dX3_emits_35 : decode cX3_emits 35 = .ok (.iastore, 1) := dk_79 (dk_at dksX3_emits_1 11 rfl rfl)
theorem dX3_emits_36 : decode cX3_emits 36 = .ok (.aload_n 0, 1) := dk_42 (dk_at dksX3_emits_1 12 rfl rfl)
theorem dX3_emits_37 : decode cX3_emits 37 = .ok (.dup, 1) := dk_89 (dk_at dksX3_emits_1 13 rfl rfl)
theorem dX3_emits_38 : decode cX3_emits 38 = .ok (.getfield 305, 3) := dk_180 1 49 (dk_at dksX3_emits_1 14 rfl rfl)
theorem dX3_emits_41 : decode cX3_emits 41 = .ok (.iconst 1, 1) := dk_4 (dk_at dksX3_emits_1 17 rfl rfl)
theorem dX3_emits_42 : decode cX3_emits 42 = .ok (.iadd, 1) := dk_96 (dk_at dksX3_emits_1 18 rfl rfl)
theorem dX3_emits_43 : decode cX3_emits 43 = .ok (.putfield 305, 3) := dk_181 1 49 (dk_at dksX3_emits_1 19 rfl rfl)
theorem dX3_emits_46 : decode cX3_emits 46 = .ok (.return_, 1) := dk_177 (dk_at dksX3_emits_1 22 rfl rfl)
abbrev cX3_goesOn : ByteArray := prog_19_method_63_code
def yX3_goesOn : MethodName := ⟨RX3, "goesOn", "(I)Z"⟩
def dkwX3_goesOn_4 : List UInt8 := [4, 96, 181, 1, 35, 4, 172, 3, 172]
abbrev dktX3_goesOn_4 : List UInt8 := dkwX3_goesOn_4 ++ []
def dkwX3_goesOn_3 : List UInt8 := [180, 0, 122, 27, 3, 84, 28, 16, 124, 160, 0, 22, 42, 180, 0, 122, 27, 4, 84, 42, 89, 180, 1, 35]
abbrev dktX3_goesOn_3 : List UInt8 := dkwX3_goesOn_3 ++ dktX3_goesOn_4
def dkwX3_goesOn_2 : List UInt8 := [181, 1, 35, 4, 172, 42, 180, 0, 122, 27, 51, 153, 0, 17, 42, 16, 7, 3, 182, 1, 56, 42]
abbrev dktX3_goesOn_2 : List UInt8 := dkwX3_goesOn_2 ++ dktX3_goesOn_3
def dkwX3_goesOn_1 : List UInt8 := [182, 1, 42, 61, 28, 16, 38, 160, 0, 22, 42, 180, 0, 119, 27, 4, 84, 42, 89, 180, 1, 35, 4, 96]
abbrev dktX3_goesOn_1 : List UInt8 := dkwX3_goesOn_1 ++ dktX3_goesOn_2
def dkwX3_goesOn_0 : List UInt8 := [42, 180, 0, 119, 27, 51, 153, 0, 17, 42, 16, 6, 3, 182, 1, 56, 42, 180, 0, 119, 27, 3, 84, 42]
abbrev dktX3_goesOn_0 : List UInt8 := dkwX3_goesOn_0 ++ dktX3_goesOn_1
theorem dksX3_goesOn_0 : cX3_goesOn.data.toList.drop 0 = dktX3_goesOn_0 := by decide +kernel
theorem dksX3_goesOn_1 : cX3_goesOn.data.toList.drop 24 = dktX3_goesOn_1 := dk_seg dksX3_goesOn_0 24 rfl rfl
theorem dksX3_goesOn_2 : cX3_goesOn.data.toList.drop 48 = dktX3_goesOn_2 := dk_seg dksX3_goesOn_1 24 rfl rfl
theorem dksX3_goesOn_3 : cX3_goesOn.data.toList.drop 70 = dktX3_goesOn_3 := dk_seg dksX3_goesOn_2 22 rfl rfl
theorem dksX3_goesOn_4 : cX3_goesOn.data.toList.drop 94 = dktX3_goesOn_4 := dk_seg dksX3_goesOn_3 24 rfl rfl
theorem dX3_goesOn_0 : decode cX3_goesOn 0 = .ok (.aload_n 0, 1) := dk_42 (dk_at dksX3_goesOn_0 0 rfl rfl)
theorem dX3_goesOn_1 : decode cX3_goesOn 1 = .ok (.getfield 119, 3) := dk_180 0 119 (dk_at dksX3_goesOn_0 1 rfl rfl)
theorem dX3_goesOn_4 : decode cX3_goesOn 4 = .ok (.iload_n 1, 1) := dk_27 (dk_at dksX3_goesOn_0 4 rfl rfl)
theorem dX3_goesOn_5 : decode cX3_goesOn 5 = .ok (.baload, 1) := dk_51 (dk_at dksX3_goesOn_0 5 rfl rfl)
theorem dX3_goesOn_6 : decode cX3_goesOn 6 = .ok (.ifCond .eq 17, 3) := dk_153 0 17 (dk_at dksX3_goesOn_0 6 rfl rfl)
theorem dX3_goesOn_9 : decode cX3_goesOn 9 = .ok (.aload_n 0, 1) := dk_42 (dk_at dksX3_goesOn_0 9 rfl rfl)
theorem dX3_goesOn_10 : decode cX3_goesOn 10 = .ok (.bipush 6, 2) := dk_16 6 (dk_at dksX3_goesOn_0 10 rfl rfl)
theorem dX3_goesOn_12 : decode cX3_goesOn 12 = .ok (.iconst 0, 1) := dk_3 (dk_at dksX3_goesOn_0 12 rfl rfl)
theorem dX3_goesOn_13 : decode cX3_goesOn 13 = .ok (.invokevirtual 312, 3) := dk_182 1 56 (dk_at dksX3_goesOn_0 13 rfl rfl)
theorem dX3_goesOn_16 : decode cX3_goesOn 16 = .ok (.aload_n 0, 1) := dk_42 (dk_at dksX3_goesOn_0 16 rfl rfl)
theorem dX3_goesOn_17 : decode cX3_goesOn 17 = .ok (.getfield 119, 3) := dk_180 0 119 (dk_at dksX3_goesOn_0 17 rfl rfl)
theorem dX3_goesOn_20 : decode cX3_goesOn 20 = .ok (.iload_n 1, 1) := dk_27 (dk_at dksX3_goesOn_0 20 rfl rfl)
theorem dX3_goesOn_21 : decode cX3_goesOn 21 = .ok (.iconst 0, 1) := dk_3 (dk_at dksX3_goesOn_0 21 rfl rfl)
theorem dX3_goesOn_22 : decode cX3_goesOn 22 = .ok (.bastore, 1) := dk_84 (dk_at dksX3_goesOn_0 22 rfl rfl)
theorem dX3_goesOn_23 : decode cX3_goesOn 23 = .ok (.aload_n 0, 1) := dk_42 (dk_at dksX3_goesOn_0 23 rfl rfl)
theorem dX3_goesOn_24 : decode cX3_goesOn 24 = .ok (.invokevirtual 298, 3) := dk_182 1 42 (dk_at dksX3_goesOn_1 0 rfl rfl)
theorem dX3_goesOn_27 : decode cX3_goesOn 27 = .ok (.istore_n 2, 1) := dk_61 (dk_at dksX3_goesOn_1 3 rfl rfl)
theorem dX3_goesOn_28 : decode cX3_goesOn 28 = .ok (.iload_n 2, 1) := dk_28 (dk_at dksX3_goesOn_1 4 rfl rfl)
theorem dX3_goesOn_29 : decode cX3_goesOn 29 = .ok (.bipush 38, 2) := dk_16 38 (dk_at dksX3_goesOn_1 5 rfl rfl)
theorem dX3_goesOn_31 : decode cX3_goesOn 31 = .ok (.if_icmp .ne 22, 3) := dk_160 0 22 (dk_at dksX3_goesOn_1 7 rfl rfl)
theorem dX3_goesOn_34 : decode cX3_goesOn 34 = .ok (.aload_n 0, 1) := dk_42 (dk_at dksX3_goesOn_1 10 rfl rfl)
theorem dX3_goesOn_35 : decode cX3_goesOn 35 = .ok (.getfield 119, 3) := dk_180 0 119 (dk_at dksX3_goesOn_1 11 rfl rfl)
theorem dX3_goesOn_38 : decode cX3_goesOn 38 = .ok (.iload_n 1, 1) := dk_27 (dk_at dksX3_goesOn_1 14 rfl rfl)
theorem dX3_goesOn_39 : decode cX3_goesOn 39 = .ok (.iconst 1, 1) := dk_4 (dk_at dksX3_goesOn_1 15 rfl rfl)
theorem dX3_goesOn_40 : decode cX3_goesOn 40 = .ok (.bastore, 1) := dk_84 (dk_at dksX3_goesOn_1 16 rfl rfl)
theorem dX3_goesOn_41 : decode cX3_goesOn 41 = .ok (.aload_n 0, 1) := dk_42 (dk_at dksX3_goesOn_1 17 rfl rfl)
theorem dX3_goesOn_42 : decode cX3_goesOn 42 = .ok (.dup, 1) := dk_89 (dk_at dksX3_goesOn_1 18 rfl rfl)
theorem dX3_goesOn_43 : decode cX3_goesOn 43 = .ok (.getfield 291, 3) := dk_180 1 35 (dk_at dksX3_goesOn_1 19 rfl rfl)
theorem dX3_goesOn_46 : decode cX3_goesOn 46 = .ok (.iconst 1, 1) := dk_4 (dk_at dksX3_goesOn_1 22 rfl rfl)
theorem dX3_goesOn_47 : decode cX3_goesOn 47 = .ok (.iadd, 1) := dk_96 (dk_at dksX3_goesOn_1 23 rfl rfl)
theorem dX3_goesOn_48 : decode cX3_goesOn 48 = .ok (.putfield 291, 3) := dk_181 1 35 (dk_at dksX3_goesOn_2 0 rfl rfl)
theorem dX3_goesOn_51 : decode cX3_goesOn 51 = .ok (.iconst 1, 1) := dk_4 (dk_at dksX3_goesOn_2 3 rfl rfl)
theorem dX3_goesOn_52 : decode cX3_goesOn 52 = .ok (.ireturn, 1) := dk_172 (dk_at dksX3_goesOn_2 4 rfl rfl)
theorem dX3_goesOn_53 : decode cX3_goesOn 53 = .ok (.aload_n 0, 1) := dk_42 (dk_at dksX3_goesOn_2 5 rfl rfl)
theorem dX3_goesOn_54 : decode cX3_goesOn 54 = .ok (.getfield 122, 3) := dk_180 0 122 (dk_at dksX3_goesOn_2 6 rfl rfl)
theorem dX3_goesOn_57 : decode cX3_goesOn 57 = .ok (.iload_n 1, 1) := dk_27 (dk_at dksX3_goesOn_2 9 rfl rfl)
theorem dX3_goesOn_58 : decode cX3_goesOn 58 = .ok (.baload, 1) := dk_51 (dk_at dksX3_goesOn_2 10 rfl rfl)
theorem dX3_goesOn_59 : decode cX3_goesOn 59 = .ok (.ifCond .eq 17, 3) := dk_153 0 17 (dk_at dksX3_goesOn_2 11 rfl rfl)
theorem dX3_goesOn_62 : decode cX3_goesOn 62 = .ok (.aload_n 0, 1) := dk_42 (dk_at dksX3_goesOn_2 14 rfl rfl)
theorem dX3_goesOn_63 : decode cX3_goesOn 63 = .ok (.bipush 7, 2) := dk_16 7 (dk_at dksX3_goesOn_2 15 rfl rfl)
theorem dX3_goesOn_65 : decode cX3_goesOn 65 = .ok (.iconst 0, 1) := dk_3 (dk_at dksX3_goesOn_2 17 rfl rfl)
theorem dX3_goesOn_66 : decode cX3_goesOn 66 = .ok (.invokevirtual 312, 3) := dk_182 1 56 (dk_at dksX3_goesOn_2 18 rfl rfl)
theorem dX3_goesOn_69 : decode cX3_goesOn 69 = .ok (.aload_n 0, 1) := dk_42 (dk_at dksX3_goesOn_2 21 rfl rfl)
theorem dX3_goesOn_70 : decode cX3_goesOn 70 = .ok (.getfield 122, 3) := dk_180 0 122 (dk_at dksX3_goesOn_3 0 rfl rfl)
theorem dX3_goesOn_73 : decode cX3_goesOn 73 = .ok (.iload_n 1, 1) := dk_27 (dk_at dksX3_goesOn_3 3 rfl rfl)
theorem dX3_goesOn_74 : decode cX3_goesOn 74 = .ok (.iconst 0, 1) := dk_3 (dk_at dksX3_goesOn_3 4 rfl rfl)
theorem dX3_goesOn_75 : decode cX3_goesOn 75 = .ok (.bastore, 1) := dk_84 (dk_at dksX3_goesOn_3 5 rfl rfl)
theorem dX3_goesOn_76 : decode cX3_goesOn 76 = .ok (.iload_n 2, 1) := dk_28 (dk_at dksX3_goesOn_3 6 rfl rfl)
theorem dX3_goesOn_77 : decode cX3_goesOn 77 = .ok (.bipush 124, 2) := dk_16 124 (dk_at dksX3_goesOn_3 7 rfl rfl)
theorem dX3_goesOn_79 : decode cX3_goesOn 79 = .ok (.if_icmp .ne 22, 3) := dk_160 0 22 (dk_at dksX3_goesOn_3 9 rfl rfl)
theorem dX3_goesOn_82 : decode cX3_goesOn 82 = .ok (.aload_n 0, 1) := dk_42 (dk_at dksX3_goesOn_3 12 rfl rfl)
theorem dX3_goesOn_83 : decode cX3_goesOn 83 = .ok (.getfield 122, 3) := dk_180 0 122 (dk_at dksX3_goesOn_3 13 rfl rfl)
theorem dX3_goesOn_86 : decode cX3_goesOn 86 = .ok (.iload_n 1, 1) := dk_27 (dk_at dksX3_goesOn_3 16 rfl rfl)
theorem dX3_goesOn_87 : decode cX3_goesOn 87 = .ok (.iconst 1, 1) := dk_4 (dk_at dksX3_goesOn_3 17 rfl rfl)
theorem dX3_goesOn_88 : decode cX3_goesOn 88 = .ok (.bastore, 1) := dk_84 (dk_at dksX3_goesOn_3 18 rfl rfl)
theorem dX3_goesOn_89 : decode cX3_goesOn 89 = .ok (.aload_n 0, 1) := dk_42 (dk_at dksX3_goesOn_3 19 rfl rfl)
theorem dX3_goesOn_90 : decode cX3_goesOn 90 = .ok (.dup, 1) := dk_89 (dk_at dksX3_goesOn_3 20 rfl rfl)
theorem dX3_goesOn_91 : decode cX3_goesOn 91 = .ok (.getfield 291, 3) := dk_180 1 35 (dk_at dksX3_goesOn_3 21 rfl rfl)
theorem dX3_goesOn_94 : decode cX3_goesOn 94 = .ok (.iconst 1, 1) := dk_4 (dk_at dksX3_goesOn_4 0 rfl rfl)
theorem dX3_goesOn_95 : decode cX3_goesOn 95 = .ok (.iadd, 1) := dk_96 (dk_at dksX3_goesOn_4 1 rfl rfl)
theorem dX3_goesOn_96 : decode cX3_goesOn 96 = .ok (.putfield 291, 3) := dk_181 1 35 (dk_at dksX3_goesOn_4 2 rfl rfl)
theorem dX3_goesOn_99 : decode cX3_goesOn 99 = .ok (.iconst 1, 1) := dk_4 (dk_at dksX3_goesOn_4 5 rfl rfl)
theorem dX3_goesOn_100 : decode cX3_goesOn 100 = .ok (.ireturn, 1) := dk_172 (dk_at dksX3_goesOn_4 6 rfl rfl)
theorem dX3_goesOn_101 : decode cX3_goesOn 101 = .ok (.iconst 0, 1) := dk_3 (dk_at dksX3_goesOn_4 7 rfl rfl)
theorem dX3_goesOn_102 : decode cX3_goesOn 102 = .ok (.ireturn, 1) := dk_172 (dk_at dksX3_goesOn_4 8 rfl rfl)
abbrev cX3_force : ByteArray := prog_19_method_68_code
def yX3_force : MethodName := ⟨RX3, "force", "(III)I"⟩
def dkwX3_force_1 : List UInt8 := [162, 0, 5, 2, 172, 42, 180, 0, 101, 27, 28, 79, 42, 180, 0, 104, 27, 29, 79, 4, 172]
abbrev dktX3_force_1 : List UInt8 := dkwX3_force_1 ++ []
def dkwX3_force_0 : List UInt8 := [42, 27, 182, 1, 83, 153, 0, 22, 28, 184, 1, 86, 153, 0, 15, 29, 184, 1, 86, 153, 0, 8, 29, 28]
abbrev dktX3_force_0 : List UInt8 := dkwX3_force_0 ++ dktX3_force_1
theorem dksX3_force_0 : cX3_force.data.toList.drop 0 = dktX3_force_0 := by decide +kernel
theorem dksX3_force_1 : cX3_force.data.toList.drop 24 = dktX3_force_1 := dk_seg dksX3_force_0 24 rfl rfl
theorem dX3_force_0 : decode cX3_force 0 = .ok (.aload_n 0, 1) := dk_42 (dk_at dksX3_force_0 0 rfl rfl)
theorem dX3_force_1 : decode cX3_force 1 = .ok (.iload_n 1, 1) := dk_27 (dk_at dksX3_force_0 1 rfl rfl)
theorem dX3_force_2 : decode cX3_force 2 = .ok (.invokevirtual 339, 3) := dk_182 1 83 (dk_at dksX3_force_0 2 rfl rfl)
theorem dX3_force_5 : decode cX3_force 5 = .ok (.ifCond .eq 22, 3) := dk_153 0 22 (dk_at dksX3_force_0 5 rfl rfl)
theorem dX3_force_8 : decode cX3_force 8 = .ok (.iload_n 2, 1) := dk_28 (dk_at dksX3_force_0 8 rfl rfl)
theorem dX3_force_9 : decode cX3_force 9 = .ok (.invokestatic 342, 3) := dk_184 1 86 (dk_at dksX3_force_0 9 rfl rfl)
theorem dX3_force_12 : decode cX3_force 12 = .ok (.ifCond .eq 15, 3) := dk_153 0 15 (dk_at dksX3_force_0 12 rfl rfl)
theorem dX3_force_15 : decode cX3_force 15 = .ok (.iload_n 3, 1) := dk_29 (dk_at dksX3_force_0 15 rfl rfl)
theorem dX3_force_16 : decode cX3_force 16 = .ok (.invokestatic 342, 3) := dk_184 1 86 (dk_at dksX3_force_0 16 rfl rfl)
theorem dX3_force_19 : decode cX3_force 19 = .ok (.ifCond .eq 8, 3) := dk_153 0 8 (dk_at dksX3_force_0 19 rfl rfl)
theorem dX3_force_22 : decode cX3_force 22 = .ok (.iload_n 3, 1) := dk_29 (dk_at dksX3_force_0 22 rfl rfl)
theorem dX3_force_23 : decode cX3_force 23 = .ok (.iload_n 2, 1) := dk_28 (dk_at dksX3_force_0 23 rfl rfl)
theorem dX3_force_24 : decode cX3_force 24 = .ok (.if_icmp .ge 5, 3) := dk_162 0 5 (dk_at dksX3_force_1 0 rfl rfl)
theorem dX3_force_27 : decode cX3_force 27 = .ok (.iconst (-1), 1) := dk_2 (dk_at dksX3_force_1 3 rfl rfl)
theorem dX3_force_28 : decode cX3_force 28 = .ok (.ireturn, 1) := dk_172 (dk_at dksX3_force_1 4 rfl rfl)
theorem dX3_force_29 : decode cX3_force 29 = .ok (.aload_n 0, 1) := dk_42 (dk_at dksX3_force_1 5 rfl rfl)
theorem dX3_force_30 : decode cX3_force 30 = .ok (.getfield 101, 3) := dk_180 0 101 (dk_at dksX3_force_1 6 rfl rfl)
theorem dX3_force_33 : decode cX3_force 33 = .ok (.iload_n 1, 1) := dk_27 (dk_at dksX3_force_1 9 rfl rfl)
theorem dX3_force_34 : decode cX3_force 34 = .ok (.iload_n 2, 1) := dk_28 (dk_at dksX3_force_1 10 rfl rfl)
theorem dX3_force_35 : decode cX3_force 35 = .ok (.iastore, 1) := dk_79 (dk_at dksX3_force_1 11 rfl rfl)
theorem dX3_force_36 : decode cX3_force 36 = .ok (.aload_n 0, 1) := dk_42 (dk_at dksX3_force_1 12 rfl rfl)
theorem dX3_force_37 : decode cX3_force 37 = .ok (.getfield 104, 3) := dk_180 0 104 (dk_at dksX3_force_1 13 rfl rfl)
theorem dX3_force_40 : decode cX3_force 40 = .ok (.iload_n 1, 1) := dk_27 (dk_at dksX3_force_1 16 rfl rfl)
theorem dX3_force_41 : decode cX3_force 41 = .ok (.iload_n 3, 1) := dk_29 (dk_at dksX3_force_1 17 rfl rfl)
theorem dX3_force_42 : decode cX3_force 42 = .ok (.iastore, 1) := dk_79 (dk_at dksX3_force_1 18 rfl rfl)
theorem dX3_force_43 : decode cX3_force 43 = .ok (.iconst 1, 1) := dk_4 (dk_at dksX3_force_1 19 rfl rfl)
theorem dX3_force_44 : decode cX3_force 44 = .ok (.ireturn, 1) := dk_172 (dk_at dksX3_force_1 20 rfl rfl)
abbrev cX3_isLaw : ByteArray := prog_19_method_66_code
def yX3_isLaw : MethodName := ⟨RX3, "isLaw", "(I)Z"⟩
def dkwX3_isLaw_0 : List UInt8 := [27, 133, 9, 42, 180, 1, 46, 4, 100, 133, 184, 0, 160, 172]
abbrev dktX3_isLaw_0 : List UInt8 := dkwX3_isLaw_0 ++ []
theorem dksX3_isLaw_0 : cX3_isLaw.data.toList.drop 0 = dktX3_isLaw_0 := by decide +kernel
theorem dX3_isLaw_0 : decode cX3_isLaw 0 = .ok (.iload_n 1, 1) := dk_27 (dk_at dksX3_isLaw_0 0 rfl rfl)
theorem dX3_isLaw_1 : decode cX3_isLaw 1 = .ok (.i2l, 1) := dk_133 (dk_at dksX3_isLaw_0 1 rfl rfl)
theorem dX3_isLaw_2 : decode cX3_isLaw 2 = .ok (.lconst 0, 1) := dk_9 (dk_at dksX3_isLaw_0 2 rfl rfl)
theorem dX3_isLaw_3 : decode cX3_isLaw 3 = .ok (.aload_n 0, 1) := dk_42 (dk_at dksX3_isLaw_0 3 rfl rfl)
theorem dX3_isLaw_4 : decode cX3_isLaw 4 = .ok (.getfield 302, 3) := dk_180 1 46 (dk_at dksX3_isLaw_0 4 rfl rfl)
theorem dX3_isLaw_7 : decode cX3_isLaw 7 = .ok (.iconst 1, 1) := dk_4 (dk_at dksX3_isLaw_0 7 rfl rfl)
theorem dX3_isLaw_8 : decode cX3_isLaw 8 = .ok (.isub, 1) := dk_100 (dk_at dksX3_isLaw_0 8 rfl rfl)
theorem dX3_isLaw_9 : decode cX3_isLaw 9 = .ok (.i2l, 1) := dk_133 (dk_at dksX3_isLaw_0 9 rfl rfl)
theorem dX3_isLaw_10 : decode cX3_isLaw 10 = .ok (.invokestatic 160, 3) := dk_184 0 160 (dk_at dksX3_isLaw_0 10 rfl rfl)
theorem dX3_isLaw_13 : decode cX3_isLaw 13 = .ok (.ireturn, 1) := dk_172 (dk_at dksX3_isLaw_0 13 rfl rfl)
abbrev cX3_isDay : ByteArray := prog_19_method_67_code
def yX3_isDay : MethodName := ⟨RX3, "isDay", "(I)Z"⟩
def dkwX3_isDay_0 : List UInt8 := [26, 133, 9, 20, 1, 81, 184, 0, 160, 172]
abbrev dktX3_isDay_0 : List UInt8 := dkwX3_isDay_0 ++ []
theorem dksX3_isDay_0 : cX3_isDay.data.toList.drop 0 = dktX3_isDay_0 := by decide +kernel
theorem dX3_isDay_0 : decode cX3_isDay 0 = .ok (.iload_n 0, 1) := dk_26 (dk_at dksX3_isDay_0 0 rfl rfl)
theorem dX3_isDay_1 : decode cX3_isDay 1 = .ok (.i2l, 1) := dk_133 (dk_at dksX3_isDay_0 1 rfl rfl)
theorem dX3_isDay_2 : decode cX3_isDay 2 = .ok (.lconst 0, 1) := dk_9 (dk_at dksX3_isDay_0 2 rfl rfl)
theorem dX3_isDay_3 : decode cX3_isDay 3 = .ok (.ldc2_w 337, 3) := dk_20 1 81 (dk_at dksX3_isDay_0 3 rfl rfl)
theorem dX3_isDay_6 : decode cX3_isDay 6 = .ok (.invokestatic 160, 3) := dk_184 0 160 (dk_at dksX3_isDay_0 6 rfl rfl)
theorem dX3_isDay_9 : decode cX3_isDay 9 = .ok (.ireturn, 1) := dk_172 (dk_at dksX3_isDay_0 9 rfl rfl)
abbrev cX3_strike : ByteArray := prog_19_method_69_code
def yX3_strike : MethodName := ⟨RX3, "strike", "(II)I"⟩
def dkwX3_strike_1 : List UInt8 := [17, 1, 161, 162, 0, 6, 16, 254, 172, 42, 180, 0, 107, 27, 28, 79, 4, 172]
abbrev dktX3_strike_1 : List UInt8 := dkwX3_strike_1 ++ []
def dkwX3_strike_0 : List UInt8 := [42, 27, 182, 1, 83, 153, 0, 10, 28, 184, 1, 86, 154, 0, 5, 2, 172, 42, 180, 0, 107, 27, 46]
abbrev dktX3_strike_0 : List UInt8 := dkwX3_strike_0 ++ dktX3_strike_1
theorem dksX3_strike_0 : cX3_strike.data.toList.drop 0 = dktX3_strike_0 := by decide +kernel
theorem dksX3_strike_1 : cX3_strike.data.toList.drop 23 = dktX3_strike_1 := dk_seg dksX3_strike_0 23 rfl rfl
theorem dX3_strike_0 : decode cX3_strike 0 = .ok (.aload_n 0, 1) := dk_42 (dk_at dksX3_strike_0 0 rfl rfl)
theorem dX3_strike_1 : decode cX3_strike 1 = .ok (.iload_n 1, 1) := dk_27 (dk_at dksX3_strike_0 1 rfl rfl)
theorem dX3_strike_2 : decode cX3_strike 2 = .ok (.invokevirtual 339, 3) := dk_182 1 83 (dk_at dksX3_strike_0 2 rfl rfl)
theorem dX3_strike_5 : decode cX3_strike 5 = .ok (.ifCond .eq 10, 3) := dk_153 0 10 (dk_at dksX3_strike_0 5 rfl rfl)
theorem dX3_strike_8 : decode cX3_strike 8 = .ok (.iload_n 2, 1) := dk_28 (dk_at dksX3_strike_0 8 rfl rfl)
theorem dX3_strike_9 : decode cX3_strike 9 = .ok (.invokestatic 342, 3) := dk_184 1 86 (dk_at dksX3_strike_0 9 rfl rfl)
theorem dX3_strike_12 : decode cX3_strike 12 = .ok (.ifCond .ne 5, 3) := dk_154 0 5 (dk_at dksX3_strike_0 12 rfl rfl)
theorem dX3_strike_15 : decode cX3_strike 15 = .ok (.iconst (-1), 1) := dk_2 (dk_at dksX3_strike_0 15 rfl rfl)
theorem dX3_strike_16 : decode cX3_strike 16 = .ok (.ireturn, 1) := dk_172 (dk_at dksX3_strike_0 16 rfl rfl)
theorem dX3_strike_17 : decode cX3_strike 17 = .ok (.aload_n 0, 1) := dk_42 (dk_at dksX3_strike_0 17 rfl rfl)
theorem dX3_strike_18 : decode cX3_strike 18 = .ok (.getfield 107, 3) := dk_180 0 107 (dk_at dksX3_strike_0 18 rfl rfl)
theorem dX3_strike_21 : decode cX3_strike 21 = .ok (.iload_n 1, 1) := dk_27 (dk_at dksX3_strike_0 21 rfl rfl)
theorem dX3_strike_22 : decode cX3_strike 22 = .ok (.iaload, 1) := dk_46 (dk_at dksX3_strike_0 22 rfl rfl)
theorem dX3_strike_23 : decode cX3_strike 23 = .ok (.sipush 417, 3) := dk_17 1 161 (dk_at dksX3_strike_1 0 rfl rfl)
theorem dX3_strike_26 : decode cX3_strike 26 = .ok (.if_icmp .ge 6, 3) := dk_162 0 6 (dk_at dksX3_strike_1 3 rfl rfl)
theorem dX3_strike_29 : decode cX3_strike 29 = .ok (.bipush (-2), 2) := dk_16 254 (dk_at dksX3_strike_1 6 rfl rfl)
theorem dX3_strike_31 : decode cX3_strike 31 = .ok (.ireturn, 1) := dk_172 (dk_at dksX3_strike_1 8 rfl rfl)
theorem dX3_strike_32 : decode cX3_strike 32 = .ok (.aload_n 0, 1) := dk_42 (dk_at dksX3_strike_1 9 rfl rfl)
theorem dX3_strike_33 : decode cX3_strike 33 = .ok (.getfield 107, 3) := dk_180 0 107 (dk_at dksX3_strike_1 10 rfl rfl)
theorem dX3_strike_36 : decode cX3_strike 36 = .ok (.iload_n 1, 1) := dk_27 (dk_at dksX3_strike_1 13 rfl rfl)
theorem dX3_strike_37 : decode cX3_strike 37 = .ok (.iload_n 2, 1) := dk_28 (dk_at dksX3_strike_1 14 rfl rfl)
theorem dX3_strike_38 : decode cX3_strike 38 = .ok (.iastore, 1) := dk_79 (dk_at dksX3_strike_1 15 rfl rfl)
theorem dX3_strike_39 : decode cX3_strike 39 = .ok (.iconst 1, 1) := dk_4 (dk_at dksX3_strike_1 16 rfl rfl)
theorem dX3_strike_40 : decode cX3_strike 40 = .ok (.ireturn, 1) := dk_172 (dk_at dksX3_strike_1 17 rfl rfl)
abbrev cX3_why : ByteArray := prog_19_method_74_code
def yX3_why : MethodName := ⟨RX3, "why", "(IIII)I"⟩
def dkwX3_why_2 : List UInt8 := [167, 0, 4, 2, 172]
abbrev dktX3_why_2 : List UInt8 := dkwX3_why_2 ++ []
def dkwX3_why_1 : List UInt8 := [182, 0, 176, 153, 0, 23, 21, 4, 184, 1, 86, 153, 0, 15, 42, 27, 28, 29, 21, 4, 182, 1, 21]
abbrev dktX3_why_1 : List UInt8 := dkwX3_why_1 ++ dktX3_why_2
def dkwX3_why_0 : List UInt8 := [27, 133, 9, 20, 1, 99, 184, 0, 160, 153, 0, 39, 42, 28, 182, 0, 235, 153, 0, 31, 42, 29]
abbrev dktX3_why_0 : List UInt8 := dkwX3_why_0 ++ dktX3_why_1
theorem dksX3_why_0 : cX3_why.data.toList.drop 0 = dktX3_why_0 := by decide +kernel
theorem dksX3_why_1 : cX3_why.data.toList.drop 22 = dktX3_why_1 := dk_seg dksX3_why_0 22 rfl rfl
theorem dksX3_why_2 : cX3_why.data.toList.drop 45 = dktX3_why_2 := dk_seg dksX3_why_1 23 rfl rfl
theorem dX3_why_0 : decode cX3_why 0 = .ok (.iload_n 1, 1) := dk_27 (dk_at dksX3_why_0 0 rfl rfl)
theorem dX3_why_1 : decode cX3_why 1 = .ok (.i2l, 1) := dk_133 (dk_at dksX3_why_0 1 rfl rfl)
theorem dX3_why_2 : decode cX3_why 2 = .ok (.lconst 0, 1) := dk_9 (dk_at dksX3_why_0 2 rfl rfl)
theorem dX3_why_3 : decode cX3_why 3 = .ok (.ldc2_w 355, 3) := dk_20 1 99 (dk_at dksX3_why_0 3 rfl rfl)
theorem dX3_why_6 : decode cX3_why 6 = .ok (.invokestatic 160, 3) := dk_184 0 160 (dk_at dksX3_why_0 6 rfl rfl)
theorem dX3_why_9 : decode cX3_why 9 = .ok (.ifCond .eq 39, 3) := dk_153 0 39 (dk_at dksX3_why_0 9 rfl rfl)
theorem dX3_why_12 : decode cX3_why 12 = .ok (.aload_n 0, 1) := dk_42 (dk_at dksX3_why_0 12 rfl rfl)
theorem dX3_why_13 : decode cX3_why 13 = .ok (.iload_n 2, 1) := dk_28 (dk_at dksX3_why_0 13 rfl rfl)
theorem dX3_why_14 : decode cX3_why 14 = .ok (.invokevirtual 235, 3) := dk_182 0 235 (dk_at dksX3_why_0 14 rfl rfl)
theorem dX3_why_17 : decode cX3_why 17 = .ok (.ifCond .eq 31, 3) := dk_153 0 31 (dk_at dksX3_why_0 17 rfl rfl)
theorem dX3_why_20 : decode cX3_why 20 = .ok (.aload_n 0, 1) := dk_42 (dk_at dksX3_why_0 20 rfl rfl)
theorem dX3_why_21 : decode cX3_why 21 = .ok (.iload_n 3, 1) := dk_29 (dk_at dksX3_why_0 21 rfl rfl)
theorem dX3_why_22 : decode cX3_why 22 = .ok (.invokevirtual 176, 3) := dk_182 0 176 (dk_at dksX3_why_1 0 rfl rfl)
theorem dX3_why_25 : decode cX3_why 25 = .ok (.ifCond .eq 23, 3) := dk_153 0 23 (dk_at dksX3_why_1 3 rfl rfl)
theorem dX3_why_28 : decode cX3_why 28 = .ok (.iload 4, 2) := dk_21 4 (dk_at dksX3_why_1 6 rfl rfl)
theorem dX3_why_30 : decode cX3_why 30 = .ok (.invokestatic 342, 3) := dk_184 1 86 (dk_at dksX3_why_1 8 rfl rfl)
theorem dX3_why_33 : decode cX3_why 33 = .ok (.ifCond .eq 15, 3) := dk_153 0 15 (dk_at dksX3_why_1 11 rfl rfl)
theorem dX3_why_36 : decode cX3_why 36 = .ok (.aload_n 0, 1) := dk_42 (dk_at dksX3_why_1 14 rfl rfl)
theorem dX3_why_37 : decode cX3_why 37 = .ok (.iload_n 1, 1) := dk_27 (dk_at dksX3_why_1 15 rfl rfl)
theorem dX3_why_38 : decode cX3_why 38 = .ok (.iload_n 2, 1) := dk_28 (dk_at dksX3_why_1 16 rfl rfl)
theorem dX3_why_39 : decode cX3_why 39 = .ok (.iload_n 3, 1) := dk_29 (dk_at dksX3_why_1 17 rfl rfl)
theorem dX3_why_40 : decode cX3_why 40 = .ok (.iload 4, 2) := dk_21 4 (dk_at dksX3_why_1 18 rfl rfl)
theorem dX3_why_42 : decode cX3_why 42 = .ok (.invokevirtual 277, 3) := dk_182 1 21 (dk_at dksX3_why_1 20 rfl rfl)
theorem dX3_why_45 : decode cX3_why 45 = .ok (.goto 4, 3) := dk_167 0 4 (dk_at dksX3_why_2 0 rfl rfl)
theorem dX3_why_48 : decode cX3_why 48 = .ok (.iconst (-1), 1) := dk_2 (dk_at dksX3_why_2 3 rfl rfl)
theorem dX3_why_49 : decode cX3_why 49 = .ok (.ireturn, 1) := dk_172 (dk_at dksX3_why_2 4 rfl rfl)
abbrev cX3_tonight : ByteArray := prog_19_method_77_code
def yX3_tonight : MethodName := ⟨RX3, "tonight", "(I)I"⟩
def dkwX3_tonight_8 : List UInt8 := [167, 255, 214, 21, 5, 172]
abbrev dktX3_tonight_8 : List UInt8 := dkwX3_tonight_8 ++ []
def dkwX3_tonight_7 : List UInt8 := [28, 21, 6, 182, 1, 107, 153, 0, 10, 4, 21, 6, 120, 167, 0, 4, 3, 128, 54, 5, 132, 6, 1]
abbrev dktX3_tonight_7 : List UInt8 := dkwX3_tonight_7 ++ dktX3_tonight_8
def dkwX3_tonight_6 : List UInt8 := [54, 5, 3, 54, 6, 21, 6, 42, 180, 0, 166, 162, 0, 39, 21, 5, 21, 6, 28, 159, 0, 21, 42, 29]
abbrev dktX3_tonight_6 : List UInt8 := dkwX3_tonight_6 ++ dktX3_tonight_7
def dkwX3_tonight_5 : List UInt8 := [29, 42, 21, 5, 182, 0, 248, 128, 62, 132, 5, 1, 167, 255, 172, 21, 4, 154, 0, 6, 16, 254, 172, 3]
abbrev dktX3_tonight_5 : List UInt8 := dkwX3_tonight_5 ++ dktX3_tonight_6
def dkwX3_tonight_4 : List UInt8 := [4, 167, 0, 4, 3, 54, 4, 21, 4, 153, 0, 13, 42, 180, 0, 62, 21, 5, 46, 167, 0, 4, 3, 61]
abbrev dktX3_tonight_4 : List UInt8 := dkwX3_tonight_4 ++ dktX3_tonight_5
def dkwX3_tonight_3 : List UInt8 := [42, 21, 5, 182, 0, 238, 153, 0, 22, 28, 155, 0, 14, 42, 180, 0, 62, 21, 5, 46, 28, 160, 0, 7]
abbrev dktX3_tonight_3 : List UInt8 := dkwX3_tonight_3 ++ dktX3_tonight_4
def dkwX3_tonight_2 : List UInt8 := [21, 5, 42, 180, 0, 213, 162, 0, 81, 27, 21, 5, 122, 4, 126, 4, 160, 0, 65, 21, 4, 153, 0, 31]
abbrev dktX3_tonight_2 : List UInt8 := dkwX3_tonight_2 ++ dktX3_tonight_3
def dkwX3_tonight_1 : List UInt8 := [153, 0, 17, 42, 180, 0, 190, 184, 1, 101, 153, 0, 7, 4, 167, 0, 4, 3, 54, 4, 3, 54, 5]
abbrev dktX3_tonight_1 : List UInt8 := dkwX3_tonight_1 ++ dktX3_tonight_2
def dkwX3_tonight_0 : List UInt8 := [42, 27, 182, 1, 15, 153, 0, 7, 27, 154, 0, 5, 2, 172, 2, 61, 3, 62, 42, 27, 182, 1, 104]
abbrev dktX3_tonight_0 : List UInt8 := dkwX3_tonight_0 ++ dktX3_tonight_1
theorem dksX3_tonight_0 : cX3_tonight.data.toList.drop 0 = dktX3_tonight_0 := by decide +kernel
theorem dksX3_tonight_1 : cX3_tonight.data.toList.drop 23 = dktX3_tonight_1 := dk_seg dksX3_tonight_0 23 rfl rfl
theorem dksX3_tonight_2 : cX3_tonight.data.toList.drop 46 = dktX3_tonight_2 := dk_seg dksX3_tonight_1 23 rfl rfl
theorem dksX3_tonight_3 : cX3_tonight.data.toList.drop 70 = dktX3_tonight_3 := dk_seg dksX3_tonight_2 24 rfl rfl
theorem dksX3_tonight_4 : cX3_tonight.data.toList.drop 94 = dktX3_tonight_4 := dk_seg dksX3_tonight_3 24 rfl rfl
theorem dksX3_tonight_5 : cX3_tonight.data.toList.drop 118 = dktX3_tonight_5 := dk_seg dksX3_tonight_4 24 rfl rfl
theorem dksX3_tonight_6 : cX3_tonight.data.toList.drop 142 = dktX3_tonight_6 := dk_seg dksX3_tonight_5 24 rfl rfl
theorem dksX3_tonight_7 : cX3_tonight.data.toList.drop 166 = dktX3_tonight_7 := dk_seg dksX3_tonight_6 24 rfl rfl
theorem dksX3_tonight_8 : cX3_tonight.data.toList.drop 189 = dktX3_tonight_8 := dk_seg dksX3_tonight_7 23 rfl rfl
theorem dX3_tonight_0 : decode cX3_tonight 0 = .ok (.aload_n 0, 1) := dk_42 (dk_at dksX3_tonight_0 0 rfl rfl)
theorem dX3_tonight_1 : decode cX3_tonight 1 = .ok (.iload_n 1, 1) := dk_27 (dk_at dksX3_tonight_0 1 rfl rfl)
theorem dX3_tonight_2 : decode cX3_tonight 2 = .ok (.invokevirtual 271, 3) := dk_182 1 15 (dk_at dksX3_tonight_0 2 rfl rfl)
theorem dX3_tonight_5 : decode cX3_tonight 5 = .ok (.ifCond .eq 7, 3) := dk_153 0 7 (dk_at dksX3_tonight_0 5 rfl rfl)
theorem dX3_tonight_8 : decode cX3_tonight 8 = .ok (.iload_n 1, 1) := dk_27 (dk_at dksX3_tonight_0 8 rfl rfl)
theorem dX3_tonight_9 : decode cX3_tonight 9 = .ok (.ifCond .ne 5, 3) := dk_154 0 5 (dk_at dksX3_tonight_0 9 rfl rfl)
theorem dX3_tonight_12 : decode cX3_tonight 12 = .ok (.iconst (-1), 1) := dk_2 (dk_at dksX3_tonight_0 12 rfl rfl)
theorem dX3_tonight_13 : decode cX3_tonight 13 = .ok (.ireturn, 1) := dk_172 (dk_at dksX3_tonight_0 13 rfl rfl)
theorem dX3_tonight_14 : decode cX3_tonight 14 = .ok (.iconst (-1), 1) := dk_2 (dk_at dksX3_tonight_0 14 rfl rfl)
theorem dX3_tonight_15 : decode cX3_tonight 15 = .ok (.istore_n 2, 1) := dk_61 (dk_at dksX3_tonight_0 15 rfl rfl)
theorem dX3_tonight_16 : decode cX3_tonight 16 = .ok (.iconst 0, 1) := dk_3 (dk_at dksX3_tonight_0 16 rfl rfl)
theorem dX3_tonight_17 : decode cX3_tonight 17 = .ok (.istore_n 3, 1) := dk_62 (dk_at dksX3_tonight_0 17 rfl rfl)
theorem dX3_tonight_18 : decode cX3_tonight 18 = .ok (.aload_n 0, 1) := dk_42 (dk_at dksX3_tonight_0 18 rfl rfl)
theorem dX3_tonight_19 : decode cX3_tonight 19 = .ok (.iload_n 1, 1) := dk_27 (dk_at dksX3_tonight_0 19 rfl rfl)
theorem dX3_tonight_20 : decode cX3_tonight 20 = .ok (.invokevirtual 360, 3) := dk_182 1 104 (dk_at dksX3_tonight_0 20 rfl rfl)
theorem dX3_tonight_23 : decode cX3_tonight 23 = .ok (.ifCond .eq 17, 3) := dk_153 0 17 (dk_at dksX3_tonight_1 0 rfl rfl)
theorem dX3_tonight_26 : decode cX3_tonight 26 = .ok (.aload_n 0, 1) := dk_42 (dk_at dksX3_tonight_1 3 rfl rfl)
theorem dX3_tonight_27 : decode cX3_tonight 27 = .ok (.getfield 190, 3) := dk_180 0 190 (dk_at dksX3_tonight_1 4 rfl rfl)
theorem dX3_tonight_30 : decode cX3_tonight 30 = .ok (.invokestatic 357, 3) := dk_184 1 101 (dk_at dksX3_tonight_1 7 rfl rfl)
theorem dX3_tonight_33 : decode cX3_tonight 33 = .ok (.ifCond .eq 7, 3) := dk_153 0 7 (dk_at dksX3_tonight_1 10 rfl rfl)
theorem dX3_tonight_36 : decode cX3_tonight 36 = .ok (.iconst 1, 1) := dk_4 (dk_at dksX3_tonight_1 13 rfl rfl)
theorem dX3_tonight_37 : decode cX3_tonight 37 = .ok (.goto 4, 3) := dk_167 0 4 (dk_at dksX3_tonight_1 14 rfl rfl)
theorem dX3_tonight_40 : decode cX3_tonight 40 = .ok (.iconst 0, 1) := dk_3 (dk_at dksX3_tonight_1 17 rfl rfl)
theorem dX3_tonight_41 : decode cX3_tonight 41 = .ok (.istore 4, 2) := dk_54 4 (dk_at dksX3_tonight_1 18 rfl rfl)
theorem dX3_tonight_43 : decode cX3_tonight 43 = .ok (.iconst 0, 1) := dk_3 (dk_at dksX3_tonight_1 20 rfl rfl)
theorem dX3_tonight_44 : decode cX3_tonight 44 = .ok (.istore 5, 2) := dk_54 5 (dk_at dksX3_tonight_1 21 rfl rfl)
theorem dX3_tonight_46 : decode cX3_tonight 46 = .ok (.iload 5, 2) := dk_21 5 (dk_at dksX3_tonight_2 0 rfl rfl)
theorem dX3_tonight_48 : decode cX3_tonight 48 = .ok (.aload_n 0, 1) := dk_42 (dk_at dksX3_tonight_2 2 rfl rfl)
theorem dX3_tonight_49 : decode cX3_tonight 49 = .ok (.getfield 213, 3) := dk_180 0 213 (dk_at dksX3_tonight_2 3 rfl rfl)
theorem dX3_tonight_52 : decode cX3_tonight 52 = .ok (.if_icmp .ge 81, 3) := dk_162 0 81 (dk_at dksX3_tonight_2 6 rfl rfl)
theorem dX3_tonight_55 : decode cX3_tonight 55 = .ok (.iload_n 1, 1) := dk_27 (dk_at dksX3_tonight_2 9 rfl rfl)
theorem dX3_tonight_56 : decode cX3_tonight 56 = .ok (.iload 5, 2) := dk_21 5 (dk_at dksX3_tonight_2 10 rfl rfl)
theorem dX3_tonight_58 : decode cX3_tonight 58 = .ok (.ishr, 1) := dk_122 (dk_at dksX3_tonight_2 12 rfl rfl)
theorem dX3_tonight_59 : decode cX3_tonight 59 = .ok (.iconst 1, 1) := dk_4 (dk_at dksX3_tonight_2 13 rfl rfl)
theorem dX3_tonight_60 : decode cX3_tonight 60 = .ok (.iand, 1) := dk_126 (dk_at dksX3_tonight_2 14 rfl rfl)
theorem dX3_tonight_61 : decode cX3_tonight 61 = .ok (.iconst 1, 1) := dk_4 (dk_at dksX3_tonight_2 15 rfl rfl)
theorem dX3_tonight_62 : decode cX3_tonight 62 = .ok (.if_icmp .ne 65, 3) := dk_160 0 65 (dk_at dksX3_tonight_2 16 rfl rfl)
theorem dX3_tonight_65 : decode cX3_tonight 65 = .ok (.iload 4, 2) := dk_21 4 (dk_at dksX3_tonight_2 19 rfl rfl)
theorem dX3_tonight_67 : decode cX3_tonight 67 = .ok (.ifCond .eq 31, 3) := dk_153 0 31 (dk_at dksX3_tonight_2 21 rfl rfl)
theorem dX3_tonight_70 : decode cX3_tonight 70 = .ok (.aload_n 0, 1) := dk_42 (dk_at dksX3_tonight_3 0 rfl rfl)
theorem dX3_tonight_71 : decode cX3_tonight 71 = .ok (.iload 5, 2) := dk_21 5 (dk_at dksX3_tonight_3 1 rfl rfl)
theorem dX3_tonight_73 : decode cX3_tonight 73 = .ok (.invokevirtual 238, 3) := dk_182 0 238 (dk_at dksX3_tonight_3 3 rfl rfl)
theorem dX3_tonight_76 : decode cX3_tonight 76 = .ok (.ifCond .eq 22, 3) := dk_153 0 22 (dk_at dksX3_tonight_3 6 rfl rfl)
theorem dX3_tonight_79 : decode cX3_tonight 79 = .ok (.iload_n 2, 1) := dk_28 (dk_at dksX3_tonight_3 9 rfl rfl)
theorem dX3_tonight_80 : decode cX3_tonight 80 = .ok (.ifCond .lt 14, 3) := dk_155 0 14 (dk_at dksX3_tonight_3 10 rfl rfl)
theorem dX3_tonight_83 : decode cX3_tonight 83 = .ok (.aload_n 0, 1) := dk_42 (dk_at dksX3_tonight_3 13 rfl rfl)
theorem dX3_tonight_84 : decode cX3_tonight 84 = .ok (.getfield 62, 3) := dk_180 0 62 (dk_at dksX3_tonight_3 14 rfl rfl)
theorem dX3_tonight_87 : decode cX3_tonight 87 = .ok (.iload 5, 2) := dk_21 5 (dk_at dksX3_tonight_3 17 rfl rfl)
theorem dX3_tonight_89 : decode cX3_tonight 89 = .ok (.iaload, 1) := dk_46 (dk_at dksX3_tonight_3 19 rfl rfl)
theorem dX3_tonight_90 : decode cX3_tonight 90 = .ok (.iload_n 2, 1) := dk_28 (dk_at dksX3_tonight_3 20 rfl rfl)
theorem dX3_tonight_91 : decode cX3_tonight 91 = .ok (.if_icmp .ne 7, 3) := dk_160 0 7 (dk_at dksX3_tonight_3 21 rfl rfl)
theorem dX3_tonight_94 : decode cX3_tonight 94 = .ok (.iconst 1, 1) := dk_4 (dk_at dksX3_tonight_4 0 rfl rfl)
theorem dX3_tonight_95 : decode cX3_tonight 95 = .ok (.goto 4, 3) := dk_167 0 4 (dk_at dksX3_tonight_4 1 rfl rfl)
theorem dX3_tonight_98 : decode cX3_tonight 98 = .ok (.iconst 0, 1) := dk_3 (dk_at dksX3_tonight_4 4 rfl rfl)
theorem dX3_tonight_99 : decode cX3_tonight 99 = .ok (.istore 4, 2) := dk_54 4 (dk_at dksX3_tonight_4 5 rfl rfl)
theorem dX3_tonight_101 : decode cX3_tonight 101 = .ok (.iload 4, 2) := dk_21 4 (dk_at dksX3_tonight_4 7 rfl rfl)
theorem dX3_tonight_103 : decode cX3_tonight 103 = .ok (.ifCond .eq 13, 3) := dk_153 0 13 (dk_at dksX3_tonight_4 9 rfl rfl)
theorem dX3_tonight_106 : decode cX3_tonight 106 = .ok (.aload_n 0, 1) := dk_42 (dk_at dksX3_tonight_4 12 rfl rfl)
theorem dX3_tonight_107 : decode cX3_tonight 107 = .ok (.getfield 62, 3) := dk_180 0 62 (dk_at dksX3_tonight_4 13 rfl rfl)
theorem dX3_tonight_110 : decode cX3_tonight 110 = .ok (.iload 5, 2) := dk_21 5 (dk_at dksX3_tonight_4 16 rfl rfl)
theorem dX3_tonight_112 : decode cX3_tonight 112 = .ok (.iaload, 1) := dk_46 (dk_at dksX3_tonight_4 18 rfl rfl)
theorem dX3_tonight_113 : decode cX3_tonight 113 = .ok (.goto 4, 3) := dk_167 0 4 (dk_at dksX3_tonight_4 19 rfl rfl)
theorem dX3_tonight_116 : decode cX3_tonight 116 = .ok (.iconst 0, 1) := dk_3 (dk_at dksX3_tonight_4 22 rfl rfl)
theorem dX3_tonight_117 : decode cX3_tonight 117 = .ok (.istore_n 2, 1) := dk_61 (dk_at dksX3_tonight_4 23 rfl rfl)
theorem dX3_tonight_118 : decode cX3_tonight 118 = .ok (.iload_n 3, 1) := dk_29 (dk_at dksX3_tonight_5 0 rfl rfl)
theorem dX3_tonight_119 : decode cX3_tonight 119 = .ok (.aload_n 0, 1) := dk_42 (dk_at dksX3_tonight_5 1 rfl rfl)
theorem dX3_tonight_120 : decode cX3_tonight 120 = .ok (.iload 5, 2) := dk_21 5 (dk_at dksX3_tonight_5 2 rfl rfl)
theorem dX3_tonight_122 : decode cX3_tonight 122 = .ok (.invokevirtual 248, 3) := dk_182 0 248 (dk_at dksX3_tonight_5 4 rfl rfl)
theorem dX3_tonight_125 : decode cX3_tonight 125 = .ok (.ior, 1) := dk_128 (dk_at dksX3_tonight_5 7 rfl rfl)
theorem dX3_tonight_126 : decode cX3_tonight 126 = .ok (.istore_n 3, 1) := dk_62 (dk_at dksX3_tonight_5 8 rfl rfl)
theorem dX3_tonight_127 : decode cX3_tonight 127 = .ok (.iinc 5 1, 3) := dk_132 5 1 (dk_at dksX3_tonight_5 9 rfl rfl)
theorem dX3_tonight_130 : decode cX3_tonight 130 = .ok (.goto (-84), 3) := dk_167 255 172 (dk_at dksX3_tonight_5 12 rfl rfl)
theorem dX3_tonight_133 : decode cX3_tonight 133 = .ok (.iload 4, 2) := dk_21 4 (dk_at dksX3_tonight_5 15 rfl rfl)
theorem dX3_tonight_135 : decode cX3_tonight 135 = .ok (.ifCond .ne 6, 3) := dk_154 0 6 (dk_at dksX3_tonight_5 17 rfl rfl)
theorem dX3_tonight_138 : decode cX3_tonight 138 = .ok (.bipush (-2), 2) := dk_16 254 (dk_at dksX3_tonight_5 20 rfl rfl)
theorem dX3_tonight_140 : decode cX3_tonight 140 = .ok (.ireturn, 1) := dk_172 (dk_at dksX3_tonight_5 22 rfl rfl)
theorem dX3_tonight_141 : decode cX3_tonight 141 = .ok (.iconst 0, 1) := dk_3 (dk_at dksX3_tonight_5 23 rfl rfl)
theorem dX3_tonight_142 : decode cX3_tonight 142 = .ok (.istore 5, 2) := dk_54 5 (dk_at dksX3_tonight_6 0 rfl rfl)
theorem dX3_tonight_144 : decode cX3_tonight 144 = .ok (.iconst 0, 1) := dk_3 (dk_at dksX3_tonight_6 2 rfl rfl)
theorem dX3_tonight_145 : decode cX3_tonight 145 = .ok (.istore 6, 2) := dk_54 6 (dk_at dksX3_tonight_6 3 rfl rfl)
theorem dX3_tonight_147 : decode cX3_tonight 147 = .ok (.iload 6, 2) := dk_21 6 (dk_at dksX3_tonight_6 5 rfl rfl)
theorem dX3_tonight_149 : decode cX3_tonight 149 = .ok (.aload_n 0, 1) := dk_42 (dk_at dksX3_tonight_6 7 rfl rfl)
theorem dX3_tonight_150 : decode cX3_tonight 150 = .ok (.getfield 166, 3) := dk_180 0 166 (dk_at dksX3_tonight_6 8 rfl rfl)
theorem dX3_tonight_153 : decode cX3_tonight 153 = .ok (.if_icmp .ge 39, 3) := dk_162 0 39 (dk_at dksX3_tonight_6 11 rfl rfl)
theorem dX3_tonight_156 : decode cX3_tonight 156 = .ok (.iload 5, 2) := dk_21 5 (dk_at dksX3_tonight_6 14 rfl rfl)
theorem dX3_tonight_158 : decode cX3_tonight 158 = .ok (.iload 6, 2) := dk_21 6 (dk_at dksX3_tonight_6 16 rfl rfl)
theorem dX3_tonight_160 : decode cX3_tonight 160 = .ok (.iload_n 2, 1) := dk_28 (dk_at dksX3_tonight_6 18 rfl rfl)
theorem dX3_tonight_161 : decode cX3_tonight 161 = .ok (.if_icmp .eq 21, 3) := dk_159 0 21 (dk_at dksX3_tonight_6 19 rfl rfl)
theorem dX3_tonight_164 : decode cX3_tonight 164 = .ok (.aload_n 0, 1) := dk_42 (dk_at dksX3_tonight_6 22 rfl rfl)
theorem dX3_tonight_165 : decode cX3_tonight 165 = .ok (.iload_n 3, 1) := dk_29 (dk_at dksX3_tonight_6 23 rfl rfl)
theorem dX3_tonight_166 : decode cX3_tonight 166 = .ok (.iload_n 2, 1) := dk_28 (dk_at dksX3_tonight_7 0 rfl rfl)
theorem dX3_tonight_167 : decode cX3_tonight 167 = .ok (.iload 6, 2) := dk_21 6 (dk_at dksX3_tonight_7 1 rfl rfl)
theorem dX3_tonight_169 : decode cX3_tonight 169 = .ok (.invokevirtual 363, 3) := dk_182 1 107 (dk_at dksX3_tonight_7 3 rfl rfl)
theorem dX3_tonight_172 : decode cX3_tonight 172 = .ok (.ifCond .eq 10, 3) := dk_153 0 10 (dk_at dksX3_tonight_7 6 rfl rfl)
theorem dX3_tonight_175 : decode cX3_tonight 175 = .ok (.iconst 1, 1) := dk_4 (dk_at dksX3_tonight_7 9 rfl rfl)
theorem dX3_tonight_176 : decode cX3_tonight 176 = .ok (.iload 6, 2) := dk_21 6 (dk_at dksX3_tonight_7 10 rfl rfl)
theorem dX3_tonight_178 : decode cX3_tonight 178 = .ok (.ishl, 1) := dk_120 (dk_at dksX3_tonight_7 12 rfl rfl)
theorem dX3_tonight_179 : decode cX3_tonight 179 = .ok (.goto 4, 3) := dk_167 0 4 (dk_at dksX3_tonight_7 13 rfl rfl)
theorem dX3_tonight_182 : decode cX3_tonight 182 = .ok (.iconst 0, 1) := dk_3 (dk_at dksX3_tonight_7 16 rfl rfl)
theorem dX3_tonight_183 : decode cX3_tonight 183 = .ok (.ior, 1) := dk_128 (dk_at dksX3_tonight_7 17 rfl rfl)
theorem dX3_tonight_184 : decode cX3_tonight 184 = .ok (.istore 5, 2) := dk_54 5 (dk_at dksX3_tonight_7 18 rfl rfl)
theorem dX3_tonight_186 : decode cX3_tonight 186 = .ok (.iinc 6 1, 3) := dk_132 6 1 (dk_at dksX3_tonight_7 20 rfl rfl)
theorem dX3_tonight_189 : decode cX3_tonight 189 = .ok (.goto (-42), 3) := dk_167 255 214 (dk_at dksX3_tonight_8 0 rfl rfl)
theorem dX3_tonight_192 : decode cX3_tonight 192 = .ok (.iload 5, 2) := dk_21 5 (dk_at dksX3_tonight_8 3 rfl rfl)
theorem dX3_tonight_194 : decode cX3_tonight 194 = .ok (.ireturn, 1) := dk_172 (dk_at dksX3_tonight_8 5 rfl rfl)
abbrev cX3_areWhole : ByteArray := prog_19_method_75_code
def yX3_areWhole : MethodName := ⟨RX3, "areWhole", "(I)Z"⟩
def dkwX3_areWhole_2 : List UInt8 := [167, 0, 4, 3, 61, 132, 3, 1, 167, 255, 204, 28, 172]
abbrev dktX3_areWhole_2 : List UInt8 := dkwX3_areWhole_2 ++ []
def dkwX3_areWhole_1 : List UInt8 := [42, 180, 0, 59, 29, 46, 155, 0, 17, 27, 42, 180, 0, 59, 29, 46, 122, 4, 126, 4, 160, 0, 7, 4]
abbrev dktX3_areWhole_1 : List UInt8 := dkwX3_areWhole_1 ++ dktX3_areWhole_2
def dkwX3_areWhole_0 : List UInt8 := [4, 61, 3, 62, 29, 42, 180, 0, 213, 162, 0, 50, 28, 153, 0, 38, 27, 29, 122, 4, 126, 153, 0, 26]
abbrev dktX3_areWhole_0 : List UInt8 := dkwX3_areWhole_0 ++ dktX3_areWhole_1
theorem dksX3_areWhole_0 : cX3_areWhole.data.toList.drop 0 = dktX3_areWhole_0 := by decide +kernel
theorem dksX3_areWhole_1 : cX3_areWhole.data.toList.drop 24 = dktX3_areWhole_1 := dk_seg dksX3_areWhole_0 24 rfl rfl
theorem dksX3_areWhole_2 : cX3_areWhole.data.toList.drop 48 = dktX3_areWhole_2 := dk_seg dksX3_areWhole_1 24 rfl rfl
theorem dX3_areWhole_0 : decode cX3_areWhole 0 = .ok (.iconst 1, 1) := dk_4 (dk_at dksX3_areWhole_0 0 rfl rfl)
theorem dX3_areWhole_1 : decode cX3_areWhole 1 = .ok (.istore_n 2, 1) := dk_61 (dk_at dksX3_areWhole_0 1 rfl rfl)
theorem dX3_areWhole_2 : decode cX3_areWhole 2 = .ok (.iconst 0, 1) := dk_3 (dk_at dksX3_areWhole_0 2 rfl rfl)
theorem dX3_areWhole_3 : decode cX3_areWhole 3 = .ok (.istore_n 3, 1) := dk_62 (dk_at dksX3_areWhole_0 3 rfl rfl)
theorem dX3_areWhole_4 : decode cX3_areWhole 4 = .ok (.iload_n 3, 1) := dk_29 (dk_at dksX3_areWhole_0 4 rfl rfl)
theorem dX3_areWhole_5 : decode cX3_areWhole 5 = .ok (.aload_n 0, 1) := dk_42 (dk_at dksX3_areWhole_0 5 rfl rfl)
theorem dX3_areWhole_6 : decode cX3_areWhole 6 = .ok (.getfield 213, 3) := dk_180 0 213 (dk_at dksX3_areWhole_0 6 rfl rfl)
theorem dX3_areWhole_9 : decode cX3_areWhole 9 = .ok (.if_icmp .ge 50, 3) := dk_162 0 50 (dk_at dksX3_areWhole_0 9 rfl rfl)
theorem dX3_areWhole_12 : decode cX3_areWhole 12 = .ok (.iload_n 2, 1) := dk_28 (dk_at dksX3_areWhole_0 12 rfl rfl)
theorem dX3_areWhole_13 : decode cX3_areWhole 13 = .ok (.ifCond .eq 38, 3) := dk_153 0 38 (dk_at dksX3_areWhole_0 13 rfl rfl)
theorem dX3_areWhole_16 : decode cX3_areWhole 16 = .ok (.iload_n 1, 1) := dk_27 (dk_at dksX3_areWhole_0 16 rfl rfl)
theorem dX3_areWhole_17 : decode cX3_areWhole 17 = .ok (.iload_n 3, 1) := dk_29 (dk_at dksX3_areWhole_0 17 rfl rfl)
theorem dX3_areWhole_18 : decode cX3_areWhole 18 = .ok (.ishr, 1) := dk_122 (dk_at dksX3_areWhole_0 18 rfl rfl)
theorem dX3_areWhole_19 : decode cX3_areWhole 19 = .ok (.iconst 1, 1) := dk_4 (dk_at dksX3_areWhole_0 19 rfl rfl)
theorem dX3_areWhole_20 : decode cX3_areWhole 20 = .ok (.iand, 1) := dk_126 (dk_at dksX3_areWhole_0 20 rfl rfl)
theorem dX3_areWhole_21 : decode cX3_areWhole 21 = .ok (.ifCond .eq 26, 3) := dk_153 0 26 (dk_at dksX3_areWhole_0 21 rfl rfl)
theorem dX3_areWhole_24 : decode cX3_areWhole 24 = .ok (.aload_n 0, 1) := dk_42 (dk_at dksX3_areWhole_1 0 rfl rfl)
theorem dX3_areWhole_25 : decode cX3_areWhole 25 = .ok (.getfield 59, 3) := dk_180 0 59 (dk_at dksX3_areWhole_1 1 rfl rfl)
theorem dX3_areWhole_28 : decode cX3_areWhole 28 = .ok (.iload_n 3, 1) := dk_29 (dk_at dksX3_areWhole_1 4 rfl rfl)
theorem dX3_areWhole_29 : decode cX3_areWhole 29 = .ok (.iaload, 1) := dk_46 (dk_at dksX3_areWhole_1 5 rfl rfl)
theorem dX3_areWhole_30 : decode cX3_areWhole 30 = .ok (.ifCond .lt 17, 3) := dk_155 0 17 (dk_at dksX3_areWhole_1 6 rfl rfl)
theorem dX3_areWhole_33 : decode cX3_areWhole 33 = .ok (.iload_n 1, 1) := dk_27 (dk_at dksX3_areWhole_1 9 rfl rfl)
theorem dX3_areWhole_34 : decode cX3_areWhole 34 = .ok (.aload_n 0, 1) := dk_42 (dk_at dksX3_areWhole_1 10 rfl rfl)
theorem dX3_areWhole_35 : decode cX3_areWhole 35 = .ok (.getfield 59, 3) := dk_180 0 59 (dk_at dksX3_areWhole_1 11 rfl rfl)
theorem dX3_areWhole_38 : decode cX3_areWhole 38 = .ok (.iload_n 3, 1) := dk_29 (dk_at dksX3_areWhole_1 14 rfl rfl)
theorem dX3_areWhole_39 : decode cX3_areWhole 39 = .ok (.iaload, 1) := dk_46 (dk_at dksX3_areWhole_1 15 rfl rfl)
theorem dX3_areWhole_40 : decode cX3_areWhole 40 = .ok (.ishr, 1) := dk_122 (dk_at dksX3_areWhole_1 16 rfl rfl)
theorem dX3_areWhole_41 : decode cX3_areWhole 41 = .ok (.iconst 1, 1) := dk_4 (dk_at dksX3_areWhole_1 17 rfl rfl)
theorem dX3_areWhole_42 : decode cX3_areWhole 42 = .ok (.iand, 1) := dk_126 (dk_at dksX3_areWhole_1 18 rfl rfl)
theorem dX3_areWhole_43 : decode cX3_areWhole 43 = .ok (.iconst 1, 1) := dk_4 (dk_at dksX3_areWhole_1 19 rfl rfl)
theorem dX3_areWhole_44 : decode cX3_areWhole 44 = .ok (.if_icmp .ne 7, 3) := dk_160 0 7 (dk_at dksX3_areWhole_1 20 rfl rfl)
theorem dX3_areWhole_47 : decode cX3_areWhole 47 = .ok (.iconst 1, 1) := dk_4 (dk_at dksX3_areWhole_1 23 rfl rfl)
theorem dX3_areWhole_48 : decode cX3_areWhole 48 = .ok (.goto 4, 3) := dk_167 0 4 (dk_at dksX3_areWhole_2 0 rfl rfl)
theorem dX3_areWhole_51 : decode cX3_areWhole 51 = .ok (.iconst 0, 1) := dk_3 (dk_at dksX3_areWhole_2 3 rfl rfl)
theorem dX3_areWhole_52 : decode cX3_areWhole 52 = .ok (.istore_n 2, 1) := dk_61 (dk_at dksX3_areWhole_2 4 rfl rfl)
theorem dX3_areWhole_53 : decode cX3_areWhole 53 = .ok (.iinc 3 1, 3) := dk_132 3 1 (dk_at dksX3_areWhole_2 5 rfl rfl)
theorem dX3_areWhole_56 : decode cX3_areWhole 56 = .ok (.goto (-52), 3) := dk_167 255 204 (dk_at dksX3_areWhole_2 8 rfl rfl)
theorem dX3_areWhole_59 : decode cX3_areWhole 59 = .ok (.iload_n 2, 1) := dk_28 (dk_at dksX3_areWhole_2 11 rfl rfl)
theorem dX3_areWhole_60 : decode cX3_areWhole 60 = .ok (.ireturn, 1) := dk_172 (dk_at dksX3_areWhole_2 12 rfl rfl)
abbrev cX3_isDark : ByteArray := prog_19_method_4_code
def yX3_isDark : MethodName := ⟨RX3, "isDark", "(I)Z"⟩
def dkwX3_isDark_0 : List UInt8 := [26, 16, 24, 112, 16, 20, 162, 0, 11, 26, 16, 24, 112, 8, 163, 0, 7, 4, 167, 0, 4, 3, 172]
abbrev dktX3_isDark_0 : List UInt8 := dkwX3_isDark_0 ++ []
theorem dksX3_isDark_0 : cX3_isDark.data.toList.drop 0 = dktX3_isDark_0 := by decide +kernel
theorem dX3_isDark_0 : decode cX3_isDark 0 = .ok (.iload_n 0, 1) := dk_26 (dk_at dksX3_isDark_0 0 rfl rfl)
theorem dX3_isDark_1 : decode cX3_isDark 1 = .ok (.bipush 24, 2) := dk_16 24 (dk_at dksX3_isDark_0 1 rfl rfl)
theorem dX3_isDark_3 : decode cX3_isDark 3 = .ok (.irem, 1) := dk_112 (dk_at dksX3_isDark_0 3 rfl rfl)
theorem dX3_isDark_4 : decode cX3_isDark 4 = .ok (.bipush 20, 2) := dk_16 20 (dk_at dksX3_isDark_0 4 rfl rfl)
theorem dX3_isDark_6 : decode cX3_isDark 6 = .ok (.if_icmp .ge 11, 3) := dk_162 0 11 (dk_at dksX3_isDark_0 6 rfl rfl)
theorem dX3_isDark_9 : decode cX3_isDark 9 = .ok (.iload_n 0, 1) := dk_26 (dk_at dksX3_isDark_0 9 rfl rfl)
theorem dX3_isDark_10 : decode cX3_isDark 10 = .ok (.bipush 24, 2) := dk_16 24 (dk_at dksX3_isDark_0 10 rfl rfl)
theorem dX3_isDark_12 : decode cX3_isDark 12 = .ok (.irem, 1) := dk_112 (dk_at dksX3_isDark_0 12 rfl rfl)
theorem dX3_isDark_13 : decode cX3_isDark 13 = .ok (.iconst 5, 1) := dk_8 (dk_at dksX3_isDark_0 13 rfl rfl)
theorem dX3_isDark_14 : decode cX3_isDark 14 = .ok (.if_icmp .gt 7, 3) := dk_163 0 7 (dk_at dksX3_isDark_0 14 rfl rfl)
theorem dX3_isDark_17 : decode cX3_isDark 17 = .ok (.iconst 1, 1) := dk_4 (dk_at dksX3_isDark_0 17 rfl rfl)
theorem dX3_isDark_18 : decode cX3_isDark 18 = .ok (.goto 4, 3) := dk_167 0 4 (dk_at dksX3_isDark_0 18 rfl rfl)
theorem dX3_isDark_21 : decode cX3_isDark 21 = .ok (.iconst 0, 1) := dk_3 (dk_at dksX3_isDark_0 21 rfl rfl)
theorem dX3_isDark_22 : decode cX3_isDark 22 = .ok (.ireturn, 1) := dk_172 (dk_at dksX3_isDark_0 22 rfl rfl)
abbrev cX3_isRoad : ByteArray := prog_19_method_76_code
def yX3_isRoad : MethodName := ⟨RX3, "isRoad", "(III)Z"⟩
def dkwX3_isRoad_8 : List UInt8 := [21, 4, 172]
abbrev dktX3_isRoad_8 : List UInt8 := dkwX3_isRoad_8 ++ []
def dkwX3_isRoad_7 : List UInt8 := [21, 4, 153, 0, 16, 21, 7, 184, 1, 101, 54, 4, 132, 7, 1, 167, 255, 234, 132, 5, 1, 167, 255, 142]
abbrev dktX3_isRoad_7 : List UInt8 := dkwX3_isRoad_7 ++ dktX3_isRoad_8
def dkwX3_isRoad_6 : List UInt8 := [155, 0, 7, 4, 167, 0, 4, 3, 54, 4, 42, 180, 0, 190, 54, 7, 21, 7, 21, 6, 163, 0, 21]
abbrev dktX3_isRoad_6 : List UInt8 := dkwX3_isRoad_6 ++ dktX3_isRoad_7
def dkwX3_isRoad_5 : List UInt8 := [54, 6, 21, 6, 155, 0, 25, 42, 4, 21, 5, 29, 42, 180, 0, 190, 16, 24, 108, 182, 1, 21]
abbrev dktX3_isRoad_5 : List UInt8 := dkwX3_isRoad_5 ++ dktX3_isRoad_6
def dkwX3_isRoad_4 : List UInt8 := [180, 0, 59, 21, 5, 46, 156, 0, 13, 42, 21, 5, 29, 182, 0, 254, 167, 0, 7, 42, 180, 0, 190]
abbrev dktX3_isRoad_4 : List UInt8 := dkwX3_isRoad_4 ++ dktX3_isRoad_5
def dkwX3_isRoad_3 : List UInt8 := [180, 0, 213, 162, 0, 111, 21, 4, 153, 0, 106, 27, 21, 5, 122, 4, 126, 4, 160, 0, 90, 42]
abbrev dktX3_isRoad_3 : List UInt8 := dkwX3_isRoad_3 ++ dktX3_isRoad_4
def dkwX3_isRoad_2 : List UInt8 := [184, 1, 1, 182, 0, 228, 153, 0, 7, 4, 167, 0, 4, 3, 54, 4, 3, 54, 5, 21, 5, 42]
abbrev dktX3_isRoad_2 : List UInt8 := dkwX3_isRoad_2 ++ dktX3_isRoad_3
def dkwX3_isRoad_1 : List UInt8 := [28, 46, 153, 0, 17, 42, 180, 0, 28, 28, 46, 29, 122, 4, 126, 4, 160, 0, 19, 42, 29, 27]
abbrev dktX3_isRoad_1 : List UInt8 := dkwX3_isRoad_1 ++ dktX3_isRoad_2
def dkwX3_isRoad_0 : List UInt8 := [42, 29, 182, 0, 184, 153, 0, 54, 42, 29, 42, 180, 0, 190, 182, 0, 193, 153, 0, 42, 42, 180, 0, 7]
abbrev dktX3_isRoad_0 : List UInt8 := dkwX3_isRoad_0 ++ dktX3_isRoad_1
theorem dksX3_isRoad_0 : cX3_isRoad.data.toList.drop 0 = dktX3_isRoad_0 := by decide +kernel
theorem dksX3_isRoad_1 : cX3_isRoad.data.toList.drop 24 = dktX3_isRoad_1 := dk_seg dksX3_isRoad_0 24 rfl rfl
theorem dksX3_isRoad_2 : cX3_isRoad.data.toList.drop 46 = dktX3_isRoad_2 := dk_seg dksX3_isRoad_1 22 rfl rfl
theorem dksX3_isRoad_3 : cX3_isRoad.data.toList.drop 68 = dktX3_isRoad_3 := dk_seg dksX3_isRoad_2 22 rfl rfl
theorem dksX3_isRoad_4 : cX3_isRoad.data.toList.drop 90 = dktX3_isRoad_4 := dk_seg dksX3_isRoad_3 22 rfl rfl
theorem dksX3_isRoad_5 : cX3_isRoad.data.toList.drop 113 = dktX3_isRoad_5 := dk_seg dksX3_isRoad_4 23 rfl rfl
theorem dksX3_isRoad_6 : cX3_isRoad.data.toList.drop 135 = dktX3_isRoad_6 := dk_seg dksX3_isRoad_5 22 rfl rfl
theorem dksX3_isRoad_7 : cX3_isRoad.data.toList.drop 158 = dktX3_isRoad_7 := dk_seg dksX3_isRoad_6 23 rfl rfl
theorem dksX3_isRoad_8 : cX3_isRoad.data.toList.drop 182 = dktX3_isRoad_8 := dk_seg dksX3_isRoad_7 24 rfl rfl
theorem dX3_isRoad_0 : decode cX3_isRoad 0 = .ok (.aload_n 0, 1) := dk_42 (dk_at dksX3_isRoad_0 0 rfl rfl)
theorem dX3_isRoad_1 : decode cX3_isRoad 1 = .ok (.iload_n 3, 1) := dk_29 (dk_at dksX3_isRoad_0 1 rfl rfl)
theorem dX3_isRoad_2 : decode cX3_isRoad 2 = .ok (.invokevirtual 184, 3) := dk_182 0 184 (dk_at dksX3_isRoad_0 2 rfl rfl)
theorem dX3_isRoad_5 : decode cX3_isRoad 5 = .ok (.ifCond .eq 54, 3) := dk_153 0 54 (dk_at dksX3_isRoad_0 5 rfl rfl)
theorem dX3_isRoad_8 : decode cX3_isRoad 8 = .ok (.aload_n 0, 1) := dk_42 (dk_at dksX3_isRoad_0 8 rfl rfl)
theorem dX3_isRoad_9 : decode cX3_isRoad 9 = .ok (.iload_n 3, 1) := dk_29 (dk_at dksX3_isRoad_0 9 rfl rfl)
theorem dX3_isRoad_10 : decode cX3_isRoad 10 = .ok (.aload_n 0, 1) := dk_42 (dk_at dksX3_isRoad_0 10 rfl rfl)
theorem dX3_isRoad_11 : decode cX3_isRoad 11 = .ok (.getfield 190, 3) := dk_180 0 190 (dk_at dksX3_isRoad_0 11 rfl rfl)
theorem dX3_isRoad_14 : decode cX3_isRoad 14 = .ok (.invokevirtual 193, 3) := dk_182 0 193 (dk_at dksX3_isRoad_0 14 rfl rfl)
theorem dX3_isRoad_17 : decode cX3_isRoad 17 = .ok (.ifCond .eq 42, 3) := dk_153 0 42 (dk_at dksX3_isRoad_0 17 rfl rfl)
theorem dX3_isRoad_20 : decode cX3_isRoad 20 = .ok (.aload_n 0, 1) := dk_42 (dk_at dksX3_isRoad_0 20 rfl rfl)
theorem dX3_isRoad_21 : decode cX3_isRoad 21 = .ok (.getfield 7, 3) := dk_180 0 7 (dk_at dksX3_isRoad_0 21 rfl rfl)
theorem dX3_isRoad_24 : decode cX3_isRoad 24 = .ok (.iload_n 2, 1) := dk_28 (dk_at dksX3_isRoad_1 0 rfl rfl)
theorem dX3_isRoad_25 : decode cX3_isRoad 25 = .ok (.iaload, 1) := dk_46 (dk_at dksX3_isRoad_1 1 rfl rfl)
theorem dX3_isRoad_26 : decode cX3_isRoad 26 = .ok (.ifCond .eq 17, 3) := dk_153 0 17 (dk_at dksX3_isRoad_1 2 rfl rfl)
theorem dX3_isRoad_29 : decode cX3_isRoad 29 = .ok (.aload_n 0, 1) := dk_42 (dk_at dksX3_isRoad_1 5 rfl rfl)
theorem dX3_isRoad_30 : decode cX3_isRoad 30 = .ok (.getfield 28, 3) := dk_180 0 28 (dk_at dksX3_isRoad_1 6 rfl rfl)
theorem dX3_isRoad_33 : decode cX3_isRoad 33 = .ok (.iload_n 2, 1) := dk_28 (dk_at dksX3_isRoad_1 9 rfl rfl)
theorem dX3_isRoad_34 : decode cX3_isRoad 34 = .ok (.iaload, 1) := dk_46 (dk_at dksX3_isRoad_1 10 rfl rfl)
theorem dX3_isRoad_35 : decode cX3_isRoad 35 = .ok (.iload_n 3, 1) := dk_29 (dk_at dksX3_isRoad_1 11 rfl rfl)
theorem dX3_isRoad_36 : decode cX3_isRoad 36 = .ok (.ishr, 1) := dk_122 (dk_at dksX3_isRoad_1 12 rfl rfl)
theorem dX3_isRoad_37 : decode cX3_isRoad 37 = .ok (.iconst 1, 1) := dk_4 (dk_at dksX3_isRoad_1 13 rfl rfl)
theorem dX3_isRoad_38 : decode cX3_isRoad 38 = .ok (.iand, 1) := dk_126 (dk_at dksX3_isRoad_1 14 rfl rfl)
theorem dX3_isRoad_39 : decode cX3_isRoad 39 = .ok (.iconst 1, 1) := dk_4 (dk_at dksX3_isRoad_1 15 rfl rfl)
theorem dX3_isRoad_40 : decode cX3_isRoad 40 = .ok (.if_icmp .ne 19, 3) := dk_160 0 19 (dk_at dksX3_isRoad_1 16 rfl rfl)
theorem dX3_isRoad_43 : decode cX3_isRoad 43 = .ok (.aload_n 0, 1) := dk_42 (dk_at dksX3_isRoad_1 19 rfl rfl)
theorem dX3_isRoad_44 : decode cX3_isRoad 44 = .ok (.iload_n 3, 1) := dk_29 (dk_at dksX3_isRoad_1 20 rfl rfl)
theorem dX3_isRoad_45 : decode cX3_isRoad 45 = .ok (.iload_n 1, 1) := dk_27 (dk_at dksX3_isRoad_1 21 rfl rfl)
theorem dX3_isRoad_46 : decode cX3_isRoad 46 = .ok (.invokestatic 257, 3) := dk_184 1 1 (dk_at dksX3_isRoad_2 0 rfl rfl)
theorem dX3_isRoad_49 : decode cX3_isRoad 49 = .ok (.invokevirtual 228, 3) := dk_182 0 228 (dk_at dksX3_isRoad_2 3 rfl rfl)
theorem dX3_isRoad_52 : decode cX3_isRoad 52 = .ok (.ifCond .eq 7, 3) := dk_153 0 7 (dk_at dksX3_isRoad_2 6 rfl rfl)
theorem dX3_isRoad_55 : decode cX3_isRoad 55 = .ok (.iconst 1, 1) := dk_4 (dk_at dksX3_isRoad_2 9 rfl rfl)
theorem dX3_isRoad_56 : decode cX3_isRoad 56 = .ok (.goto 4, 3) := dk_167 0 4 (dk_at dksX3_isRoad_2 10 rfl rfl)
theorem dX3_isRoad_59 : decode cX3_isRoad 59 = .ok (.iconst 0, 1) := dk_3 (dk_at dksX3_isRoad_2 13 rfl rfl)
theorem dX3_isRoad_60 : decode cX3_isRoad 60 = .ok (.istore 4, 2) := dk_54 4 (dk_at dksX3_isRoad_2 14 rfl rfl)
theorem dX3_isRoad_62 : decode cX3_isRoad 62 = .ok (.iconst 0, 1) := dk_3 (dk_at dksX3_isRoad_2 16 rfl rfl)
theorem dX3_isRoad_63 : decode cX3_isRoad 63 = .ok (.istore 5, 2) := dk_54 5 (dk_at dksX3_isRoad_2 17 rfl rfl)
theorem dX3_isRoad_65 : decode cX3_isRoad 65 = .ok (.iload 5, 2) := dk_21 5 (dk_at dksX3_isRoad_2 19 rfl rfl)
theorem dX3_isRoad_67 : decode cX3_isRoad 67 = .ok (.aload_n 0, 1) := dk_42 (dk_at dksX3_isRoad_2 21 rfl rfl)
theorem dX3_isRoad_68 : decode cX3_isRoad 68 = .ok (.getfield 213, 3) := dk_180 0 213 (dk_at dksX3_isRoad_3 0 rfl rfl)
theorem dX3_isRoad_71 : decode cX3_isRoad 71 = .ok (.if_icmp .ge 111, 3) := dk_162 0 111 (dk_at dksX3_isRoad_3 3 rfl rfl)
theorem dX3_isRoad_74 : decode cX3_isRoad 74 = .ok (.iload 4, 2) := dk_21 4 (dk_at dksX3_isRoad_3 6 rfl rfl)
theorem dX3_isRoad_76 : decode cX3_isRoad 76 = .ok (.ifCond .eq 106, 3) := dk_153 0 106 (dk_at dksX3_isRoad_3 8 rfl rfl)
theorem dX3_isRoad_79 : decode cX3_isRoad 79 = .ok (.iload_n 1, 1) := dk_27 (dk_at dksX3_isRoad_3 11 rfl rfl)
theorem dX3_isRoad_80 : decode cX3_isRoad 80 = .ok (.iload 5, 2) := dk_21 5 (dk_at dksX3_isRoad_3 12 rfl rfl)
theorem dX3_isRoad_82 : decode cX3_isRoad 82 = .ok (.ishr, 1) := dk_122 (dk_at dksX3_isRoad_3 14 rfl rfl)
theorem dX3_isRoad_83 : decode cX3_isRoad 83 = .ok (.iconst 1, 1) := dk_4 (dk_at dksX3_isRoad_3 15 rfl rfl)
theorem dX3_isRoad_84 : decode cX3_isRoad 84 = .ok (.iand, 1) := dk_126 (dk_at dksX3_isRoad_3 16 rfl rfl)
theorem dX3_isRoad_85 : decode cX3_isRoad 85 = .ok (.iconst 1, 1) := dk_4 (dk_at dksX3_isRoad_3 17 rfl rfl)
theorem dX3_isRoad_86 : decode cX3_isRoad 86 = .ok (.if_icmp .ne 90, 3) := dk_160 0 90 (dk_at dksX3_isRoad_3 18 rfl rfl)
theorem dX3_isRoad_89 : decode cX3_isRoad 89 = .ok (.aload_n 0, 1) := dk_42 (dk_at dksX3_isRoad_3 21 rfl rfl)
theorem dX3_isRoad_90 : decode cX3_isRoad 90 = .ok (.getfield 59, 3) := dk_180 0 59 (dk_at dksX3_isRoad_4 0 rfl rfl)
theorem dX3_isRoad_93 : decode cX3_isRoad 93 = .ok (.iload 5, 2) := dk_21 5 (dk_at dksX3_isRoad_4 3 rfl rfl)
theorem dX3_isRoad_95 : decode cX3_isRoad 95 = .ok (.iaload, 1) := dk_46 (dk_at dksX3_isRoad_4 5 rfl rfl)
theorem dX3_isRoad_96 : decode cX3_isRoad 96 = .ok (.ifCond .ge 13, 3) := dk_156 0 13 (dk_at dksX3_isRoad_4 6 rfl rfl)
theorem dX3_isRoad_99 : decode cX3_isRoad 99 = .ok (.aload_n 0, 1) := dk_42 (dk_at dksX3_isRoad_4 9 rfl rfl)
theorem dX3_isRoad_100 : decode cX3_isRoad 100 = .ok (.iload 5, 2) := dk_21 5 (dk_at dksX3_isRoad_4 10 rfl rfl)
theorem dX3_isRoad_102 : decode cX3_isRoad 102 = .ok (.iload_n 3, 1) := dk_29 (dk_at dksX3_isRoad_4 12 rfl rfl)
theorem dX3_isRoad_103 : decode cX3_isRoad 103 = .ok (.invokevirtual 254, 3) := dk_182 0 254 (dk_at dksX3_isRoad_4 13 rfl rfl)
theorem dX3_isRoad_106 : decode cX3_isRoad 106 = .ok (.goto 7, 3) := dk_167 0 7 (dk_at dksX3_isRoad_4 16 rfl rfl)
theorem dX3_isRoad_109 : decode cX3_isRoad 109 = .ok (.aload_n 0, 1) := dk_42 (dk_at dksX3_isRoad_4 19 rfl rfl)
theorem dX3_isRoad_110 : decode cX3_isRoad 110 = .ok (.getfield 190, 3) := dk_180 0 190 (dk_at dksX3_isRoad_4 20 rfl rfl)
theorem dX3_isRoad_113 : decode cX3_isRoad 113 = .ok (.istore 6, 2) := dk_54 6 (dk_at dksX3_isRoad_5 0 rfl rfl)
theorem dX3_isRoad_115 : decode cX3_isRoad 115 = .ok (.iload 6, 2) := dk_21 6 (dk_at dksX3_isRoad_5 2 rfl rfl)
theorem dX3_isRoad_117 : decode cX3_isRoad 117 = .ok (.ifCond .lt 25, 3) := dk_155 0 25 (dk_at dksX3_isRoad_5 4 rfl rfl)
theorem dX3_isRoad_120 : decode cX3_isRoad 120 = .ok (.aload_n 0, 1) := dk_42 (dk_at dksX3_isRoad_5 7 rfl rfl)
theorem dX3_isRoad_121 : decode cX3_isRoad 121 = .ok (.iconst 1, 1) := dk_4 (dk_at dksX3_isRoad_5 8 rfl rfl)
theorem dX3_isRoad_122 : decode cX3_isRoad 122 = .ok (.iload 5, 2) := dk_21 5 (dk_at dksX3_isRoad_5 9 rfl rfl)
theorem dX3_isRoad_124 : decode cX3_isRoad 124 = .ok (.iload_n 3, 1) := dk_29 (dk_at dksX3_isRoad_5 11 rfl rfl)
theorem dX3_isRoad_125 : decode cX3_isRoad 125 = .ok (.aload_n 0, 1) := dk_42 (dk_at dksX3_isRoad_5 12 rfl rfl)
theorem dX3_isRoad_126 : decode cX3_isRoad 126 = .ok (.getfield 190, 3) := dk_180 0 190 (dk_at dksX3_isRoad_5 13 rfl rfl)
theorem dX3_isRoad_129 : decode cX3_isRoad 129 = .ok (.bipush 24, 2) := dk_16 24 (dk_at dksX3_isRoad_5 16 rfl rfl)
theorem dX3_isRoad_131 : decode cX3_isRoad 131 = .ok (.idiv, 1) := dk_108 (dk_at dksX3_isRoad_5 18 rfl rfl)
theorem dX3_isRoad_132 : decode cX3_isRoad 132 = .ok (.invokevirtual 277, 3) := dk_182 1 21 (dk_at dksX3_isRoad_5 19 rfl rfl)
theorem dX3_isRoad_135 : decode cX3_isRoad 135 = .ok (.ifCond .lt 7, 3) := dk_155 0 7 (dk_at dksX3_isRoad_6 0 rfl rfl)
theorem dX3_isRoad_138 : decode cX3_isRoad 138 = .ok (.iconst 1, 1) := dk_4 (dk_at dksX3_isRoad_6 3 rfl rfl)
theorem dX3_isRoad_139 : decode cX3_isRoad 139 = .ok (.goto 4, 3) := dk_167 0 4 (dk_at dksX3_isRoad_6 4 rfl rfl)
theorem dX3_isRoad_142 : decode cX3_isRoad 142 = .ok (.iconst 0, 1) := dk_3 (dk_at dksX3_isRoad_6 7 rfl rfl)
theorem dX3_isRoad_143 : decode cX3_isRoad 143 = .ok (.istore 4, 2) := dk_54 4 (dk_at dksX3_isRoad_6 8 rfl rfl)
theorem dX3_isRoad_145 : decode cX3_isRoad 145 = .ok (.aload_n 0, 1) := dk_42 (dk_at dksX3_isRoad_6 10 rfl rfl)
theorem dX3_isRoad_146 : decode cX3_isRoad 146 = .ok (.getfield 190, 3) := dk_180 0 190 (dk_at dksX3_isRoad_6 11 rfl rfl)
theorem dX3_isRoad_149 : decode cX3_isRoad 149 = .ok (.istore 7, 2) := dk_54 7 (dk_at dksX3_isRoad_6 14 rfl rfl)
theorem dX3_isRoad_151 : decode cX3_isRoad 151 = .ok (.iload 7, 2) := dk_21 7 (dk_at dksX3_isRoad_6 16 rfl rfl)
theorem dX3_isRoad_153 : decode cX3_isRoad 153 = .ok (.iload 6, 2) := dk_21 6 (dk_at dksX3_isRoad_6 18 rfl rfl)
theorem dX3_isRoad_155 : decode cX3_isRoad 155 = .ok (.if_icmp .gt 21, 3) := dk_163 0 21 (dk_at dksX3_isRoad_6 20 rfl rfl)
theorem dX3_isRoad_158 : decode cX3_isRoad 158 = .ok (.iload 4, 2) := dk_21 4 (dk_at dksX3_isRoad_7 0 rfl rfl)
theorem dX3_isRoad_160 : decode cX3_isRoad 160 = .ok (.ifCond .eq 16, 3) := dk_153 0 16 (dk_at dksX3_isRoad_7 2 rfl rfl)
theorem dX3_isRoad_163 : decode cX3_isRoad 163 = .ok (.iload 7, 2) := dk_21 7 (dk_at dksX3_isRoad_7 5 rfl rfl)
theorem dX3_isRoad_165 : decode cX3_isRoad 165 = .ok (.invokestatic 357, 3) := dk_184 1 101 (dk_at dksX3_isRoad_7 7 rfl rfl)
theorem dX3_isRoad_168 : decode cX3_isRoad 168 = .ok (.istore 4, 2) := dk_54 4 (dk_at dksX3_isRoad_7 10 rfl rfl)
theorem dX3_isRoad_170 : decode cX3_isRoad 170 = .ok (.iinc 7 1, 3) := dk_132 7 1 (dk_at dksX3_isRoad_7 12 rfl rfl)
theorem dX3_isRoad_173 : decode cX3_isRoad 173 = .ok (.goto (-22), 3) := dk_167 255 234 (dk_at dksX3_isRoad_7 15 rfl rfl)
theorem dX3_isRoad_176 : decode cX3_isRoad 176 = .ok (.iinc 5 1, 3) := dk_132 5 1 (dk_at dksX3_isRoad_7 18 rfl rfl)
theorem dX3_isRoad_179 : decode cX3_isRoad 179 = .ok (.goto (-114), 3) := dk_167 255 142 (dk_at dksX3_isRoad_7 21 rfl rfl)
theorem dX3_isRoad_182 : decode cX3_isRoad 182 = .ok (.iload 4, 2) := dk_21 4 (dk_at dksX3_isRoad_8 0 rfl rfl)
theorem dX3_isRoad_184 : decode cX3_isRoad 184 = .ok (.ireturn, 1) := dk_172 (dk_at dksX3_isRoad_8 2 rfl rfl)
abbrev cX3_split : ByteArray := prog_19_method_81_code
def yX3_split : MethodName := ⟨RX3, "split", "(II)I"⟩
def dkwX3_split_9 : List UInt8 := [21, 11, 153, 0, 10, 21, 6, 62, 21, 5, 54, 4, 132, 5, 1, 167, 255, 143, 29, 172]
abbrev dktX3_split_9 : List UInt8 := dkwX3_split_9 ++ []
def dkwX3_split_8 : List UInt8 := [21, 5, 21, 4, 184, 1, 122, 153, 0, 7, 4, 167, 0, 4, 3, 54, 11, 21, 7, 28, 163, 0, 15]
abbrev dktX3_split_8 : List UInt8 := dkwX3_split_8 ++ dktX3_split_9
def dkwX3_split_7 : List UInt8 := [163, 0, 34, 21, 7, 21, 9, 160, 0, 31, 21, 8, 21, 10, 163, 0, 20, 21, 8, 21, 10, 160, 0, 17]
abbrev dktX3_split_7 : List UInt8 := dkwX3_split_7 ++ dktX3_split_8
def dkwX3_split_6 : List UInt8 := [182, 1, 119, 54, 8, 29, 184, 1, 1, 54, 9, 42, 29, 182, 1, 119, 54, 10, 21, 7, 21, 9]
abbrev dktX3_split_6 : List UInt8 := dkwX3_split_6 ++ dktX3_split_7
def dkwX3_split_5 : List UInt8 := [120, 162, 0, 108, 42, 21, 5, 182, 1, 116, 54, 6, 21, 6, 184, 1, 1, 54, 7, 42, 21, 6]
abbrev dktX3_split_5 : List UInt8 := dkwX3_split_5 ++ dktX3_split_6
def dkwX3_split_4 : List UInt8 := [182, 1, 104, 154, 0, 6, 16, 254, 172, 3, 62, 3, 54, 4, 3, 54, 5, 21, 5, 4, 42, 180, 1, 111]
abbrev dktX3_split_4 : List UInt8 := dkwX3_split_4 ++ dktX3_split_5
def dkwX3_split_3 : List UInt8 := [96, 181, 1, 111, 132, 3, 1, 167, 255, 207, 42, 180, 1, 111, 16, 9, 164, 0, 5, 2, 172, 42, 27]
abbrev dktX3_split_3 : List UInt8 := dkwX3_split_3 ++ dktX3_split_4
def dkwX3_split_2 : List UInt8 := [180, 0, 59, 29, 46, 156, 0, 23, 42, 180, 0, 131, 42, 180, 1, 111, 29, 79, 42, 89, 180, 1, 111, 4]
abbrev dktX3_split_2 : List UInt8 := dkwX3_split_2 ++ dktX3_split_3
def dkwX3_split_1 : List UInt8 := [181, 1, 111, 3, 62, 29, 42, 180, 0, 213, 162, 0, 47, 27, 29, 122, 4, 126, 4, 160, 0, 32, 42]
abbrev dktX3_split_1 : List UInt8 := dkwX3_split_1 ++ dktX3_split_2
def dkwX3_split_0 : List UInt8 := [42, 27, 182, 1, 15, 153, 0, 15, 28, 133, 9, 20, 1, 114, 184, 0, 160, 154, 0, 5, 2, 172, 42, 3]
abbrev dktX3_split_0 : List UInt8 := dkwX3_split_0 ++ dktX3_split_1
theorem dksX3_split_0 : cX3_split.data.toList.drop 0 = dktX3_split_0 := by decide +kernel
theorem dksX3_split_1 : cX3_split.data.toList.drop 24 = dktX3_split_1 := dk_seg dksX3_split_0 24 rfl rfl
theorem dksX3_split_2 : cX3_split.data.toList.drop 47 = dktX3_split_2 := dk_seg dksX3_split_1 23 rfl rfl
theorem dksX3_split_3 : cX3_split.data.toList.drop 71 = dktX3_split_3 := dk_seg dksX3_split_2 24 rfl rfl
theorem dksX3_split_4 : cX3_split.data.toList.drop 94 = dktX3_split_4 := dk_seg dksX3_split_3 23 rfl rfl
theorem dksX3_split_5 : cX3_split.data.toList.drop 118 = dktX3_split_5 := dk_seg dksX3_split_4 24 rfl rfl
theorem dksX3_split_6 : cX3_split.data.toList.drop 140 = dktX3_split_6 := dk_seg dksX3_split_5 22 rfl rfl
theorem dksX3_split_7 : cX3_split.data.toList.drop 162 = dktX3_split_7 := dk_seg dksX3_split_6 22 rfl rfl
theorem dksX3_split_8 : cX3_split.data.toList.drop 186 = dktX3_split_8 := dk_seg dksX3_split_7 24 rfl rfl
theorem dksX3_split_9 : cX3_split.data.toList.drop 209 = dktX3_split_9 := dk_seg dksX3_split_8 23 rfl rfl
theorem dX3_split_0 : decode cX3_split 0 = .ok (.aload_n 0, 1) := dk_42 (dk_at dksX3_split_0 0 rfl rfl)
theorem dX3_split_1 : decode cX3_split 1 = .ok (.iload_n 1, 1) := dk_27 (dk_at dksX3_split_0 1 rfl rfl)
theorem dX3_split_2 : decode cX3_split 2 = .ok (.invokevirtual 271, 3) := dk_182 1 15 (dk_at dksX3_split_0 2 rfl rfl)
theorem dX3_split_5 : decode cX3_split 5 = .ok (.ifCond .eq 15, 3) := dk_153 0 15 (dk_at dksX3_split_0 5 rfl rfl)
theorem dX3_split_8 : decode cX3_split 8 = .ok (.iload_n 2, 1) := dk_28 (dk_at dksX3_split_0 8 rfl rfl)
theorem dX3_split_9 : decode cX3_split 9 = .ok (.i2l, 1) := dk_133 (dk_at dksX3_split_0 9 rfl rfl)
theorem dX3_split_10 : decode cX3_split 10 = .ok (.lconst 0, 1) := dk_9 (dk_at dksX3_split_0 10 rfl rfl)
theorem dX3_split_11 : decode cX3_split 11 = .ok (.ldc2_w 370, 3) := dk_20 1 114 (dk_at dksX3_split_0 11 rfl rfl)
theorem dX3_split_14 : decode cX3_split 14 = .ok (.invokestatic 160, 3) := dk_184 0 160 (dk_at dksX3_split_0 14 rfl rfl)
theorem dX3_split_17 : decode cX3_split 17 = .ok (.ifCond .ne 5, 3) := dk_154 0 5 (dk_at dksX3_split_0 17 rfl rfl)
theorem dX3_split_20 : decode cX3_split 20 = .ok (.iconst (-1), 1) := dk_2 (dk_at dksX3_split_0 20 rfl rfl)
theorem dX3_split_21 : decode cX3_split 21 = .ok (.ireturn, 1) := dk_172 (dk_at dksX3_split_0 21 rfl rfl)
theorem dX3_split_22 : decode cX3_split 22 = .ok (.aload_n 0, 1) := dk_42 (dk_at dksX3_split_0 22 rfl rfl)
theorem dX3_split_23 : decode cX3_split 23 = .ok (.iconst 0, 1) := dk_3 (dk_at dksX3_split_0 23 rfl rfl)
theorem dX3_split_24 : decode cX3_split 24 = .ok (.putfield 367, 3) := dk_181 1 111 (dk_at dksX3_split_1 0 rfl rfl)
theorem dX3_split_27 : decode cX3_split 27 = .ok (.iconst 0, 1) := dk_3 (dk_at dksX3_split_1 3 rfl rfl)
theorem dX3_split_28 : decode cX3_split 28 = .ok (.istore_n 3, 1) := dk_62 (dk_at dksX3_split_1 4 rfl rfl)
theorem dX3_split_29 : decode cX3_split 29 = .ok (.iload_n 3, 1) := dk_29 (dk_at dksX3_split_1 5 rfl rfl)
theorem dX3_split_30 : decode cX3_split 30 = .ok (.aload_n 0, 1) := dk_42 (dk_at dksX3_split_1 6 rfl rfl)
theorem dX3_split_31 : decode cX3_split 31 = .ok (.getfield 213, 3) := dk_180 0 213 (dk_at dksX3_split_1 7 rfl rfl)
theorem dX3_split_34 : decode cX3_split 34 = .ok (.if_icmp .ge 47, 3) := dk_162 0 47 (dk_at dksX3_split_1 10 rfl rfl)
theorem dX3_split_37 : decode cX3_split 37 = .ok (.iload_n 1, 1) := dk_27 (dk_at dksX3_split_1 13 rfl rfl)
theorem dX3_split_38 : decode cX3_split 38 = .ok (.iload_n 3, 1) := dk_29 (dk_at dksX3_split_1 14 rfl rfl)
theorem dX3_split_39 : decode cX3_split 39 = .ok (.ishr, 1) := dk_122 (dk_at dksX3_split_1 15 rfl rfl)
theorem dX3_split_40 : decode cX3_split 40 = .ok (.iconst 1, 1) := dk_4 (dk_at dksX3_split_1 16 rfl rfl)
theorem dX3_split_41 : decode cX3_split 41 = .ok (.iand, 1) := dk_126 (dk_at dksX3_split_1 17 rfl rfl)
theorem dX3_split_42 : decode cX3_split 42 = .ok (.iconst 1, 1) := dk_4 (dk_at dksX3_split_1 18 rfl rfl)
theorem dX3_split_43 : decode cX3_split 43 = .ok (.if_icmp .ne 32, 3) := dk_160 0 32 (dk_at dksX3_split_1 19 rfl rfl)
theorem dX3_split_46 : decode cX3_split 46 = .ok (.aload_n 0, 1) := dk_42 (dk_at dksX3_split_1 22 rfl rfl)
theorem dX3_split_47 : decode cX3_split 47 = .ok (.getfield 59, 3) := dk_180 0 59 (dk_at dksX3_split_2 0 rfl rfl)
theorem dX3_split_50 : decode cX3_split 50 = .ok (.iload_n 3, 1) := dk_29 (dk_at dksX3_split_2 3 rfl rfl)
theorem dX3_split_51 : decode cX3_split 51 = .ok (.iaload, 1) := dk_46 (dk_at dksX3_split_2 4 rfl rfl)
theorem dX3_split_52 : decode cX3_split 52 = .ok (.ifCond .ge 23, 3) := dk_156 0 23 (dk_at dksX3_split_2 5 rfl rfl)
theorem dX3_split_55 : decode cX3_split 55 = .ok (.aload_n 0, 1) := dk_42 (dk_at dksX3_split_2 8 rfl rfl)
theorem dX3_split_56 : decode cX3_split 56 = .ok (.getfield 131, 3) := dk_180 0 131 (dk_at dksX3_split_2 9 rfl rfl)
theorem dX3_split_59 : decode cX3_split 59 = .ok (.aload_n 0, 1) := dk_42 (dk_at dksX3_split_2 12 rfl rfl)
theorem dX3_split_60 : decode cX3_split 60 = .ok (.getfield 367, 3) := dk_180 1 111 (dk_at dksX3_split_2 13 rfl rfl)
theorem dX3_split_63 : decode cX3_split 63 = .ok (.iload_n 3, 1) := dk_29 (dk_at dksX3_split_2 16 rfl rfl)
theorem dX3_split_64 : decode cX3_split 64 = .ok (.iastore, 1) := dk_79 (dk_at dksX3_split_2 17 rfl rfl)
theorem dX3_split_65 : decode cX3_split 65 = .ok (.aload_n 0, 1) := dk_42 (dk_at dksX3_split_2 18 rfl rfl)
theorem dX3_split_66 : decode cX3_split 66 = .ok (.dup, 1) := dk_89 (dk_at dksX3_split_2 19 rfl rfl)
theorem dX3_split_67 : decode cX3_split 67 = .ok (.getfield 367, 3) := dk_180 1 111 (dk_at dksX3_split_2 20 rfl rfl)
theorem dX3_split_70 : decode cX3_split 70 = .ok (.iconst 1, 1) := dk_4 (dk_at dksX3_split_2 23 rfl rfl)
theorem dX3_split_71 : decode cX3_split 71 = .ok (.iadd, 1) := dk_96 (dk_at dksX3_split_3 0 rfl rfl)
theorem dX3_split_72 : decode cX3_split 72 = .ok (.putfield 367, 3) := dk_181 1 111 (dk_at dksX3_split_3 1 rfl rfl)
theorem dX3_split_75 : decode cX3_split 75 = .ok (.iinc 3 1, 3) := dk_132 3 1 (dk_at dksX3_split_3 4 rfl rfl)
theorem dX3_split_78 : decode cX3_split 78 = .ok (.goto (-49), 3) := dk_167 255 207 (dk_at dksX3_split_3 7 rfl rfl)
theorem dX3_split_81 : decode cX3_split 81 = .ok (.aload_n 0, 1) := dk_42 (dk_at dksX3_split_3 10 rfl rfl)
theorem dX3_split_82 : decode cX3_split 82 = .ok (.getfield 367, 3) := dk_180 1 111 (dk_at dksX3_split_3 11 rfl rfl)
theorem dX3_split_85 : decode cX3_split 85 = .ok (.bipush 9, 2) := dk_16 9 (dk_at dksX3_split_3 14 rfl rfl)
theorem dX3_split_87 : decode cX3_split 87 = .ok (.if_icmp .le 5, 3) := dk_164 0 5 (dk_at dksX3_split_3 16 rfl rfl)
theorem dX3_split_90 : decode cX3_split 90 = .ok (.iconst (-1), 1) := dk_2 (dk_at dksX3_split_3 19 rfl rfl)
theorem dX3_split_91 : decode cX3_split 91 = .ok (.ireturn, 1) := dk_172 (dk_at dksX3_split_3 20 rfl rfl)
theorem dX3_split_92 : decode cX3_split 92 = .ok (.aload_n 0, 1) := dk_42 (dk_at dksX3_split_3 21 rfl rfl)
theorem dX3_split_93 : decode cX3_split 93 = .ok (.iload_n 1, 1) := dk_27 (dk_at dksX3_split_3 22 rfl rfl)
theorem dX3_split_94 : decode cX3_split 94 = .ok (.invokevirtual 360, 3) := dk_182 1 104 (dk_at dksX3_split_4 0 rfl rfl)
theorem dX3_split_97 : decode cX3_split 97 = .ok (.ifCond .ne 6, 3) := dk_154 0 6 (dk_at dksX3_split_4 3 rfl rfl)
theorem dX3_split_100 : decode cX3_split 100 = .ok (.bipush (-2), 2) := dk_16 254 (dk_at dksX3_split_4 6 rfl rfl)
theorem dX3_split_102 : decode cX3_split 102 = .ok (.ireturn, 1) := dk_172 (dk_at dksX3_split_4 8 rfl rfl)
theorem dX3_split_103 : decode cX3_split 103 = .ok (.iconst 0, 1) := dk_3 (dk_at dksX3_split_4 9 rfl rfl)
theorem dX3_split_104 : decode cX3_split 104 = .ok (.istore_n 3, 1) := dk_62 (dk_at dksX3_split_4 10 rfl rfl)
theorem dX3_split_105 : decode cX3_split 105 = .ok (.iconst 0, 1) := dk_3 (dk_at dksX3_split_4 11 rfl rfl)
theorem dX3_split_106 : decode cX3_split 106 = .ok (.istore 4, 2) := dk_54 4 (dk_at dksX3_split_4 12 rfl rfl)
theorem dX3_split_108 : decode cX3_split 108 = .ok (.iconst 0, 1) := dk_3 (dk_at dksX3_split_4 14 rfl rfl)
theorem dX3_split_109 : decode cX3_split 109 = .ok (.istore 5, 2) := dk_54 5 (dk_at dksX3_split_4 15 rfl rfl)
theorem dX3_split_111 : decode cX3_split 111 = .ok (.iload 5, 2) := dk_21 5 (dk_at dksX3_split_4 17 rfl rfl)
theorem dX3_split_113 : decode cX3_split 113 = .ok (.iconst 1, 1) := dk_4 (dk_at dksX3_split_4 19 rfl rfl)
theorem dX3_split_114 : decode cX3_split 114 = .ok (.aload_n 0, 1) := dk_42 (dk_at dksX3_split_4 20 rfl rfl)
theorem dX3_split_115 : decode cX3_split 115 = .ok (.getfield 367, 3) := dk_180 1 111 (dk_at dksX3_split_4 21 rfl rfl)
theorem dX3_split_118 : decode cX3_split 118 = .ok (.ishl, 1) := dk_120 (dk_at dksX3_split_5 0 rfl rfl)
theorem dX3_split_119 : decode cX3_split 119 = .ok (.if_icmp .ge 108, 3) := dk_162 0 108 (dk_at dksX3_split_5 1 rfl rfl)
theorem dX3_split_122 : decode cX3_split 122 = .ok (.aload_n 0, 1) := dk_42 (dk_at dksX3_split_5 4 rfl rfl)
theorem dX3_split_123 : decode cX3_split 123 = .ok (.iload 5, 2) := dk_21 5 (dk_at dksX3_split_5 5 rfl rfl)
theorem dX3_split_125 : decode cX3_split 125 = .ok (.invokevirtual 372, 3) := dk_182 1 116 (dk_at dksX3_split_5 7 rfl rfl)
theorem dX3_split_128 : decode cX3_split 128 = .ok (.istore 6, 2) := dk_54 6 (dk_at dksX3_split_5 10 rfl rfl)
theorem dX3_split_130 : decode cX3_split 130 = .ok (.iload 6, 2) := dk_21 6 (dk_at dksX3_split_5 12 rfl rfl)
theorem dX3_split_132 : decode cX3_split 132 = .ok (.invokestatic 257, 3) := dk_184 1 1 (dk_at dksX3_split_5 14 rfl rfl)
theorem dX3_split_135 : decode cX3_split 135 = .ok (.istore 7, 2) := dk_54 7 (dk_at dksX3_split_5 17 rfl rfl)
theorem dX3_split_137 : decode cX3_split 137 = .ok (.aload_n 0, 1) := dk_42 (dk_at dksX3_split_5 19 rfl rfl)
theorem dX3_split_138 : decode cX3_split 138 = .ok (.iload 6, 2) := dk_21 6 (dk_at dksX3_split_5 20 rfl rfl)
theorem dX3_split_140 : decode cX3_split 140 = .ok (.invokevirtual 375, 3) := dk_182 1 119 (dk_at dksX3_split_6 0 rfl rfl)
theorem dX3_split_143 : decode cX3_split 143 = .ok (.istore 8, 2) := dk_54 8 (dk_at dksX3_split_6 3 rfl rfl)
theorem dX3_split_145 : decode cX3_split 145 = .ok (.iload_n 3, 1) := dk_29 (dk_at dksX3_split_6 5 rfl rfl)
theorem dX3_split_146 : decode cX3_split 146 = .ok (.invokestatic 257, 3) := dk_184 1 1 (dk_at dksX3_split_6 6 rfl rfl)
theorem dX3_split_149 : decode cX3_split 149 = .ok (.istore 9, 2) := dk_54 9 (dk_at dksX3_split_6 9 rfl rfl)
theorem dX3_split_151 : decode cX3_split 151 = .ok (.aload_n 0, 1) := dk_42 (dk_at dksX3_split_6 11 rfl rfl)
theorem dX3_split_152 : decode cX3_split 152 = .ok (.iload_n 3, 1) := dk_29 (dk_at dksX3_split_6 12 rfl rfl)
theorem dX3_split_153 : decode cX3_split 153 = .ok (.invokevirtual 375, 3) := dk_182 1 119 (dk_at dksX3_split_6 13 rfl rfl)
theorem dX3_split_156 : decode cX3_split 156 = .ok (.istore 10, 2) := dk_54 10 (dk_at dksX3_split_6 16 rfl rfl)
theorem dX3_split_158 : decode cX3_split 158 = .ok (.iload 7, 2) := dk_21 7 (dk_at dksX3_split_6 18 rfl rfl)
theorem dX3_split_160 : decode cX3_split 160 = .ok (.iload 9, 2) := dk_21 9 (dk_at dksX3_split_6 20 rfl rfl)
theorem dX3_split_162 : decode cX3_split 162 = .ok (.if_icmp .gt 34, 3) := dk_163 0 34 (dk_at dksX3_split_7 0 rfl rfl)
theorem dX3_split_165 : decode cX3_split 165 = .ok (.iload 7, 2) := dk_21 7 (dk_at dksX3_split_7 3 rfl rfl)
theorem dX3_split_167 : decode cX3_split 167 = .ok (.iload 9, 2) := dk_21 9 (dk_at dksX3_split_7 5 rfl rfl)
theorem dX3_split_169 : decode cX3_split 169 = .ok (.if_icmp .ne 31, 3) := dk_160 0 31 (dk_at dksX3_split_7 7 rfl rfl)
theorem dX3_split_172 : decode cX3_split 172 = .ok (.iload 8, 2) := dk_21 8 (dk_at dksX3_split_7 10 rfl rfl)
theorem dX3_split_174 : decode cX3_split 174 = .ok (.iload 10, 2) := dk_21 10 (dk_at dksX3_split_7 12 rfl rfl)
theorem dX3_split_176 : decode cX3_split 176 = .ok (.if_icmp .gt 20, 3) := dk_163 0 20 (dk_at dksX3_split_7 14 rfl rfl)
theorem dX3_split_179 : decode cX3_split 179 = .ok (.iload 8, 2) := dk_21 8 (dk_at dksX3_split_7 17 rfl rfl)
theorem dX3_split_181 : decode cX3_split 181 = .ok (.iload 10, 2) := dk_21 10 (dk_at dksX3_split_7 19 rfl rfl)
theorem dX3_split_183 : decode cX3_split 183 = .ok (.if_icmp .ne 17, 3) := dk_160 0 17 (dk_at dksX3_split_7 21 rfl rfl)
theorem dX3_split_186 : decode cX3_split 186 = .ok (.iload 5, 2) := dk_21 5 (dk_at dksX3_split_8 0 rfl rfl)
theorem dX3_split_188 : decode cX3_split 188 = .ok (.iload 4, 2) := dk_21 4 (dk_at dksX3_split_8 2 rfl rfl)
theorem dX3_split_190 : decode cX3_split 190 = .ok (.invokestatic 378, 3) := dk_184 1 122 (dk_at dksX3_split_8 4 rfl rfl)
theorem dX3_split_193 : decode cX3_split 193 = .ok (.ifCond .eq 7, 3) := dk_153 0 7 (dk_at dksX3_split_8 7 rfl rfl)
theorem dX3_split_196 : decode cX3_split 196 = .ok (.iconst 1, 1) := dk_4 (dk_at dksX3_split_8 10 rfl rfl)
theorem dX3_split_197 : decode cX3_split 197 = .ok (.goto 4, 3) := dk_167 0 4 (dk_at dksX3_split_8 11 rfl rfl)
theorem dX3_split_200 : decode cX3_split 200 = .ok (.iconst 0, 1) := dk_3 (dk_at dksX3_split_8 14 rfl rfl)
theorem dX3_split_201 : decode cX3_split 201 = .ok (.istore 11, 2) := dk_54 11 (dk_at dksX3_split_8 15 rfl rfl)
theorem dX3_split_203 : decode cX3_split 203 = .ok (.iload 7, 2) := dk_21 7 (dk_at dksX3_split_8 17 rfl rfl)
theorem dX3_split_205 : decode cX3_split 205 = .ok (.iload_n 2, 1) := dk_28 (dk_at dksX3_split_8 19 rfl rfl)
theorem dX3_split_206 : decode cX3_split 206 = .ok (.if_icmp .gt 15, 3) := dk_163 0 15 (dk_at dksX3_split_8 20 rfl rfl)
theorem dX3_split_209 : decode cX3_split 209 = .ok (.iload 11, 2) := dk_21 11 (dk_at dksX3_split_9 0 rfl rfl)
theorem dX3_split_211 : decode cX3_split 211 = .ok (.ifCond .eq 10, 3) := dk_153 0 10 (dk_at dksX3_split_9 2 rfl rfl)
theorem dX3_split_214 : decode cX3_split 214 = .ok (.iload 6, 2) := dk_21 6 (dk_at dksX3_split_9 5 rfl rfl)
theorem dX3_split_216 : decode cX3_split 216 = .ok (.istore_n 3, 1) := dk_62 (dk_at dksX3_split_9 7 rfl rfl)
theorem dX3_split_217 : decode cX3_split 217 = .ok (.iload 5, 2) := dk_21 5 (dk_at dksX3_split_9 8 rfl rfl)
theorem dX3_split_219 : decode cX3_split 219 = .ok (.istore 4, 2) := dk_54 4 (dk_at dksX3_split_9 10 rfl rfl)
theorem dX3_split_221 : decode cX3_split 221 = .ok (.iinc 5 1, 3) := dk_132 5 1 (dk_at dksX3_split_9 12 rfl rfl)
theorem dX3_split_224 : decode cX3_split 224 = .ok (.goto (-113), 3) := dk_167 255 143 (dk_at dksX3_split_9 15 rfl rfl)
theorem dX3_split_227 : decode cX3_split 227 = .ok (.iload_n 3, 1) := dk_29 (dk_at dksX3_split_9 18 rfl rfl)
theorem dX3_split_228 : decode cX3_split 228 = .ok (.ireturn, 1) := dk_172 (dk_at dksX3_split_9 19 rfl rfl)
abbrev cX3_families : ByteArray := prog_19_method_78_code
def yX3_families : MethodName := ⟨RX3, "families", "(I)I"⟩
def dkwX3_families_3 : List UInt8 := [61, 132, 4, 1, 167, 255, 197, 132, 3, 1, 167, 255, 180, 28, 172]
abbrev dktX3_families_3 : List UInt8 := dkwX3_families_3 ++ []
def dkwX3_families_2 : List UInt8 := [180, 0, 59, 21, 4, 46, 42, 180, 0, 131, 29, 46, 160, 0, 10, 4, 21, 4, 120, 167, 0, 4, 3, 128]
abbrev dktX3_families_2 : List UInt8 := dkwX3_families_2 ++ dktX3_families_3
def dkwX3_families_1 : List UInt8 := [27, 29, 122, 4, 126, 4, 160, 0, 47, 28, 21, 4, 42, 180, 0, 131, 29, 46, 159, 0, 19, 42]
abbrev dktX3_families_1 : List UInt8 := dkwX3_families_1 ++ dktX3_families_2
def dkwX3_families_0 : List UInt8 := [3, 61, 3, 62, 29, 42, 180, 1, 111, 162, 0, 74, 3, 54, 4, 21, 4, 42, 180, 0, 213, 162, 0, 56]
abbrev dktX3_families_0 : List UInt8 := dkwX3_families_0 ++ dktX3_families_1
theorem dksX3_families_0 : cX3_families.data.toList.drop 0 = dktX3_families_0 := by decide +kernel
theorem dksX3_families_1 : cX3_families.data.toList.drop 24 = dktX3_families_1 := dk_seg dksX3_families_0 24 rfl rfl
theorem dksX3_families_2 : cX3_families.data.toList.drop 46 = dktX3_families_2 := dk_seg dksX3_families_1 22 rfl rfl
theorem dksX3_families_3 : cX3_families.data.toList.drop 70 = dktX3_families_3 := dk_seg dksX3_families_2 24 rfl rfl
theorem dX3_families_0 : decode cX3_families 0 = .ok (.iconst 0, 1) := dk_3 (dk_at dksX3_families_0 0 rfl rfl)
theorem dX3_families_1 : decode cX3_families 1 = .ok (.istore_n 2, 1) := dk_61 (dk_at dksX3_families_0 1 rfl rfl)
theorem dX3_families_2 : decode cX3_families 2 = .ok (.iconst 0, 1) := dk_3 (dk_at dksX3_families_0 2 rfl rfl)
theorem dX3_families_3 : decode cX3_families 3 = .ok (.istore_n 3, 1) := dk_62 (dk_at dksX3_families_0 3 rfl rfl)
theorem dX3_families_4 : decode cX3_families 4 = .ok (.iload_n 3, 1) := dk_29 (dk_at dksX3_families_0 4 rfl rfl)
theorem dX3_families_5 : decode cX3_families 5 = .ok (.aload_n 0, 1) := dk_42 (dk_at dksX3_families_0 5 rfl rfl)
theorem dX3_families_6 : decode cX3_families 6 = .ok (.getfield 367, 3) := dk_180 1 111 (dk_at dksX3_families_0 6 rfl rfl)
theorem dX3_families_9 : decode cX3_families 9 = .ok (.if_icmp .ge 74, 3) := dk_162 0 74 (dk_at dksX3_families_0 9 rfl rfl)
theorem dX3_families_12 : decode cX3_families 12 = .ok (.iconst 0, 1) := dk_3 (dk_at dksX3_families_0 12 rfl rfl)
theorem dX3_families_13 : decode cX3_families 13 = .ok (.istore 4, 2) := dk_54 4 (dk_at dksX3_families_0 13 rfl rfl)
theorem dX3_families_15 : decode cX3_families 15 = .ok (.iload 4, 2) := dk_21 4 (dk_at dksX3_families_0 15 rfl rfl)
theorem dX3_families_17 : decode cX3_families 17 = .ok (.aload_n 0, 1) := dk_42 (dk_at dksX3_families_0 17 rfl rfl)
theorem dX3_families_18 : decode cX3_families 18 = .ok (.getfield 213, 3) := dk_180 0 213 (dk_at dksX3_families_0 18 rfl rfl)
theorem dX3_families_21 : decode cX3_families 21 = .ok (.if_icmp .ge 56, 3) := dk_162 0 56 (dk_at dksX3_families_0 21 rfl rfl)
theorem dX3_families_24 : decode cX3_families 24 = .ok (.iload_n 1, 1) := dk_27 (dk_at dksX3_families_1 0 rfl rfl)
theorem dX3_families_25 : decode cX3_families 25 = .ok (.iload_n 3, 1) := dk_29 (dk_at dksX3_families_1 1 rfl rfl)
theorem dX3_families_26 : decode cX3_families 26 = .ok (.ishr, 1) := dk_122 (dk_at dksX3_families_1 2 rfl rfl)
theorem dX3_families_27 : decode cX3_families 27 = .ok (.iconst 1, 1) := dk_4 (dk_at dksX3_families_1 3 rfl rfl)
theorem dX3_families_28 : decode cX3_families 28 = .ok (.iand, 1) := dk_126 (dk_at dksX3_families_1 4 rfl rfl)
theorem dX3_families_29 : decode cX3_families 29 = .ok (.iconst 1, 1) := dk_4 (dk_at dksX3_families_1 5 rfl rfl)
theorem dX3_families_30 : decode cX3_families 30 = .ok (.if_icmp .ne 47, 3) := dk_160 0 47 (dk_at dksX3_families_1 6 rfl rfl)
theorem dX3_families_33 : decode cX3_families 33 = .ok (.iload_n 2, 1) := dk_28 (dk_at dksX3_families_1 9 rfl rfl)
theorem dX3_families_34 : decode cX3_families 34 = .ok (.iload 4, 2) := dk_21 4 (dk_at dksX3_families_1 10 rfl rfl)
theorem dX3_families_36 : decode cX3_families 36 = .ok (.aload_n 0, 1) := dk_42 (dk_at dksX3_families_1 12 rfl rfl)
theorem dX3_families_37 : decode cX3_families 37 = .ok (.getfield 131, 3) := dk_180 0 131 (dk_at dksX3_families_1 13 rfl rfl)
theorem dX3_families_40 : decode cX3_families 40 = .ok (.iload_n 3, 1) := dk_29 (dk_at dksX3_families_1 16 rfl rfl)
theorem dX3_families_41 : decode cX3_families 41 = .ok (.iaload, 1) := dk_46 (dk_at dksX3_families_1 17 rfl rfl)
theorem dX3_families_42 : decode cX3_families 42 = .ok (.if_icmp .eq 19, 3) := dk_159 0 19 (dk_at dksX3_families_1 18 rfl rfl)
theorem dX3_families_45 : decode cX3_families 45 = .ok (.aload_n 0, 1) := dk_42 (dk_at dksX3_families_1 21 rfl rfl)
theorem dX3_families_46 : decode cX3_families 46 = .ok (.getfield 59, 3) := dk_180 0 59 (dk_at dksX3_families_2 0 rfl rfl)
theorem dX3_families_49 : decode cX3_families 49 = .ok (.iload 4, 2) := dk_21 4 (dk_at dksX3_families_2 3 rfl rfl)
theorem dX3_families_51 : decode cX3_families 51 = .ok (.iaload, 1) := dk_46 (dk_at dksX3_families_2 5 rfl rfl)
theorem dX3_families_52 : decode cX3_families 52 = .ok (.aload_n 0, 1) := dk_42 (dk_at dksX3_families_2 6 rfl rfl)
theorem dX3_families_53 : decode cX3_families 53 = .ok (.getfield 131, 3) := dk_180 0 131 (dk_at dksX3_families_2 7 rfl rfl)
theorem dX3_families_56 : decode cX3_families 56 = .ok (.iload_n 3, 1) := dk_29 (dk_at dksX3_families_2 10 rfl rfl)
theorem dX3_families_57 : decode cX3_families 57 = .ok (.iaload, 1) := dk_46 (dk_at dksX3_families_2 11 rfl rfl)
theorem dX3_families_58 : decode cX3_families 58 = .ok (.if_icmp .ne 10, 3) := dk_160 0 10 (dk_at dksX3_families_2 12 rfl rfl)
theorem dX3_families_61 : decode cX3_families 61 = .ok (.iconst 1, 1) := dk_4 (dk_at dksX3_families_2 15 rfl rfl)
theorem dX3_families_62 : decode cX3_families 62 = .ok (.iload 4, 2) := dk_21 4 (dk_at dksX3_families_2 16 rfl rfl)
theorem dX3_families_64 : decode cX3_families 64 = .ok (.ishl, 1) := dk_120 (dk_at dksX3_families_2 18 rfl rfl)
theorem dX3_families_65 : decode cX3_families 65 = .ok (.goto 4, 3) := dk_167 0 4 (dk_at dksX3_families_2 19 rfl rfl)
theorem dX3_families_68 : decode cX3_families 68 = .ok (.iconst 0, 1) := dk_3 (dk_at dksX3_families_2 22 rfl rfl)
theorem dX3_families_69 : decode cX3_families 69 = .ok (.ior, 1) := dk_128 (dk_at dksX3_families_2 23 rfl rfl)
theorem dX3_families_70 : decode cX3_families 70 = .ok (.istore_n 2, 1) := dk_61 (dk_at dksX3_families_3 0 rfl rfl)
theorem dX3_families_71 : decode cX3_families 71 = .ok (.iinc 4 1, 3) := dk_132 4 1 (dk_at dksX3_families_3 1 rfl rfl)
theorem dX3_families_74 : decode cX3_families 74 = .ok (.goto (-59), 3) := dk_167 255 197 (dk_at dksX3_families_3 4 rfl rfl)
theorem dX3_families_77 : decode cX3_families 77 = .ok (.iinc 3 1, 3) := dk_132 3 1 (dk_at dksX3_families_3 7 rfl rfl)
theorem dX3_families_80 : decode cX3_families 80 = .ok (.goto (-76), 3) := dk_167 255 180 (dk_at dksX3_families_3 10 rfl rfl)
theorem dX3_families_83 : decode cX3_families 83 = .ok (.iload_n 2, 1) := dk_28 (dk_at dksX3_families_3 13 rfl rfl)
theorem dX3_families_84 : decode cX3_families 84 = .ok (.ireturn, 1) := dk_172 (dk_at dksX3_families_3 14 rfl rfl)
abbrev cX3_strengthOf : ByteArray := prog_19_method_79_code
def yX3_strengthOf : MethodName := ⟨RX3, "strengthOf", "(I)I"⟩
def dkwX3_strengthOf_1 : List UInt8 := [180, 0, 56, 29, 46, 167, 0, 4, 3, 96, 61, 132, 3, 1, 167, 255, 223, 28, 172]
abbrev dktX3_strengthOf_1 : List UInt8 := dkwX3_strengthOf_1 ++ []
def dkwX3_strengthOf_0 : List UInt8 := [3, 61, 3, 62, 29, 42, 180, 0, 213, 162, 0, 31, 28, 27, 29, 122, 4, 126, 4, 160, 0, 12, 42]
abbrev dktX3_strengthOf_0 : List UInt8 := dkwX3_strengthOf_0 ++ dktX3_strengthOf_1
theorem dksX3_strengthOf_0 : cX3_strengthOf.data.toList.drop 0 = dktX3_strengthOf_0 := by decide +kernel
theorem dksX3_strengthOf_1 : cX3_strengthOf.data.toList.drop 23 = dktX3_strengthOf_1 := dk_seg dksX3_strengthOf_0 23 rfl rfl
theorem dX3_strengthOf_0 : decode cX3_strengthOf 0 = .ok (.iconst 0, 1) := dk_3 (dk_at dksX3_strengthOf_0 0 rfl rfl)
theorem dX3_strengthOf_1 : decode cX3_strengthOf 1 = .ok (.istore_n 2, 1) := dk_61 (dk_at dksX3_strengthOf_0 1 rfl rfl)
theorem dX3_strengthOf_2 : decode cX3_strengthOf 2 = .ok (.iconst 0, 1) := dk_3 (dk_at dksX3_strengthOf_0 2 rfl rfl)
theorem dX3_strengthOf_3 : decode cX3_strengthOf 3 = .ok (.istore_n 3, 1) := dk_62 (dk_at dksX3_strengthOf_0 3 rfl rfl)
theorem dX3_strengthOf_4 : decode cX3_strengthOf 4 = .ok (.iload_n 3, 1) := dk_29 (dk_at dksX3_strengthOf_0 4 rfl rfl)
theorem dX3_strengthOf_5 : decode cX3_strengthOf 5 = .ok (.aload_n 0, 1) := dk_42 (dk_at dksX3_strengthOf_0 5 rfl rfl)
theorem dX3_strengthOf_6 : decode cX3_strengthOf 6 = .ok (.getfield 213, 3) := dk_180 0 213 (dk_at dksX3_strengthOf_0 6 rfl rfl)
theorem dX3_strengthOf_9 : decode cX3_strengthOf 9 = .ok (.if_icmp .ge 31, 3) := dk_162 0 31 (dk_at dksX3_strengthOf_0 9 rfl rfl)
theorem dX3_strengthOf_12 : decode cX3_strengthOf 12 = .ok (.iload_n 2, 1) := dk_28 (dk_at dksX3_strengthOf_0 12 rfl rfl)
theorem dX3_strengthOf_13 : decode cX3_strengthOf 13 = .ok (.iload_n 1, 1) := dk_27 (dk_at dksX3_strengthOf_0 13 rfl rfl)
theorem dX3_strengthOf_14 : decode cX3_strengthOf 14 = .ok (.iload_n 3, 1) := dk_29 (dk_at dksX3_strengthOf_0 14 rfl rfl)
theorem dX3_strengthOf_15 : decode cX3_strengthOf 15 = .ok (.ishr, 1) := dk_122 (dk_at dksX3_strengthOf_0 15 rfl rfl)
theorem dX3_strengthOf_16 : decode cX3_strengthOf 16 = .ok (.iconst 1, 1) := dk_4 (dk_at dksX3_strengthOf_0 16 rfl rfl)
theorem dX3_strengthOf_17 : decode cX3_strengthOf 17 = .ok (.iand, 1) := dk_126 (dk_at dksX3_strengthOf_0 17 rfl rfl)
theorem dX3_strengthOf_18 : decode cX3_strengthOf 18 = .ok (.iconst 1, 1) := dk_4 (dk_at dksX3_strengthOf_0 18 rfl rfl)
theorem dX3_strengthOf_19 : decode cX3_strengthOf 19 = .ok (.if_icmp .ne 12, 3) := dk_160 0 12 (dk_at dksX3_strengthOf_0 19 rfl rfl)
theorem dX3_strengthOf_22 : decode cX3_strengthOf 22 = .ok (.aload_n 0, 1) := dk_42 (dk_at dksX3_strengthOf_0 22 rfl rfl)
theorem dX3_strengthOf_23 : decode cX3_strengthOf 23 = .ok (.getfield 56, 3) := dk_180 0 56 (dk_at dksX3_strengthOf_1 0 rfl rfl)
theorem dX3_strengthOf_26 : decode cX3_strengthOf 26 = .ok (.iload_n 3, 1) := dk_29 (dk_at dksX3_strengthOf_1 3 rfl rfl)
theorem dX3_strengthOf_27 : decode cX3_strengthOf 27 = .ok (.iaload, 1) := dk_46 (dk_at dksX3_strengthOf_1 4 rfl rfl)
theorem dX3_strengthOf_28 : decode cX3_strengthOf 28 = .ok (.goto 4, 3) := dk_167 0 4 (dk_at dksX3_strengthOf_1 5 rfl rfl)
theorem dX3_strengthOf_31 : decode cX3_strengthOf 31 = .ok (.iconst 0, 1) := dk_3 (dk_at dksX3_strengthOf_1 8 rfl rfl)
theorem dX3_strengthOf_32 : decode cX3_strengthOf 32 = .ok (.iadd, 1) := dk_96 (dk_at dksX3_strengthOf_1 9 rfl rfl)
theorem dX3_strengthOf_33 : decode cX3_strengthOf 33 = .ok (.istore_n 2, 1) := dk_61 (dk_at dksX3_strengthOf_1 10 rfl rfl)
theorem dX3_strengthOf_34 : decode cX3_strengthOf 34 = .ok (.iinc 3 1, 3) := dk_132 3 1 (dk_at dksX3_strengthOf_1 11 rfl rfl)
theorem dX3_strengthOf_37 : decode cX3_strengthOf 37 = .ok (.goto (-33), 3) := dk_167 255 223 (dk_at dksX3_strengthOf_1 14 rfl rfl)
theorem dX3_strengthOf_40 : decode cX3_strengthOf 40 = .ok (.iload_n 2, 1) := dk_28 (dk_at dksX3_strengthOf_1 17 rfl rfl)
theorem dX3_strengthOf_41 : decode cX3_strengthOf 41 = .ok (.ireturn, 1) := dk_172 (dk_at dksX3_strengthOf_1 18 rfl rfl)
abbrev cX3_isAhead : ByteArray := prog_19_method_80_code
def yX3_isAhead : MethodName := ⟨RX3, "isAhead", "(II)Z"⟩
def dkwX3_isAhead_1 : List UInt8 := [167, 255, 234, 28, 16, 16, 162, 0, 16, 26, 28, 122, 4, 126, 4, 160, 0, 7, 4, 167, 0, 4, 3, 172]
abbrev dktX3_isAhead_1 : List UInt8 := dkwX3_isAhead_1 ++ []
def dkwX3_isAhead_0 : List UInt8 := [3, 61, 28, 16, 16, 162, 0, 22, 26, 28, 122, 4, 126, 27, 28, 122, 4, 126, 160, 0, 9, 132, 2, 1]
abbrev dktX3_isAhead_0 : List UInt8 := dkwX3_isAhead_0 ++ dktX3_isAhead_1
theorem dksX3_isAhead_0 : cX3_isAhead.data.toList.drop 0 = dktX3_isAhead_0 := by decide +kernel
theorem dksX3_isAhead_1 : cX3_isAhead.data.toList.drop 24 = dktX3_isAhead_1 := dk_seg dksX3_isAhead_0 24 rfl rfl
theorem dX3_isAhead_0 : decode cX3_isAhead 0 = .ok (.iconst 0, 1) := dk_3 (dk_at dksX3_isAhead_0 0 rfl rfl)
theorem dX3_isAhead_1 : decode cX3_isAhead 1 = .ok (.istore_n 2, 1) := dk_61 (dk_at dksX3_isAhead_0 1 rfl rfl)
theorem dX3_isAhead_2 : decode cX3_isAhead 2 = .ok (.iload_n 2, 1) := dk_28 (dk_at dksX3_isAhead_0 2 rfl rfl)
theorem dX3_isAhead_3 : decode cX3_isAhead 3 = .ok (.bipush 16, 2) := dk_16 16 (dk_at dksX3_isAhead_0 3 rfl rfl)
theorem dX3_isAhead_5 : decode cX3_isAhead 5 = .ok (.if_icmp .ge 22, 3) := dk_162 0 22 (dk_at dksX3_isAhead_0 5 rfl rfl)
theorem dX3_isAhead_8 : decode cX3_isAhead 8 = .ok (.iload_n 0, 1) := dk_26 (dk_at dksX3_isAhead_0 8 rfl rfl)
theorem dX3_isAhead_9 : decode cX3_isAhead 9 = .ok (.iload_n 2, 1) := dk_28 (dk_at dksX3_isAhead_0 9 rfl rfl)
theorem dX3_isAhead_10 : decode cX3_isAhead 10 = .ok (.ishr, 1) := dk_122 (dk_at dksX3_isAhead_0 10 rfl rfl)
theorem dX3_isAhead_11 : decode cX3_isAhead 11 = .ok (.iconst 1, 1) := dk_4 (dk_at dksX3_isAhead_0 11 rfl rfl)
theorem dX3_isAhead_12 : decode cX3_isAhead 12 = .ok (.iand, 1) := dk_126 (dk_at dksX3_isAhead_0 12 rfl rfl)
theorem dX3_isAhead_13 : decode cX3_isAhead 13 = .ok (.iload_n 1, 1) := dk_27 (dk_at dksX3_isAhead_0 13 rfl rfl)
theorem dX3_isAhead_14 : decode cX3_isAhead 14 = .ok (.iload_n 2, 1) := dk_28 (dk_at dksX3_isAhead_0 14 rfl rfl)
theorem dX3_isAhead_15 : decode cX3_isAhead 15 = .ok (.ishr, 1) := dk_122 (dk_at dksX3_isAhead_0 15 rfl rfl)
theorem dX3_isAhead_16 : decode cX3_isAhead 16 = .ok (.iconst 1, 1) := dk_4 (dk_at dksX3_isAhead_0 16 rfl rfl)
theorem dX3_isAhead_17 : decode cX3_isAhead 17 = .ok (.iand, 1) := dk_126 (dk_at dksX3_isAhead_0 17 rfl rfl)
theorem dX3_isAhead_18 : decode cX3_isAhead 18 = .ok (.if_icmp .ne 9, 3) := dk_160 0 9 (dk_at dksX3_isAhead_0 18 rfl rfl)
theorem dX3_isAhead_21 : decode cX3_isAhead 21 = .ok (.iinc 2 1, 3) := dk_132 2 1 (dk_at dksX3_isAhead_0 21 rfl rfl)
theorem dX3_isAhead_24 : decode cX3_isAhead 24 = .ok (.goto (-22), 3) := dk_167 255 234 (dk_at dksX3_isAhead_1 0 rfl rfl)
theorem dX3_isAhead_27 : decode cX3_isAhead 27 = .ok (.iload_n 2, 1) := dk_28 (dk_at dksX3_isAhead_1 3 rfl rfl)
theorem dX3_isAhead_28 : decode cX3_isAhead 28 = .ok (.bipush 16, 2) := dk_16 16 (dk_at dksX3_isAhead_1 4 rfl rfl)
theorem dX3_isAhead_30 : decode cX3_isAhead 30 = .ok (.if_icmp .ge 16, 3) := dk_162 0 16 (dk_at dksX3_isAhead_1 6 rfl rfl)
theorem dX3_isAhead_33 : decode cX3_isAhead 33 = .ok (.iload_n 0, 1) := dk_26 (dk_at dksX3_isAhead_1 9 rfl rfl)
theorem dX3_isAhead_34 : decode cX3_isAhead 34 = .ok (.iload_n 2, 1) := dk_28 (dk_at dksX3_isAhead_1 10 rfl rfl)
theorem dX3_isAhead_35 : decode cX3_isAhead 35 = .ok (.ishr, 1) := dk_122 (dk_at dksX3_isAhead_1 11 rfl rfl)
theorem dX3_isAhead_36 : decode cX3_isAhead 36 = .ok (.iconst 1, 1) := dk_4 (dk_at dksX3_isAhead_1 12 rfl rfl)
theorem dX3_isAhead_37 : decode cX3_isAhead 37 = .ok (.iand, 1) := dk_126 (dk_at dksX3_isAhead_1 13 rfl rfl)
theorem dX3_isAhead_38 : decode cX3_isAhead 38 = .ok (.iconst 1, 1) := dk_4 (dk_at dksX3_isAhead_1 14 rfl rfl)
theorem dX3_isAhead_39 : decode cX3_isAhead 39 = .ok (.if_icmp .ne 7, 3) := dk_160 0 7 (dk_at dksX3_isAhead_1 15 rfl rfl)
theorem dX3_isAhead_42 : decode cX3_isAhead 42 = .ok (.iconst 1, 1) := dk_4 (dk_at dksX3_isAhead_1 18 rfl rfl)
theorem dX3_isAhead_43 : decode cX3_isAhead 43 = .ok (.goto 4, 3) := dk_167 0 4 (dk_at dksX3_isAhead_1 19 rfl rfl)
theorem dX3_isAhead_46 : decode cX3_isAhead 46 = .ok (.iconst 0, 1) := dk_3 (dk_at dksX3_isAhead_1 22 rfl rfl)
theorem dX3_isAhead_47 : decode cX3_isAhead 47 = .ok (.ireturn, 1) := dk_172 (dk_at dksX3_isAhead_1 23 rfl rfl)
abbrev cX3_turned : ByteArray := prog_19_method_83_code
def yX3_turned : MethodName := ⟨RX3, "turned", "(I)I"⟩
def dkwX3_turned_0 : List UInt8 := [27, 133, 9, 20, 1, 125, 184, 0, 160, 153, 0, 11, 42, 27, 182, 1, 127, 167, 0, 4, 2, 172]
abbrev dktX3_turned_0 : List UInt8 := dkwX3_turned_0 ++ []
theorem dksX3_turned_0 : cX3_turned.data.toList.drop 0 = dktX3_turned_0 := by decide +kernel
theorem dX3_turned_0 : decode cX3_turned 0 = .ok (.iload_n 1, 1) := dk_27 (dk_at dksX3_turned_0 0 rfl rfl)
theorem dX3_turned_1 : decode cX3_turned 1 = .ok (.i2l, 1) := dk_133 (dk_at dksX3_turned_0 1 rfl rfl)
theorem dX3_turned_2 : decode cX3_turned 2 = .ok (.lconst 0, 1) := dk_9 (dk_at dksX3_turned_0 2 rfl rfl)
theorem dX3_turned_3 : decode cX3_turned 3 = .ok (.ldc2_w 381, 3) := dk_20 1 125 (dk_at dksX3_turned_0 3 rfl rfl)
theorem dX3_turned_6 : decode cX3_turned 6 = .ok (.invokestatic 160, 3) := dk_184 0 160 (dk_at dksX3_turned_0 6 rfl rfl)
theorem dX3_turned_9 : decode cX3_turned 9 = .ok (.ifCond .eq 11, 3) := dk_153 0 11 (dk_at dksX3_turned_0 9 rfl rfl)
theorem dX3_turned_12 : decode cX3_turned 12 = .ok (.aload_n 0, 1) := dk_42 (dk_at dksX3_turned_0 12 rfl rfl)
theorem dX3_turned_13 : decode cX3_turned 13 = .ok (.iload_n 1, 1) := dk_27 (dk_at dksX3_turned_0 13 rfl rfl)
theorem dX3_turned_14 : decode cX3_turned 14 = .ok (.invokevirtual 383, 3) := dk_182 1 127 (dk_at dksX3_turned_0 14 rfl rfl)
theorem dX3_turned_17 : decode cX3_turned 17 = .ok (.goto 4, 3) := dk_167 0 4 (dk_at dksX3_turned_0 17 rfl rfl)
theorem dX3_turned_20 : decode cX3_turned 20 = .ok (.iconst (-1), 1) := dk_2 (dk_at dksX3_turned_0 20 rfl rfl)
theorem dX3_turned_21 : decode cX3_turned 21 = .ok (.ireturn, 1) := dk_172 (dk_at dksX3_turned_0 21 rfl rfl)
abbrev cX3_turnedFrom : ByteArray := prog_19_method_82_code
def yX3_turnedFrom : MethodName := ⟨RX3, "turnedFrom", "(I)I"⟩
def dkwX3_turnedFrom_6 : List UInt8 := [167, 255, 131, 29, 154, 0, 8, 16, 252, 167, 0, 4, 28, 172]
abbrev dktX3_turnedFrom_6 : List UInt8 := dkwX3_turnedFrom_6 ++ []
def dkwX3_turnedFrom_5 : List UInt8 := [153, 0, 7, 2, 167, 0, 9, 4, 21, 5, 120, 2, 130, 126, 61, 132, 5, 1, 167, 255, 163, 132, 4, 1]
abbrev dktX3_turnedFrom_5 : List UInt8 := dkwX3_turnedFrom_5 ++ dktX3_turnedFrom_6
def dkwX3_turnedFrom_4 : List UInt8 := [180, 0, 86, 21, 4, 46, 122, 4, 126, 4, 160, 0, 7, 4, 167, 0, 4, 3, 54, 6, 28, 21, 6]
abbrev dktX3_turnedFrom_4 : List UInt8 := dkwX3_turnedFrom_4 ++ dktX3_turnedFrom_5
def dkwX3_turnedFrom_3 : List UInt8 := [153, 0, 40, 21, 5, 42, 180, 0, 86, 21, 4, 46, 159, 0, 24, 42, 180, 0, 28, 21, 5, 46, 42]
abbrev dktX3_turnedFrom_3 : List UInt8 := dkwX3_turnedFrom_3 ++ dktX3_turnedFrom_4
def dkwX3_turnedFrom_2 : List UInt8 := [162, 0, 90, 42, 21, 5, 182, 0, 184, 153, 0, 54, 42, 42, 180, 0, 86, 21, 4, 46, 182, 0, 184]
abbrev dktX3_turnedFrom_2 : List UInt8 := dkwX3_turnedFrom_2 ++ dktX3_turnedFrom_3
def dkwX3_turnedFrom_1 : List UInt8 := [180, 0, 89, 21, 4, 46, 27, 161, 0, 105, 132, 3, 1, 3, 54, 5, 21, 5, 42, 180, 0, 166]
abbrev dktX3_turnedFrom_1 : List UInt8 := dkwX3_turnedFrom_1 ++ dktX3_turnedFrom_2
def dkwX3_turnedFrom_0 : List UInt8 := [4, 42, 180, 0, 166, 120, 4, 100, 61, 3, 62, 3, 54, 4, 21, 4, 42, 180, 1, 18, 162, 0, 122, 42]
abbrev dktX3_turnedFrom_0 : List UInt8 := dkwX3_turnedFrom_0 ++ dktX3_turnedFrom_1
theorem dksX3_turnedFrom_0 : cX3_turnedFrom.data.toList.drop 0 = dktX3_turnedFrom_0 := by decide +kernel
theorem dksX3_turnedFrom_1 : cX3_turnedFrom.data.toList.drop 24 = dktX3_turnedFrom_1 := dk_seg dksX3_turnedFrom_0 24 rfl rfl
theorem dksX3_turnedFrom_2 : cX3_turnedFrom.data.toList.drop 46 = dktX3_turnedFrom_2 := dk_seg dksX3_turnedFrom_1 22 rfl rfl
theorem dksX3_turnedFrom_3 : cX3_turnedFrom.data.toList.drop 69 = dktX3_turnedFrom_3 := dk_seg dksX3_turnedFrom_2 23 rfl rfl
theorem dksX3_turnedFrom_4 : cX3_turnedFrom.data.toList.drop 92 = dktX3_turnedFrom_4 := dk_seg dksX3_turnedFrom_3 23 rfl rfl
theorem dksX3_turnedFrom_5 : cX3_turnedFrom.data.toList.drop 115 = dktX3_turnedFrom_5 := dk_seg dksX3_turnedFrom_4 23 rfl rfl
theorem dksX3_turnedFrom_6 : cX3_turnedFrom.data.toList.drop 139 = dktX3_turnedFrom_6 := dk_seg dksX3_turnedFrom_5 24 rfl rfl
theorem dX3_turnedFrom_0 : decode cX3_turnedFrom 0 = .ok (.iconst 1, 1) := dk_4 (dk_at dksX3_turnedFrom_0 0 rfl rfl)
theorem dX3_turnedFrom_1 : decode cX3_turnedFrom 1 = .ok (.aload_n 0, 1) := dk_42 (dk_at dksX3_turnedFrom_0 1 rfl rfl)
theorem dX3_turnedFrom_2 : decode cX3_turnedFrom 2 = .ok (.getfield 166, 3) := dk_180 0 166 (dk_at dksX3_turnedFrom_0 2 rfl rfl)
theorem dX3_turnedFrom_5 : decode cX3_turnedFrom 5 = .ok (.ishl, 1) := dk_120 (dk_at dksX3_turnedFrom_0 5 rfl rfl)
theorem dX3_turnedFrom_6 : decode cX3_turnedFrom 6 = .ok (.iconst 1, 1) := dk_4 (dk_at dksX3_turnedFrom_0 6 rfl rfl)
theorem dX3_turnedFrom_7 : decode cX3_turnedFrom 7 = .ok (.isub, 1) := dk_100 (dk_at dksX3_turnedFrom_0 7 rfl rfl)
theorem dX3_turnedFrom_8 : decode cX3_turnedFrom 8 = .ok (.istore_n 2, 1) := dk_61 (dk_at dksX3_turnedFrom_0 8 rfl rfl)
theorem dX3_turnedFrom_9 : decode cX3_turnedFrom 9 = .ok (.iconst 0, 1) := dk_3 (dk_at dksX3_turnedFrom_0 9 rfl rfl)
theorem dX3_turnedFrom_10 : decode cX3_turnedFrom 10 = .ok (.istore_n 3, 1) := dk_62 (dk_at dksX3_turnedFrom_0 10 rfl rfl)
theorem dX3_turnedFrom_11 : decode cX3_turnedFrom 11 = .ok (.iconst 0, 1) := dk_3 (dk_at dksX3_turnedFrom_0 11 rfl rfl)
theorem dX3_turnedFrom_12 : decode cX3_turnedFrom 12 = .ok (.istore 4, 2) := dk_54 4 (dk_at dksX3_turnedFrom_0 12 rfl rfl)
theorem dX3_turnedFrom_14 : decode cX3_turnedFrom 14 = .ok (.iload 4, 2) := dk_21 4 (dk_at dksX3_turnedFrom_0 14 rfl rfl)
theorem dX3_turnedFrom_16 : decode cX3_turnedFrom 16 = .ok (.aload_n 0, 1) := dk_42 (dk_at dksX3_turnedFrom_0 16 rfl rfl)
theorem dX3_turnedFrom_17 : decode cX3_turnedFrom 17 = .ok (.getfield 274, 3) := dk_180 1 18 (dk_at dksX3_turnedFrom_0 17 rfl rfl)
theorem dX3_turnedFrom_20 : decode cX3_turnedFrom 20 = .ok (.if_icmp .ge 122, 3) := dk_162 0 122 (dk_at dksX3_turnedFrom_0 20 rfl rfl)
theorem dX3_turnedFrom_23 : decode cX3_turnedFrom 23 = .ok (.aload_n 0, 1) := dk_42 (dk_at dksX3_turnedFrom_0 23 rfl rfl)
theorem dX3_turnedFrom_24 : decode cX3_turnedFrom 24 = .ok (.getfield 89, 3) := dk_180 0 89 (dk_at dksX3_turnedFrom_1 0 rfl rfl)
theorem dX3_turnedFrom_27 : decode cX3_turnedFrom 27 = .ok (.iload 4, 2) := dk_21 4 (dk_at dksX3_turnedFrom_1 3 rfl rfl)
theorem dX3_turnedFrom_29 : decode cX3_turnedFrom 29 = .ok (.iaload, 1) := dk_46 (dk_at dksX3_turnedFrom_1 5 rfl rfl)
theorem dX3_turnedFrom_30 : decode cX3_turnedFrom 30 = .ok (.iload_n 1, 1) := dk_27 (dk_at dksX3_turnedFrom_1 6 rfl rfl)
theorem dX3_turnedFrom_31 : decode cX3_turnedFrom 31 = .ok (.if_icmp .lt 105, 3) := dk_161 0 105 (dk_at dksX3_turnedFrom_1 7 rfl rfl)
theorem dX3_turnedFrom_34 : decode cX3_turnedFrom 34 = .ok (.iinc 3 1, 3) := dk_132 3 1 (dk_at dksX3_turnedFrom_1 10 rfl rfl)
theorem dX3_turnedFrom_37 : decode cX3_turnedFrom 37 = .ok (.iconst 0, 1) := dk_3 (dk_at dksX3_turnedFrom_1 13 rfl rfl)
theorem dX3_turnedFrom_38 : decode cX3_turnedFrom 38 = .ok (.istore 5, 2) := dk_54 5 (dk_at dksX3_turnedFrom_1 14 rfl rfl)
theorem dX3_turnedFrom_40 : decode cX3_turnedFrom 40 = .ok (.iload 5, 2) := dk_21 5 (dk_at dksX3_turnedFrom_1 16 rfl rfl)
theorem dX3_turnedFrom_42 : decode cX3_turnedFrom 42 = .ok (.aload_n 0, 1) := dk_42 (dk_at dksX3_turnedFrom_1 18 rfl rfl)
theorem dX3_turnedFrom_43 : decode cX3_turnedFrom 43 = .ok (.getfield 166, 3) := dk_180 0 166 (dk_at dksX3_turnedFrom_1 19 rfl rfl)
theorem dX3_turnedFrom_46 : decode cX3_turnedFrom 46 = .ok (.if_icmp .ge 90, 3) := dk_162 0 90 (dk_at dksX3_turnedFrom_2 0 rfl rfl)
theorem dX3_turnedFrom_49 : decode cX3_turnedFrom 49 = .ok (.aload_n 0, 1) := dk_42 (dk_at dksX3_turnedFrom_2 3 rfl rfl)
theorem dX3_turnedFrom_50 : decode cX3_turnedFrom 50 = .ok (.iload 5, 2) := dk_21 5 (dk_at dksX3_turnedFrom_2 4 rfl rfl)
theorem dX3_turnedFrom_52 : decode cX3_turnedFrom 52 = .ok (.invokevirtual 184, 3) := dk_182 0 184 (dk_at dksX3_turnedFrom_2 6 rfl rfl)
theorem dX3_turnedFrom_55 : decode cX3_turnedFrom 55 = .ok (.ifCond .eq 54, 3) := dk_153 0 54 (dk_at dksX3_turnedFrom_2 9 rfl rfl)
theorem dX3_turnedFrom_58 : decode cX3_turnedFrom 58 = .ok (.aload_n 0, 1) := dk_42 (dk_at dksX3_turnedFrom_2 12 rfl rfl)
theorem dX3_turnedFrom_59 : decode cX3_turnedFrom 59 = .ok (.aload_n 0, 1) := dk_42 (dk_at dksX3_turnedFrom_2 13 rfl rfl)
theorem dX3_turnedFrom_60 : decode cX3_turnedFrom 60 = .ok (.getfield 86, 3) := dk_180 0 86 (dk_at dksX3_turnedFrom_2 14 rfl rfl)
theorem dX3_turnedFrom_63 : decode cX3_turnedFrom 63 = .ok (.iload 4, 2) := dk_21 4 (dk_at dksX3_turnedFrom_2 17 rfl rfl)
theorem dX3_turnedFrom_65 : decode cX3_turnedFrom 65 = .ok (.iaload, 1) := dk_46 (dk_at dksX3_turnedFrom_2 19 rfl rfl)
theorem dX3_turnedFrom_66 : decode cX3_turnedFrom 66 = .ok (.invokevirtual 184, 3) := dk_182 0 184 (dk_at dksX3_turnedFrom_2 20 rfl rfl)
theorem dX3_turnedFrom_69 : decode cX3_turnedFrom 69 = .ok (.ifCond .eq 40, 3) := dk_153 0 40 (dk_at dksX3_turnedFrom_3 0 rfl rfl)
theorem dX3_turnedFrom_72 : decode cX3_turnedFrom 72 = .ok (.iload 5, 2) := dk_21 5 (dk_at dksX3_turnedFrom_3 3 rfl rfl)
theorem dX3_turnedFrom_74 : decode cX3_turnedFrom 74 = .ok (.aload_n 0, 1) := dk_42 (dk_at dksX3_turnedFrom_3 5 rfl rfl)
theorem dX3_turnedFrom_75 : decode cX3_turnedFrom 75 = .ok (.getfield 86, 3) := dk_180 0 86 (dk_at dksX3_turnedFrom_3 6 rfl rfl)
theorem dX3_turnedFrom_78 : decode cX3_turnedFrom 78 = .ok (.iload 4, 2) := dk_21 4 (dk_at dksX3_turnedFrom_3 9 rfl rfl)
theorem dX3_turnedFrom_80 : decode cX3_turnedFrom 80 = .ok (.iaload, 1) := dk_46 (dk_at dksX3_turnedFrom_3 11 rfl rfl)
theorem dX3_turnedFrom_81 : decode cX3_turnedFrom 81 = .ok (.if_icmp .eq 24, 3) := dk_159 0 24 (dk_at dksX3_turnedFrom_3 12 rfl rfl)
theorem dX3_turnedFrom_84 : decode cX3_turnedFrom 84 = .ok (.aload_n 0, 1) := dk_42 (dk_at dksX3_turnedFrom_3 15 rfl rfl)
theorem dX3_turnedFrom_85 : decode cX3_turnedFrom 85 = .ok (.getfield 28, 3) := dk_180 0 28 (dk_at dksX3_turnedFrom_3 16 rfl rfl)
theorem dX3_turnedFrom_88 : decode cX3_turnedFrom 88 = .ok (.iload 5, 2) := dk_21 5 (dk_at dksX3_turnedFrom_3 19 rfl rfl)
theorem dX3_turnedFrom_90 : decode cX3_turnedFrom 90 = .ok (.iaload, 1) := dk_46 (dk_at dksX3_turnedFrom_3 21 rfl rfl)
theorem dX3_turnedFrom_91 : decode cX3_turnedFrom 91 = .ok (.aload_n 0, 1) := dk_42 (dk_at dksX3_turnedFrom_3 22 rfl rfl)
theorem dX3_turnedFrom_92 : decode cX3_turnedFrom 92 = .ok (.getfield 86, 3) := dk_180 0 86 (dk_at dksX3_turnedFrom_4 0 rfl rfl)
theorem dX3_turnedFrom_95 : decode cX3_turnedFrom 95 = .ok (.iload 4, 2) := dk_21 4 (dk_at dksX3_turnedFrom_4 3 rfl rfl)
theorem dX3_turnedFrom_97 : decode cX3_turnedFrom 97 = .ok (.iaload, 1) := dk_46 (dk_at dksX3_turnedFrom_4 5 rfl rfl)
theorem dX3_turnedFrom_98 : decode cX3_turnedFrom 98 = .ok (.ishr, 1) := dk_122 (dk_at dksX3_turnedFrom_4 6 rfl rfl)
theorem dX3_turnedFrom_99 : decode cX3_turnedFrom 99 = .ok (.iconst 1, 1) := dk_4 (dk_at dksX3_turnedFrom_4 7 rfl rfl)
theorem dX3_turnedFrom_100 : decode cX3_turnedFrom 100 = .ok (.iand, 1) := dk_126 (dk_at dksX3_turnedFrom_4 8 rfl rfl)
theorem dX3_turnedFrom_101 : decode cX3_turnedFrom 101 = .ok (.iconst 1, 1) := dk_4 (dk_at dksX3_turnedFrom_4 9 rfl rfl)
theorem dX3_turnedFrom_102 : decode cX3_turnedFrom 102 = .ok (.if_icmp .ne 7, 3) := dk_160 0 7 (dk_at dksX3_turnedFrom_4 10 rfl rfl)
theorem dX3_turnedFrom_105 : decode cX3_turnedFrom 105 = .ok (.iconst 1, 1) := dk_4 (dk_at dksX3_turnedFrom_4 13 rfl rfl)
theorem dX3_turnedFrom_106 : decode cX3_turnedFrom 106 = .ok (.goto 4, 3) := dk_167 0 4 (dk_at dksX3_turnedFrom_4 14 rfl rfl)
theorem dX3_turnedFrom_109 : decode cX3_turnedFrom 109 = .ok (.iconst 0, 1) := dk_3 (dk_at dksX3_turnedFrom_4 17 rfl rfl)
theorem dX3_turnedFrom_110 : decode cX3_turnedFrom 110 = .ok (.istore 6, 2) := dk_54 6 (dk_at dksX3_turnedFrom_4 18 rfl rfl)
theorem dX3_turnedFrom_112 : decode cX3_turnedFrom 112 = .ok (.iload_n 2, 1) := dk_28 (dk_at dksX3_turnedFrom_4 20 rfl rfl)
theorem dX3_turnedFrom_113 : decode cX3_turnedFrom 113 = .ok (.iload 6, 2) := dk_21 6 (dk_at dksX3_turnedFrom_4 21 rfl rfl)
theorem dX3_turnedFrom_115 : decode cX3_turnedFrom 115 = .ok (.ifCond .eq 7, 3) := dk_153 0 7 (dk_at dksX3_turnedFrom_5 0 rfl rfl)
theorem dX3_turnedFrom_118 : decode cX3_turnedFrom 118 = .ok (.iconst (-1), 1) := dk_2 (dk_at dksX3_turnedFrom_5 3 rfl rfl)
theorem dX3_turnedFrom_119 : decode cX3_turnedFrom 119 = .ok (.goto 9, 3) := dk_167 0 9 (dk_at dksX3_turnedFrom_5 4 rfl rfl)
theorem dX3_turnedFrom_122 : decode cX3_turnedFrom 122 = .ok (.iconst 1, 1) := dk_4 (dk_at dksX3_turnedFrom_5 7 rfl rfl)
theorem dX3_turnedFrom_123 : decode cX3_turnedFrom 123 = .ok (.iload 5, 2) := dk_21 5 (dk_at dksX3_turnedFrom_5 8 rfl rfl)
theorem dX3_turnedFrom_125 : decode cX3_turnedFrom 125 = .ok (.ishl, 1) := dk_120 (dk_at dksX3_turnedFrom_5 10 rfl rfl)
theorem dX3_turnedFrom_126 : decode cX3_turnedFrom 126 = .ok (.iconst (-1), 1) := dk_2 (dk_at dksX3_turnedFrom_5 11 rfl rfl)
theorem dX3_turnedFrom_127 : decode cX3_turnedFrom 127 = .ok (.ixor, 1) := dk_130 (dk_at dksX3_turnedFrom_5 12 rfl rfl)
theorem dX3_turnedFrom_128 : decode cX3_turnedFrom 128 = .ok (.iand, 1) := dk_126 (dk_at dksX3_turnedFrom_5 13 rfl rfl)
theorem dX3_turnedFrom_129 : decode cX3_turnedFrom 129 = .ok (.istore_n 2, 1) := dk_61 (dk_at dksX3_turnedFrom_5 14 rfl rfl)
theorem dX3_turnedFrom_130 : decode cX3_turnedFrom 130 = .ok (.iinc 5 1, 3) := dk_132 5 1 (dk_at dksX3_turnedFrom_5 15 rfl rfl)
theorem dX3_turnedFrom_133 : decode cX3_turnedFrom 133 = .ok (.goto (-93), 3) := dk_167 255 163 (dk_at dksX3_turnedFrom_5 18 rfl rfl)
theorem dX3_turnedFrom_136 : decode cX3_turnedFrom 136 = .ok (.iinc 4 1, 3) := dk_132 4 1 (dk_at dksX3_turnedFrom_5 21 rfl rfl)
theorem dX3_turnedFrom_139 : decode cX3_turnedFrom 139 = .ok (.goto (-125), 3) := dk_167 255 131 (dk_at dksX3_turnedFrom_6 0 rfl rfl)
theorem dX3_turnedFrom_142 : decode cX3_turnedFrom 142 = .ok (.iload_n 3, 1) := dk_29 (dk_at dksX3_turnedFrom_6 3 rfl rfl)
theorem dX3_turnedFrom_143 : decode cX3_turnedFrom 143 = .ok (.ifCond .ne 8, 3) := dk_154 0 8 (dk_at dksX3_turnedFrom_6 4 rfl rfl)
theorem dX3_turnedFrom_146 : decode cX3_turnedFrom 146 = .ok (.bipush (-4), 2) := dk_16 252 (dk_at dksX3_turnedFrom_6 7 rfl rfl)
theorem dX3_turnedFrom_148 : decode cX3_turnedFrom 148 = .ok (.goto 4, 3) := dk_167 0 4 (dk_at dksX3_turnedFrom_6 9 rfl rfl)
theorem dX3_turnedFrom_151 : decode cX3_turnedFrom 151 = .ok (.iload_n 2, 1) := dk_28 (dk_at dksX3_turnedFrom_6 12 rfl rfl)
theorem dX3_turnedFrom_152 : decode cX3_turnedFrom 152 = .ok (.ireturn, 1) := dk_172 (dk_at dksX3_turnedFrom_6 13 rfl rfl)
abbrev cX3_sure : ByteArray := prog_19_method_84_code
def yX3_sure : MethodName := ⟨RX3, "sure", "(I)I"⟩
def dkwX3_sure_2 : List UInt8 := [167, 255, 245, 29, 172]
abbrev dktX3_sure_2 : List UInt8 := dkwX3_sure_2 ++ []
def dkwX3_sure_1 : List UInt8 := [28, 184, 1, 1, 4, 159, 0, 6, 16, 252, 172, 3, 62, 28, 29, 122, 4, 126, 154, 0, 9, 132, 3, 1]
abbrev dktX3_sure_1 : List UInt8 := dkwX3_sure_1 ++ dktX3_sure_2
def dkwX3_sure_0 : List UInt8 := [27, 133, 9, 20, 1, 125, 184, 0, 160, 154, 0, 5, 2, 172, 42, 27, 182, 1, 127, 61, 28, 155, 0, 11]
abbrev dktX3_sure_0 : List UInt8 := dkwX3_sure_0 ++ dktX3_sure_1
theorem dksX3_sure_0 : cX3_sure.data.toList.drop 0 = dktX3_sure_0 := by decide +kernel
theorem dksX3_sure_1 : cX3_sure.data.toList.drop 24 = dktX3_sure_1 := dk_seg dksX3_sure_0 24 rfl rfl
theorem dksX3_sure_2 : cX3_sure.data.toList.drop 48 = dktX3_sure_2 := dk_seg dksX3_sure_1 24 rfl rfl
theorem dX3_sure_0 : decode cX3_sure 0 = .ok (.iload_n 1, 1) := dk_27 (dk_at dksX3_sure_0 0 rfl rfl)
theorem dX3_sure_1 : decode cX3_sure 1 = .ok (.i2l, 1) := dk_133 (dk_at dksX3_sure_0 1 rfl rfl)
theorem dX3_sure_2 : decode cX3_sure 2 = .ok (.lconst 0, 1) := dk_9 (dk_at dksX3_sure_0 2 rfl rfl)
theorem dX3_sure_3 : decode cX3_sure 3 = .ok (.ldc2_w 381, 3) := dk_20 1 125 (dk_at dksX3_sure_0 3 rfl rfl)
theorem dX3_sure_6 : decode cX3_sure 6 = .ok (.invokestatic 160, 3) := dk_184 0 160 (dk_at dksX3_sure_0 6 rfl rfl)
theorem dX3_sure_9 : decode cX3_sure 9 = .ok (.ifCond .ne 5, 3) := dk_154 0 5 (dk_at dksX3_sure_0 9 rfl rfl)
theorem dX3_sure_12 : decode cX3_sure 12 = .ok (.iconst (-1), 1) := dk_2 (dk_at dksX3_sure_0 12 rfl rfl)
theorem dX3_sure_13 : decode cX3_sure 13 = .ok (.ireturn, 1) := dk_172 (dk_at dksX3_sure_0 13 rfl rfl)
theorem dX3_sure_14 : decode cX3_sure 14 = .ok (.aload_n 0, 1) := dk_42 (dk_at dksX3_sure_0 14 rfl rfl)
theorem dX3_sure_15 : decode cX3_sure 15 = .ok (.iload_n 1, 1) := dk_27 (dk_at dksX3_sure_0 15 rfl rfl)
theorem dX3_sure_16 : decode cX3_sure 16 = .ok (.invokevirtual 383, 3) := dk_182 1 127 (dk_at dksX3_sure_0 16 rfl rfl)
theorem dX3_sure_19 : decode cX3_sure 19 = .ok (.istore_n 2, 1) := dk_61 (dk_at dksX3_sure_0 19 rfl rfl)
theorem dX3_sure_20 : decode cX3_sure 20 = .ok (.iload_n 2, 1) := dk_28 (dk_at dksX3_sure_0 20 rfl rfl)
theorem dX3_sure_21 : decode cX3_sure 21 = .ok (.ifCond .lt 11, 3) := dk_155 0 11 (dk_at dksX3_sure_0 21 rfl rfl)
theorem dX3_sure_24 : decode cX3_sure 24 = .ok (.iload_n 2, 1) := dk_28 (dk_at dksX3_sure_1 0 rfl rfl)
theorem dX3_sure_25 : decode cX3_sure 25 = .ok (.invokestatic 257, 3) := dk_184 1 1 (dk_at dksX3_sure_1 1 rfl rfl)
theorem dX3_sure_28 : decode cX3_sure 28 = .ok (.iconst 1, 1) := dk_4 (dk_at dksX3_sure_1 4 rfl rfl)
theorem dX3_sure_29 : decode cX3_sure 29 = .ok (.if_icmp .eq 6, 3) := dk_159 0 6 (dk_at dksX3_sure_1 5 rfl rfl)
theorem dX3_sure_32 : decode cX3_sure 32 = .ok (.bipush (-4), 2) := dk_16 252 (dk_at dksX3_sure_1 8 rfl rfl)
theorem dX3_sure_34 : decode cX3_sure 34 = .ok (.ireturn, 1) := dk_172 (dk_at dksX3_sure_1 10 rfl rfl)
theorem dX3_sure_35 : decode cX3_sure 35 = .ok (.iconst 0, 1) := dk_3 (dk_at dksX3_sure_1 11 rfl rfl)
theorem dX3_sure_36 : decode cX3_sure 36 = .ok (.istore_n 3, 1) := dk_62 (dk_at dksX3_sure_1 12 rfl rfl)
theorem dX3_sure_37 : decode cX3_sure 37 = .ok (.iload_n 2, 1) := dk_28 (dk_at dksX3_sure_1 13 rfl rfl)
theorem dX3_sure_38 : decode cX3_sure 38 = .ok (.iload_n 3, 1) := dk_29 (dk_at dksX3_sure_1 14 rfl rfl)
theorem dX3_sure_39 : decode cX3_sure 39 = .ok (.ishr, 1) := dk_122 (dk_at dksX3_sure_1 15 rfl rfl)
theorem dX3_sure_40 : decode cX3_sure 40 = .ok (.iconst 1, 1) := dk_4 (dk_at dksX3_sure_1 16 rfl rfl)
theorem dX3_sure_41 : decode cX3_sure 41 = .ok (.iand, 1) := dk_126 (dk_at dksX3_sure_1 17 rfl rfl)
theorem dX3_sure_42 : decode cX3_sure 42 = .ok (.ifCond .ne 9, 3) := dk_154 0 9 (dk_at dksX3_sure_1 18 rfl rfl)
theorem dX3_sure_45 : decode cX3_sure 45 = .ok (.iinc 3 1, 3) := dk_132 3 1 (dk_at dksX3_sure_1 21 rfl rfl)
theorem dX3_sure_48 : decode cX3_sure 48 = .ok (.goto (-11), 3) := dk_167 255 245 (dk_at dksX3_sure_2 0 rfl rfl)
theorem dX3_sure_51 : decode cX3_sure 51 = .ok (.iload_n 3, 1) := dk_29 (dk_at dksX3_sure_2 3 rfl rfl)
theorem dX3_sure_52 : decode cX3_sure 52 = .ok (.ireturn, 1) := dk_172 (dk_at dksX3_sure_2 4 rfl rfl)
abbrev cX3_talk : ByteArray := prog_19_method_86_code
def yX3_talk : MethodName := ⟨RX3, "talk", "(III)I"⟩
def dkwX3_talk_3 : List UInt8 := [42, 180, 0, 134, 28, 46, 104, 172]
abbrev dktX3_talk_3 : List UInt8 := dkwX3_talk_3 ++ []
def dkwX3_talk_2 : List UInt8 := [16, 244, 172, 42, 27, 3, 182, 1, 133, 42, 180, 0, 134, 28, 46, 156, 0, 8, 16, 252, 167, 0, 11, 29]
abbrev dktX3_talk_2 : List UInt8 := dkwX3_talk_2 ++ dktX3_talk_3
def dkwX3_talk_1 : List UInt8 := [184, 0, 160, 154, 0, 5, 2, 172, 42, 27, 182, 0, 184, 153, 0, 11, 42, 28, 182, 0, 184, 154, 0, 6]
abbrev dktX3_talk_1 : List UInt8 := dkwX3_talk_1 ++ dktX3_talk_2
def dkwX3_talk_0 : List UInt8 := [42, 27, 182, 0, 176, 153, 0, 23, 42, 28, 182, 0, 176, 153, 0, 15, 29, 133, 10, 20, 0, 244]
abbrev dktX3_talk_0 : List UInt8 := dkwX3_talk_0 ++ dktX3_talk_1
theorem dksX3_talk_0 : cX3_talk.data.toList.drop 0 = dktX3_talk_0 := by decide +kernel
theorem dksX3_talk_1 : cX3_talk.data.toList.drop 22 = dktX3_talk_1 := dk_seg dksX3_talk_0 22 rfl rfl
theorem dksX3_talk_2 : cX3_talk.data.toList.drop 46 = dktX3_talk_2 := dk_seg dksX3_talk_1 24 rfl rfl
theorem dksX3_talk_3 : cX3_talk.data.toList.drop 70 = dktX3_talk_3 := dk_seg dksX3_talk_2 24 rfl rfl
theorem dX3_talk_0 : decode cX3_talk 0 = .ok (.aload_n 0, 1) := dk_42 (dk_at dksX3_talk_0 0 rfl rfl)
theorem dX3_talk_1 : decode cX3_talk 1 = .ok (.iload_n 1, 1) := dk_27 (dk_at dksX3_talk_0 1 rfl rfl)
theorem dX3_talk_2 : decode cX3_talk 2 = .ok (.invokevirtual 176, 3) := dk_182 0 176 (dk_at dksX3_talk_0 2 rfl rfl)
theorem dX3_talk_5 : decode cX3_talk 5 = .ok (.ifCond .eq 23, 3) := dk_153 0 23 (dk_at dksX3_talk_0 5 rfl rfl)
theorem dX3_talk_8 : decode cX3_talk 8 = .ok (.aload_n 0, 1) := dk_42 (dk_at dksX3_talk_0 8 rfl rfl)
theorem dX3_talk_9 : decode cX3_talk 9 = .ok (.iload_n 2, 1) := dk_28 (dk_at dksX3_talk_0 9 rfl rfl)
theorem dX3_talk_10 : decode cX3_talk 10 = .ok (.invokevirtual 176, 3) := dk_182 0 176 (dk_at dksX3_talk_0 10 rfl rfl)
theorem dX3_talk_13 : decode cX3_talk 13 = .ok (.ifCond .eq 15, 3) := dk_153 0 15 (dk_at dksX3_talk_0 13 rfl rfl)
theorem dX3_talk_16 : decode cX3_talk 16 = .ok (.iload_n 3, 1) := dk_29 (dk_at dksX3_talk_0 16 rfl rfl)
theorem dX3_talk_17 : decode cX3_talk 17 = .ok (.i2l, 1) := dk_133 (dk_at dksX3_talk_0 17 rfl rfl)
theorem dX3_talk_18 : decode cX3_talk 18 = .ok (.lconst 1, 1) := dk_10 (dk_at dksX3_talk_0 18 rfl rfl)
theorem dX3_talk_19 : decode cX3_talk 19 = .ok (.ldc2_w 244, 3) := dk_20 0 244 (dk_at dksX3_talk_0 19 rfl rfl)
theorem dX3_talk_22 : decode cX3_talk 22 = .ok (.invokestatic 160, 3) := dk_184 0 160 (dk_at dksX3_talk_1 0 rfl rfl)
theorem dX3_talk_25 : decode cX3_talk 25 = .ok (.ifCond .ne 5, 3) := dk_154 0 5 (dk_at dksX3_talk_1 3 rfl rfl)
theorem dX3_talk_28 : decode cX3_talk 28 = .ok (.iconst (-1), 1) := dk_2 (dk_at dksX3_talk_1 6 rfl rfl)
theorem dX3_talk_29 : decode cX3_talk 29 = .ok (.ireturn, 1) := dk_172 (dk_at dksX3_talk_1 7 rfl rfl)
theorem dX3_talk_30 : decode cX3_talk 30 = .ok (.aload_n 0, 1) := dk_42 (dk_at dksX3_talk_1 8 rfl rfl)
theorem dX3_talk_31 : decode cX3_talk 31 = .ok (.iload_n 1, 1) := dk_27 (dk_at dksX3_talk_1 9 rfl rfl)
theorem dX3_talk_32 : decode cX3_talk 32 = .ok (.invokevirtual 184, 3) := dk_182 0 184 (dk_at dksX3_talk_1 10 rfl rfl)
theorem dX3_talk_35 : decode cX3_talk 35 = .ok (.ifCond .eq 11, 3) := dk_153 0 11 (dk_at dksX3_talk_1 13 rfl rfl)
theorem dX3_talk_38 : decode cX3_talk 38 = .ok (.aload_n 0, 1) := dk_42 (dk_at dksX3_talk_1 16 rfl rfl)
theorem dX3_talk_39 : decode cX3_talk 39 = .ok (.iload_n 2, 1) := dk_28 (dk_at dksX3_talk_1 17 rfl rfl)
theorem dX3_talk_40 : decode cX3_talk 40 = .ok (.invokevirtual 184, 3) := dk_182 0 184 (dk_at dksX3_talk_1 18 rfl rfl)
theorem dX3_talk_43 : decode cX3_talk 43 = .ok (.ifCond .ne 6, 3) := dk_154 0 6 (dk_at dksX3_talk_1 21 rfl rfl)
theorem dX3_talk_46 : decode cX3_talk 46 = .ok (.bipush (-12), 2) := dk_16 244 (dk_at dksX3_talk_2 0 rfl rfl)
theorem dX3_talk_48 : decode cX3_talk 48 = .ok (.ireturn, 1) := dk_172 (dk_at dksX3_talk_2 2 rfl rfl)
theorem dX3_talk_49 : decode cX3_talk 49 = .ok (.aload_n 0, 1) := dk_42 (dk_at dksX3_talk_2 3 rfl rfl)
theorem dX3_talk_50 : decode cX3_talk 50 = .ok (.iload_n 1, 1) := dk_27 (dk_at dksX3_talk_2 4 rfl rfl)
theorem dX3_talk_51 : decode cX3_talk 51 = .ok (.iconst 0, 1) := dk_3 (dk_at dksX3_talk_2 5 rfl rfl)
theorem dX3_talk_52 : decode cX3_talk 52 = .ok (.invokevirtual 389, 3) := dk_182 1 133 (dk_at dksX3_talk_2 6 rfl rfl)
theorem dX3_talk_55 : decode cX3_talk 55 = .ok (.aload_n 0, 1) := dk_42 (dk_at dksX3_talk_2 9 rfl rfl)
theorem dX3_talk_56 : decode cX3_talk 56 = .ok (.getfield 134, 3) := dk_180 0 134 (dk_at dksX3_talk_2 10 rfl rfl)
theorem dX3_talk_59 : decode cX3_talk 59 = .ok (.iload_n 2, 1) := dk_28 (dk_at dksX3_talk_2 13 rfl rfl)
theorem dX3_talk_60 : decode cX3_talk 60 = .ok (.iaload, 1) := dk_46 (dk_at dksX3_talk_2 14 rfl rfl)
theorem dX3_talk_61 : decode cX3_talk 61 = .ok (.ifCond .ge 8, 3) := dk_156 0 8 (dk_at dksX3_talk_2 15 rfl rfl)
theorem dX3_talk_64 : decode cX3_talk 64 = .ok (.bipush (-4), 2) := dk_16 252 (dk_at dksX3_talk_2 18 rfl rfl)
theorem dX3_talk_66 : decode cX3_talk 66 = .ok (.goto 11, 3) := dk_167 0 11 (dk_at dksX3_talk_2 20 rfl rfl)
theorem dX3_talk_69 : decode cX3_talk 69 = .ok (.iload_n 3, 1) := dk_29 (dk_at dksX3_talk_2 23 rfl rfl)
theorem dX3_talk_70 : decode cX3_talk 70 = .ok (.aload_n 0, 1) := dk_42 (dk_at dksX3_talk_3 0 rfl rfl)
theorem dX3_talk_71 : decode cX3_talk 71 = .ok (.getfield 134, 3) := dk_180 0 134 (dk_at dksX3_talk_3 1 rfl rfl)
theorem dX3_talk_74 : decode cX3_talk 74 = .ok (.iload_n 2, 1) := dk_28 (dk_at dksX3_talk_3 4 rfl rfl)
theorem dX3_talk_75 : decode cX3_talk 75 = .ok (.iaload, 1) := dk_46 (dk_at dksX3_talk_3 5 rfl rfl)
theorem dX3_talk_76 : decode cX3_talk 76 = .ok (.imul, 1) := dk_104 (dk_at dksX3_talk_3 6 rfl rfl)
theorem dX3_talk_77 : decode cX3_talk 77 = .ok (.ireturn, 1) := dk_172 (dk_at dksX3_talk_3 7 rfl rfl)
abbrev cX3_talks : ByteArray := prog_19_method_85_code
def yX3_talks : MethodName := ⟨RX3, "talks", "(II)V"⟩
def dkwX3_talks_6 : List UInt8 := [21, 5, 46, 79, 132, 5, 1, 167, 255, 163, 132, 4, 1, 167, 255, 145, 132, 3, 1, 167, 255, 130, 177]
abbrev dktX3_talks_6 : List UInt8 := dkwX3_talks_6 ++ []
def dkwX3_talks_5 : List UInt8 := [153, 0, 19, 42, 180, 0, 134, 21, 5, 46, 156, 0, 9, 29, 4, 96, 167, 0, 10, 42, 180, 0, 134]
abbrev dktX3_talks_5 : List UInt8 := dkwX3_talks_5 ++ dktX3_talks_6
def dkwX3_talks_4 : List UInt8 := [28, 182, 1, 130, 154, 0, 7, 4, 167, 0, 4, 3, 54, 6, 42, 180, 0, 134, 21, 5, 21, 6]
abbrev dktX3_talks_4 : List UInt8 := dkwX3_talks_4 ++ dktX3_talks_5
def dkwX3_talks_3 : List UInt8 := [160, 0, 79, 42, 180, 0, 28, 21, 4, 46, 21, 5, 122, 4, 126, 4, 160, 0, 19, 42, 21, 4, 21, 5]
abbrev dktX3_talks_3 : List UInt8 := dkwX3_talks_3 ++ dktX3_talks_4
def dkwX3_talks_2 : List UInt8 := [162, 0, 108, 3, 54, 5, 21, 5, 42, 180, 0, 166, 162, 0, 90, 42, 180, 0, 134, 21, 4, 46, 29]
abbrev dktX3_talks_2 : List UInt8 := dkwX3_talks_2 ++ dktX3_talks_3
def dkwX3_talks_1 : List UInt8 := [132, 3, 1, 167, 255, 231, 3, 62, 29, 16, 16, 162, 0, 126, 3, 54, 4, 21, 4, 42, 180, 0, 166]
abbrev dktX3_talks_1 : List UInt8 := dkwX3_talks_1 ++ dktX3_talks_2
def dkwX3_talks_0 : List UInt8 := [3, 62, 29, 16, 16, 162, 0, 25, 42, 180, 0, 134, 29, 29, 27, 160, 0, 7, 3, 167, 0, 4, 2, 79]
abbrev dktX3_talks_0 : List UInt8 := dkwX3_talks_0 ++ dktX3_talks_1
theorem dksX3_talks_0 : cX3_talks.data.toList.drop 0 = dktX3_talks_0 := by decide +kernel
theorem dksX3_talks_1 : cX3_talks.data.toList.drop 24 = dktX3_talks_1 := dk_seg dksX3_talks_0 24 rfl rfl
theorem dksX3_talks_2 : cX3_talks.data.toList.drop 47 = dktX3_talks_2 := dk_seg dksX3_talks_1 23 rfl rfl
theorem dksX3_talks_3 : cX3_talks.data.toList.drop 70 = dktX3_talks_3 := dk_seg dksX3_talks_2 23 rfl rfl
theorem dksX3_talks_4 : cX3_talks.data.toList.drop 94 = dktX3_talks_4 := dk_seg dksX3_talks_3 24 rfl rfl
theorem dksX3_talks_5 : cX3_talks.data.toList.drop 116 = dktX3_talks_5 := dk_seg dksX3_talks_4 22 rfl rfl
theorem dksX3_talks_6 : cX3_talks.data.toList.drop 139 = dktX3_talks_6 := dk_seg dksX3_talks_5 23 rfl rfl
theorem dX3_talks_0 : decode cX3_talks 0 = .ok (.iconst 0, 1) := dk_3 (dk_at dksX3_talks_0 0 rfl rfl)
theorem dX3_talks_1 : decode cX3_talks 1 = .ok (.istore_n 3, 1) := dk_62 (dk_at dksX3_talks_0 1 rfl rfl)
theorem dX3_talks_2 : decode cX3_talks 2 = .ok (.iload_n 3, 1) := dk_29 (dk_at dksX3_talks_0 2 rfl rfl)
theorem dX3_talks_3 : decode cX3_talks 3 = .ok (.bipush 16, 2) := dk_16 16 (dk_at dksX3_talks_0 3 rfl rfl)
theorem dX3_talks_5 : decode cX3_talks 5 = .ok (.if_icmp .ge 25, 3) := dk_162 0 25 (dk_at dksX3_talks_0 5 rfl rfl)
theorem dX3_talks_8 : decode cX3_talks 8 = .ok (.aload_n 0, 1) := dk_42 (dk_at dksX3_talks_0 8 rfl rfl)
theorem dX3_talks_9 : decode cX3_talks 9 = .ok (.getfield 134, 3) := dk_180 0 134 (dk_at dksX3_talks_0 9 rfl rfl)
theorem dX3_talks_12 : decode cX3_talks 12 = .ok (.iload_n 3, 1) := dk_29 (dk_at dksX3_talks_0 12 rfl rfl)
theorem dX3_talks_13 : decode cX3_talks 13 = .ok (.iload_n 3, 1) := dk_29 (dk_at dksX3_talks_0 13 rfl rfl)
theorem dX3_talks_14 : decode cX3_talks 14 = .ok (.iload_n 1, 1) := dk_27 (dk_at dksX3_talks_0 14 rfl rfl)
theorem dX3_talks_15 : decode cX3_talks 15 = .ok (.if_icmp .ne 7, 3) := dk_160 0 7 (dk_at dksX3_talks_0 15 rfl rfl)
theorem dX3_talks_18 : decode cX3_talks 18 = .ok (.iconst 0, 1) := dk_3 (dk_at dksX3_talks_0 18 rfl rfl)
theorem dX3_talks_19 : decode cX3_talks 19 = .ok (.goto 4, 3) := dk_167 0 4 (dk_at dksX3_talks_0 19 rfl rfl)
theorem dX3_talks_22 : decode cX3_talks 22 = .ok (.iconst (-1), 1) := dk_2 (dk_at dksX3_talks_0 22 rfl rfl)
theorem dX3_talks_23 : decode cX3_talks 23 = .ok (.iastore, 1) := dk_79 (dk_at dksX3_talks_0 23 rfl rfl)
theorem dX3_talks_24 : decode cX3_talks 24 = .ok (.iinc 3 1, 3) := dk_132 3 1 (dk_at dksX3_talks_1 0 rfl rfl)
theorem dX3_talks_27 : decode cX3_talks 27 = .ok (.goto (-25), 3) := dk_167 255 231 (dk_at dksX3_talks_1 3 rfl rfl)
theorem dX3_talks_30 : decode cX3_talks 30 = .ok (.iconst 0, 1) := dk_3 (dk_at dksX3_talks_1 6 rfl rfl)
theorem dX3_talks_31 : decode cX3_talks 31 = .ok (.istore_n 3, 1) := dk_62 (dk_at dksX3_talks_1 7 rfl rfl)
theorem dX3_talks_32 : decode cX3_talks 32 = .ok (.iload_n 3, 1) := dk_29 (dk_at dksX3_talks_1 8 rfl rfl)
theorem dX3_talks_33 : decode cX3_talks 33 = .ok (.bipush 16, 2) := dk_16 16 (dk_at dksX3_talks_1 9 rfl rfl)
theorem dX3_talks_35 : decode cX3_talks 35 = .ok (.if_icmp .ge 126, 3) := dk_162 0 126 (dk_at dksX3_talks_1 11 rfl rfl)
theorem dX3_talks_38 : decode cX3_talks 38 = .ok (.iconst 0, 1) := dk_3 (dk_at dksX3_talks_1 14 rfl rfl)
theorem dX3_talks_39 : decode cX3_talks 39 = .ok (.istore 4, 2) := dk_54 4 (dk_at dksX3_talks_1 15 rfl rfl)
theorem dX3_talks_41 : decode cX3_talks 41 = .ok (.iload 4, 2) := dk_21 4 (dk_at dksX3_talks_1 17 rfl rfl)
theorem dX3_talks_43 : decode cX3_talks 43 = .ok (.aload_n 0, 1) := dk_42 (dk_at dksX3_talks_1 19 rfl rfl)
theorem dX3_talks_44 : decode cX3_talks 44 = .ok (.getfield 166, 3) := dk_180 0 166 (dk_at dksX3_talks_1 20 rfl rfl)
theorem dX3_talks_47 : decode cX3_talks 47 = .ok (.if_icmp .ge 108, 3) := dk_162 0 108 (dk_at dksX3_talks_2 0 rfl rfl)
theorem dX3_talks_50 : decode cX3_talks 50 = .ok (.iconst 0, 1) := dk_3 (dk_at dksX3_talks_2 3 rfl rfl)
theorem dX3_talks_51 : decode cX3_talks 51 = .ok (.istore 5, 2) := dk_54 5 (dk_at dksX3_talks_2 4 rfl rfl)
theorem dX3_talks_53 : decode cX3_talks 53 = .ok (.iload 5, 2) := dk_21 5 (dk_at dksX3_talks_2 6 rfl rfl)
theorem dX3_talks_55 : decode cX3_talks 55 = .ok (.aload_n 0, 1) := dk_42 (dk_at dksX3_talks_2 8 rfl rfl)
theorem dX3_talks_56 : decode cX3_talks 56 = .ok (.getfield 166, 3) := dk_180 0 166 (dk_at dksX3_talks_2 9 rfl rfl)
theorem dX3_talks_59 : decode cX3_talks 59 = .ok (.if_icmp .ge 90, 3) := dk_162 0 90 (dk_at dksX3_talks_2 12 rfl rfl)
theorem dX3_talks_62 : decode cX3_talks 62 = .ok (.aload_n 0, 1) := dk_42 (dk_at dksX3_talks_2 15 rfl rfl)
theorem dX3_talks_63 : decode cX3_talks 63 = .ok (.getfield 134, 3) := dk_180 0 134 (dk_at dksX3_talks_2 16 rfl rfl)
theorem dX3_talks_66 : decode cX3_talks 66 = .ok (.iload 4, 2) := dk_21 4 (dk_at dksX3_talks_2 19 rfl rfl)
theorem dX3_talks_68 : decode cX3_talks 68 = .ok (.iaload, 1) := dk_46 (dk_at dksX3_talks_2 21 rfl rfl)
theorem dX3_talks_69 : decode cX3_talks 69 = .ok (.iload_n 3, 1) := dk_29 (dk_at dksX3_talks_2 22 rfl rfl)
theorem dX3_talks_70 : decode cX3_talks 70 = .ok (.if_icmp .ne 79, 3) := dk_160 0 79 (dk_at dksX3_talks_3 0 rfl rfl)
theorem dX3_talks_73 : decode cX3_talks 73 = .ok (.aload_n 0, 1) := dk_42 (dk_at dksX3_talks_3 3 rfl rfl)
theorem dX3_talks_74 : decode cX3_talks 74 = .ok (.getfield 28, 3) := dk_180 0 28 (dk_at dksX3_talks_3 4 rfl rfl)
theorem dX3_talks_77 : decode cX3_talks 77 = .ok (.iload 4, 2) := dk_21 4 (dk_at dksX3_talks_3 7 rfl rfl)
theorem dX3_talks_79 : decode cX3_talks 79 = .ok (.iaload, 1) := dk_46 (dk_at dksX3_talks_3 9 rfl rfl)
theorem dX3_talks_80 : decode cX3_talks 80 = .ok (.iload 5, 2) := dk_21 5 (dk_at dksX3_talks_3 10 rfl rfl)
theorem dX3_talks_82 : decode cX3_talks 82 = .ok (.ishr, 1) := dk_122 (dk_at dksX3_talks_3 12 rfl rfl)
theorem dX3_talks_83 : decode cX3_talks 83 = .ok (.iconst 1, 1) := dk_4 (dk_at dksX3_talks_3 13 rfl rfl)
theorem dX3_talks_84 : decode cX3_talks 84 = .ok (.iand, 1) := dk_126 (dk_at dksX3_talks_3 14 rfl rfl)
theorem dX3_talks_85 : decode cX3_talks 85 = .ok (.iconst 1, 1) := dk_4 (dk_at dksX3_talks_3 15 rfl rfl)
theorem dX3_talks_86 : decode cX3_talks 86 = .ok (.if_icmp .ne 19, 3) := dk_160 0 19 (dk_at dksX3_talks_3 16 rfl rfl)
theorem dX3_talks_89 : decode cX3_talks 89 = .ok (.aload_n 0, 1) := dk_42 (dk_at dksX3_talks_3 19 rfl rfl)
theorem dX3_talks_90 : decode cX3_talks 90 = .ok (.iload 4, 2) := dk_21 4 (dk_at dksX3_talks_3 20 rfl rfl)
theorem dX3_talks_92 : decode cX3_talks 92 = .ok (.iload 5, 2) := dk_21 5 (dk_at dksX3_talks_3 22 rfl rfl)
theorem dX3_talks_94 : decode cX3_talks 94 = .ok (.iload_n 2, 1) := dk_28 (dk_at dksX3_talks_4 0 rfl rfl)
theorem dX3_talks_95 : decode cX3_talks 95 = .ok (.invokevirtual 386, 3) := dk_182 1 130 (dk_at dksX3_talks_4 1 rfl rfl)
theorem dX3_talks_98 : decode cX3_talks 98 = .ok (.ifCond .ne 7, 3) := dk_154 0 7 (dk_at dksX3_talks_4 4 rfl rfl)
theorem dX3_talks_101 : decode cX3_talks 101 = .ok (.iconst 1, 1) := dk_4 (dk_at dksX3_talks_4 7 rfl rfl)
theorem dX3_talks_102 : decode cX3_talks 102 = .ok (.goto 4, 3) := dk_167 0 4 (dk_at dksX3_talks_4 8 rfl rfl)
theorem dX3_talks_105 : decode cX3_talks 105 = .ok (.iconst 0, 1) := dk_3 (dk_at dksX3_talks_4 11 rfl rfl)
theorem dX3_talks_106 : decode cX3_talks 106 = .ok (.istore 6, 2) := dk_54 6 (dk_at dksX3_talks_4 12 rfl rfl)
theorem dX3_talks_108 : decode cX3_talks 108 = .ok (.aload_n 0, 1) := dk_42 (dk_at dksX3_talks_4 14 rfl rfl)
theorem dX3_talks_109 : decode cX3_talks 109 = .ok (.getfield 134, 3) := dk_180 0 134 (dk_at dksX3_talks_4 15 rfl rfl)
theorem dX3_talks_112 : decode cX3_talks 112 = .ok (.iload 5, 2) := dk_21 5 (dk_at dksX3_talks_4 18 rfl rfl)
theorem dX3_talks_114 : decode cX3_talks 114 = .ok (.iload 6, 2) := dk_21 6 (dk_at dksX3_talks_4 20 rfl rfl)
theorem dX3_talks_116 : decode cX3_talks 116 = .ok (.ifCond .eq 19, 3) := dk_153 0 19 (dk_at dksX3_talks_5 0 rfl rfl)
theorem dX3_talks_119 : decode cX3_talks 119 = .ok (.aload_n 0, 1) := dk_42 (dk_at dksX3_talks_5 3 rfl rfl)
theorem dX3_talks_120 : decode cX3_talks 120 = .ok (.getfield 134, 3) := dk_180 0 134 (dk_at dksX3_talks_5 4 rfl rfl)
theorem dX3_talks_123 : decode cX3_talks 123 = .ok (.iload 5, 2) := dk_21 5 (dk_at dksX3_talks_5 7 rfl rfl)
theorem dX3_talks_125 : decode cX3_talks 125 = .ok (.iaload, 1) := dk_46 (dk_at dksX3_talks_5 9 rfl rfl)
theorem dX3_talks_126 : decode cX3_talks 126 = .ok (.ifCond .ge 9, 3) := dk_156 0 9 (dk_at dksX3_talks_5 10 rfl rfl)
theorem dX3_talks_129 : decode cX3_talks 129 = .ok (.iload_n 3, 1) := dk_29 (dk_at dksX3_talks_5 13 rfl rfl)
theorem dX3_talks_130 : decode cX3_talks 130 = .ok (.iconst 1, 1) := dk_4 (dk_at dksX3_talks_5 14 rfl rfl)
theorem dX3_talks_131 : decode cX3_talks 131 = .ok (.iadd, 1) := dk_96 (dk_at dksX3_talks_5 15 rfl rfl)
theorem dX3_talks_132 : decode cX3_talks 132 = .ok (.goto 10, 3) := dk_167 0 10 (dk_at dksX3_talks_5 16 rfl rfl)
theorem dX3_talks_135 : decode cX3_talks 135 = .ok (.aload_n 0, 1) := dk_42 (dk_at dksX3_talks_5 19 rfl rfl)
theorem dX3_talks_136 : decode cX3_talks 136 = .ok (.getfield 134, 3) := dk_180 0 134 (dk_at dksX3_talks_5 20 rfl rfl)
theorem dX3_talks_139 : decode cX3_talks 139 = .ok (.iload 5, 2) := dk_21 5 (dk_at dksX3_talks_6 0 rfl rfl)
theorem dX3_talks_141 : decode cX3_talks 141 = .ok (.iaload, 1) := dk_46 (dk_at dksX3_talks_6 2 rfl rfl)
theorem dX3_talks_142 : decode cX3_talks 142 = .ok (.iastore, 1) := dk_79 (dk_at dksX3_talks_6 3 rfl rfl)
theorem dX3_talks_143 : decode cX3_talks 143 = .ok (.iinc 5 1, 3) := dk_132 5 1 (dk_at dksX3_talks_6 4 rfl rfl)
theorem dX3_talks_146 : decode cX3_talks 146 = .ok (.goto (-93), 3) := dk_167 255 163 (dk_at dksX3_talks_6 7 rfl rfl)
theorem dX3_talks_149 : decode cX3_talks 149 = .ok (.iinc 4 1, 3) := dk_132 4 1 (dk_at dksX3_talks_6 10 rfl rfl)
theorem dX3_talks_152 : decode cX3_talks 152 = .ok (.goto (-111), 3) := dk_167 255 145 (dk_at dksX3_talks_6 13 rfl rfl)
theorem dX3_talks_155 : decode cX3_talks 155 = .ok (.iinc 3 1, 3) := dk_132 3 1 (dk_at dksX3_talks_6 16 rfl rfl)
theorem dX3_talks_158 : decode cX3_talks 158 = .ok (.goto (-126), 3) := dk_167 255 130 (dk_at dksX3_talks_6 19 rfl rfl)
theorem dX3_talks_161 : decode cX3_talks 161 = .ok (.return_, 1) := dk_177 (dk_at dksX3_talks_6 22 rfl rfl)
abbrev cX3_isCut : ByteArray := prog_19_method_88_code
def yX3_isCut : MethodName := ⟨RX3, "isCut", "(III)Z"⟩
def dkwX3_isCut_2 : List UInt8 := [28, 160, 0, 7, 4, 167, 0, 4, 3, 54, 4, 132, 5, 1, 167, 255, 200, 21, 4, 172]
abbrev dktX3_isCut_2 : List UInt8 := dkwX3_isCut_2 ++ []
def dkwX3_isCut_1 : List UInt8 := [4, 126, 4, 160, 0, 29, 42, 180, 0, 140, 21, 5, 46, 27, 160, 0, 18, 42, 180, 0, 143, 21, 5, 46]
abbrev dktX3_isCut_1 : List UInt8 := dkwX3_isCut_1 ++ dktX3_isCut_2
def dkwX3_isCut_0 : List UInt8 := [3, 54, 4, 3, 54, 5, 21, 5, 42, 180, 1, 136, 162, 0, 53, 21, 4, 154, 0, 35, 29, 21, 5, 122]
abbrev dktX3_isCut_0 : List UInt8 := dkwX3_isCut_0 ++ dktX3_isCut_1
theorem dksX3_isCut_0 : cX3_isCut.data.toList.drop 0 = dktX3_isCut_0 := by decide +kernel
theorem dksX3_isCut_1 : cX3_isCut.data.toList.drop 24 = dktX3_isCut_1 := dk_seg dksX3_isCut_0 24 rfl rfl
theorem dksX3_isCut_2 : cX3_isCut.data.toList.drop 48 = dktX3_isCut_2 := dk_seg dksX3_isCut_1 24 rfl rfl
theorem dX3_isCut_0 : decode cX3_isCut 0 = .ok (.iconst 0, 1) := dk_3 (dk_at dksX3_isCut_0 0 rfl rfl)
theorem dX3_isCut_1 : decode cX3_isCut 1 = .ok (.istore 4, 2) := dk_54 4 (dk_at dksX3_isCut_0 1 rfl rfl)
theorem dX3_isCut_3 : decode cX3_isCut 3 = .ok (.iconst 0, 1) := dk_3 (dk_at dksX3_isCut_0 3 rfl rfl)
theorem dX3_isCut_4 : decode cX3_isCut 4 = .ok (.istore 5, 2) := dk_54 5 (dk_at dksX3_isCut_0 4 rfl rfl)
theorem dX3_isCut_6 : decode cX3_isCut 6 = .ok (.iload 5, 2) := dk_21 5 (dk_at dksX3_isCut_0 6 rfl rfl)
theorem dX3_isCut_8 : decode cX3_isCut 8 = .ok (.aload_n 0, 1) := dk_42 (dk_at dksX3_isCut_0 8 rfl rfl)
theorem dX3_isCut_9 : decode cX3_isCut 9 = .ok (.getfield 392, 3) := dk_180 1 136 (dk_at dksX3_isCut_0 9 rfl rfl)
theorem dX3_isCut_12 : decode cX3_isCut 12 = .ok (.if_icmp .ge 53, 3) := dk_162 0 53 (dk_at dksX3_isCut_0 12 rfl rfl)
theorem dX3_isCut_15 : decode cX3_isCut 15 = .ok (.iload 4, 2) := dk_21 4 (dk_at dksX3_isCut_0 15 rfl rfl)
theorem dX3_isCut_17 : decode cX3_isCut 17 = .ok (.ifCond .ne 35, 3) := dk_154 0 35 (dk_at dksX3_isCut_0 17 rfl rfl)
theorem dX3_isCut_20 : decode cX3_isCut 20 = .ok (.iload_n 3, 1) := dk_29 (dk_at dksX3_isCut_0 20 rfl rfl)
theorem dX3_isCut_21 : decode cX3_isCut 21 = .ok (.iload 5, 2) := dk_21 5 (dk_at dksX3_isCut_0 21 rfl rfl)
theorem dX3_isCut_23 : decode cX3_isCut 23 = .ok (.ishr, 1) := dk_122 (dk_at dksX3_isCut_0 23 rfl rfl)
theorem dX3_isCut_24 : decode cX3_isCut 24 = .ok (.iconst 1, 1) := dk_4 (dk_at dksX3_isCut_1 0 rfl rfl)
theorem dX3_isCut_25 : decode cX3_isCut 25 = .ok (.iand, 1) := dk_126 (dk_at dksX3_isCut_1 1 rfl rfl)
theorem dX3_isCut_26 : decode cX3_isCut 26 = .ok (.iconst 1, 1) := dk_4 (dk_at dksX3_isCut_1 2 rfl rfl)
theorem dX3_isCut_27 : decode cX3_isCut 27 = .ok (.if_icmp .ne 29, 3) := dk_160 0 29 (dk_at dksX3_isCut_1 3 rfl rfl)
theorem dX3_isCut_30 : decode cX3_isCut 30 = .ok (.aload_n 0, 1) := dk_42 (dk_at dksX3_isCut_1 6 rfl rfl)
theorem dX3_isCut_31 : decode cX3_isCut 31 = .ok (.getfield 140, 3) := dk_180 0 140 (dk_at dksX3_isCut_1 7 rfl rfl)
theorem dX3_isCut_34 : decode cX3_isCut 34 = .ok (.iload 5, 2) := dk_21 5 (dk_at dksX3_isCut_1 10 rfl rfl)
theorem dX3_isCut_36 : decode cX3_isCut 36 = .ok (.iaload, 1) := dk_46 (dk_at dksX3_isCut_1 12 rfl rfl)
theorem dX3_isCut_37 : decode cX3_isCut 37 = .ok (.iload_n 1, 1) := dk_27 (dk_at dksX3_isCut_1 13 rfl rfl)
theorem dX3_isCut_38 : decode cX3_isCut 38 = .ok (.if_icmp .ne 18, 3) := dk_160 0 18 (dk_at dksX3_isCut_1 14 rfl rfl)
theorem dX3_isCut_41 : decode cX3_isCut 41 = .ok (.aload_n 0, 1) := dk_42 (dk_at dksX3_isCut_1 17 rfl rfl)
theorem dX3_isCut_42 : decode cX3_isCut 42 = .ok (.getfield 143, 3) := dk_180 0 143 (dk_at dksX3_isCut_1 18 rfl rfl)
theorem dX3_isCut_45 : decode cX3_isCut 45 = .ok (.iload 5, 2) := dk_21 5 (dk_at dksX3_isCut_1 21 rfl rfl)
theorem dX3_isCut_47 : decode cX3_isCut 47 = .ok (.iaload, 1) := dk_46 (dk_at dksX3_isCut_1 23 rfl rfl)
theorem dX3_isCut_48 : decode cX3_isCut 48 = .ok (.iload_n 2, 1) := dk_28 (dk_at dksX3_isCut_2 0 rfl rfl)
theorem dX3_isCut_49 : decode cX3_isCut 49 = .ok (.if_icmp .ne 7, 3) := dk_160 0 7 (dk_at dksX3_isCut_2 1 rfl rfl)
theorem dX3_isCut_52 : decode cX3_isCut 52 = .ok (.iconst 1, 1) := dk_4 (dk_at dksX3_isCut_2 4 rfl rfl)
theorem dX3_isCut_53 : decode cX3_isCut 53 = .ok (.goto 4, 3) := dk_167 0 4 (dk_at dksX3_isCut_2 5 rfl rfl)
theorem dX3_isCut_56 : decode cX3_isCut 56 = .ok (.iconst 0, 1) := dk_3 (dk_at dksX3_isCut_2 8 rfl rfl)
theorem dX3_isCut_57 : decode cX3_isCut 57 = .ok (.istore 4, 2) := dk_54 4 (dk_at dksX3_isCut_2 9 rfl rfl)
theorem dX3_isCut_59 : decode cX3_isCut 59 = .ok (.iinc 5 1, 3) := dk_132 5 1 (dk_at dksX3_isCut_2 11 rfl rfl)
theorem dX3_isCut_62 : decode cX3_isCut 62 = .ok (.goto (-56), 3) := dk_167 255 200 (dk_at dksX3_isCut_2 14 rfl rfl)
theorem dX3_isCut_65 : decode cX3_isCut 65 = .ok (.iload 4, 2) := dk_21 4 (dk_at dksX3_isCut_2 17 rfl rfl)
theorem dX3_isCut_67 : decode cX3_isCut 67 = .ok (.ireturn, 1) := dk_172 (dk_at dksX3_isCut_2 19 rfl rfl)
abbrev cX3_lost : ByteArray := prog_19_method_87_code
def yX3_lost : MethodName := ⟨RX3, "lost", "(III)I"⟩
def dkwX3_lost_16 : List UInt8 := [167, 0, 4, 3, 128, 54, 6, 132, 7, 1, 167, 255, 211, 21, 6, 172]
abbrev dktX3_lost_16 : List UInt8 := dkwX3_lost_16 ++ []
def dkwX3_lost_15 : List UInt8 := [180, 0, 134, 21, 7, 46, 155, 0, 20, 42, 180, 0, 137, 21, 7, 46, 156, 0, 10, 4, 21, 7, 120]
abbrev dktX3_lost_15 : List UInt8 := dkwX3_lost_15 ++ dktX3_lost_16
def dkwX3_lost_14 : List UInt8 := [167, 255, 98, 167, 255, 84, 3, 54, 6, 3, 54, 7, 21, 7, 42, 180, 0, 166, 162, 0, 42, 21, 6, 42]
abbrev dktX3_lost_14 : List UInt8 := dkwX3_lost_14 ++ dktX3_lost_15
def dkwX3_lost_13 : List UInt8 := [162, 0, 15, 42, 180, 0, 137, 21, 7, 21, 9, 79, 4, 54, 5, 132, 7, 1, 167, 255, 116, 132, 6, 1]
abbrev dktX3_lost_13 : List UInt8 := dkwX3_lost_13 ++ dktX3_lost_14
def dkwX3_lost_12 : List UInt8 := [21, 10, 153, 0, 37, 42, 180, 0, 137, 21, 7, 46, 155, 0, 15, 21, 9, 42, 180, 0, 137, 21, 7, 46]
abbrev dktX3_lost_12 : List UInt8 := dkwX3_lost_12 ++ dktX3_lost_13
def dkwX3_lost_11 : List UInt8 := [28, 42, 180, 0, 134, 21, 7, 46, 104, 162, 0, 7, 4, 167, 0, 4, 3, 54, 10, 21, 8, 155, 0, 42]
abbrev dktX3_lost_11 : List UInt8 := dkwX3_lost_11 ++ dktX3_lost_12
def dkwX3_lost_10 : List UInt8 := [42, 180, 0, 137, 21, 6, 46, 21, 8, 96, 54, 9, 42, 180, 0, 134, 21, 7, 46, 155, 0, 17, 21, 9]
abbrev dktX3_lost_10 : List UInt8 := dkwX3_lost_10 ++ dktX3_lost_11
def dkwX3_lost_9 : List UInt8 := [21, 7, 122, 4, 126, 4, 160, 0, 14, 42, 21, 6, 21, 7, 182, 0, 180, 167, 0, 5, 16, 252, 54, 8]
abbrev dktX3_lost_9 : List UInt8 := dkwX3_lost_9 ++ dktX3_lost_10
def dkwX3_lost_8 : List UInt8 := [180, 0, 166, 162, 0, 137, 42, 180, 0, 137, 21, 6, 46, 155, 0, 127, 42, 180, 0, 28, 21, 6, 46]
abbrev dktX3_lost_8 : List UInt8 := dkwX3_lost_8 ++ dktX3_lost_9
def dkwX3_lost_7 : List UInt8 := [153, 0, 173, 3, 54, 5, 3, 54, 6, 21, 6, 42, 180, 0, 166, 162, 0, 155, 3, 54, 7, 21, 7, 42]
abbrev dktX3_lost_7 : List UInt8 := dkwX3_lost_7 ++ dktX3_lost_8
def dkwX3_lost_6 : List UInt8 := [21, 5, 46, 153, 0, 7, 3, 167, 0, 4, 2, 79, 132, 5, 1, 167, 255, 214, 4, 54, 5, 21, 5]
abbrev dktX3_lost_6 : List UInt8 := dkwX3_lost_6 ++ dktX3_lost_7
def dkwX3_lost_5 : List UInt8 := [162, 0, 41, 42, 180, 0, 137, 21, 5, 29, 21, 5, 122, 4, 126, 4, 160, 0, 17, 42, 180, 0, 134]
abbrev dktX3_lost_5 : List UInt8 := dkwX3_lost_5 ++ dktX3_lost_6
def dkwX3_lost_4 : List UInt8 := [167, 255, 214, 21, 4, 154, 0, 6, 16, 244, 172, 42, 27, 3, 182, 1, 133, 3, 54, 5, 21, 5, 16, 16]
abbrev dktX3_lost_4 : List UInt8 := dkwX3_lost_4 ++ dktX3_lost_5
def dkwX3_lost_3 : List UInt8 := [153, 0, 12, 42, 21, 5, 182, 0, 184, 153, 0, 7, 4, 167, 0, 4, 3, 54, 4, 132, 5, 1]
abbrev dktX3_lost_3 : List UInt8 := dkwX3_lost_3 ++ dktX3_lost_4
def dkwX3_lost_2 : List UInt8 := [54, 5, 21, 5, 42, 180, 0, 166, 162, 0, 39, 21, 4, 153, 0, 25, 29, 21, 5, 122, 4, 126]
abbrev dktX3_lost_2 : List UInt8 := dkwX3_lost_2 ++ dktX3_lost_3
def dkwX3_lost_1 : List UInt8 := [42, 180, 0, 166, 120, 4, 100, 133, 184, 0, 160, 154, 0, 5, 2, 172, 42, 27, 182, 0, 184, 54, 4, 3]
abbrev dktX3_lost_1 : List UInt8 := dkwX3_lost_1 ++ dktX3_lost_2
def dkwX3_lost_0 : List UInt8 := [42, 27, 182, 0, 176, 153, 0, 33, 28, 133, 10, 20, 0, 244, 184, 0, 160, 153, 0, 21, 29, 133, 9, 4]
abbrev dktX3_lost_0 : List UInt8 := dkwX3_lost_0 ++ dktX3_lost_1
theorem dksX3_lost_0 : cX3_lost.data.toList.drop 0 = dktX3_lost_0 := by decide +kernel
theorem dksX3_lost_1 : cX3_lost.data.toList.drop 24 = dktX3_lost_1 := dk_seg dksX3_lost_0 24 rfl rfl
theorem dksX3_lost_2 : cX3_lost.data.toList.drop 48 = dktX3_lost_2 := dk_seg dksX3_lost_1 24 rfl rfl
theorem dksX3_lost_3 : cX3_lost.data.toList.drop 70 = dktX3_lost_3 := dk_seg dksX3_lost_2 22 rfl rfl
theorem dksX3_lost_4 : cX3_lost.data.toList.drop 92 = dktX3_lost_4 := dk_seg dksX3_lost_3 22 rfl rfl
theorem dksX3_lost_5 : cX3_lost.data.toList.drop 116 = dktX3_lost_5 := dk_seg dksX3_lost_4 24 rfl rfl
theorem dksX3_lost_6 : cX3_lost.data.toList.drop 139 = dktX3_lost_6 := dk_seg dksX3_lost_5 23 rfl rfl
theorem dksX3_lost_7 : cX3_lost.data.toList.drop 162 = dktX3_lost_7 := dk_seg dksX3_lost_6 23 rfl rfl
theorem dksX3_lost_8 : cX3_lost.data.toList.drop 186 = dktX3_lost_8 := dk_seg dksX3_lost_7 24 rfl rfl
theorem dksX3_lost_9 : cX3_lost.data.toList.drop 209 = dktX3_lost_9 := dk_seg dksX3_lost_8 23 rfl rfl
theorem dksX3_lost_10 : cX3_lost.data.toList.drop 233 = dktX3_lost_10 := dk_seg dksX3_lost_9 24 rfl rfl
theorem dksX3_lost_11 : cX3_lost.data.toList.drop 257 = dktX3_lost_11 := dk_seg dksX3_lost_10 24 rfl rfl
theorem dksX3_lost_12 : cX3_lost.data.toList.drop 281 = dktX3_lost_12 := dk_seg dksX3_lost_11 24 rfl rfl
theorem dksX3_lost_13 : cX3_lost.data.toList.drop 305 = dktX3_lost_13 := dk_seg dksX3_lost_12 24 rfl rfl
theorem dksX3_lost_14 : cX3_lost.data.toList.drop 329 = dktX3_lost_14 := dk_seg dksX3_lost_13 24 rfl rfl
theorem dksX3_lost_15 : cX3_lost.data.toList.drop 353 = dktX3_lost_15 := dk_seg dksX3_lost_14 24 rfl rfl
theorem dksX3_lost_16 : cX3_lost.data.toList.drop 376 = dktX3_lost_16 := dk_seg dksX3_lost_15 23 rfl rfl
theorem dX3_lost_0 : decode cX3_lost 0 = .ok (.aload_n 0, 1) := dk_42 (dk_at dksX3_lost_0 0 rfl rfl)
theorem dX3_lost_1 : decode cX3_lost 1 = .ok (.iload_n 1, 1) := dk_27 (dk_at dksX3_lost_0 1 rfl rfl)
theorem dX3_lost_2 : decode cX3_lost 2 = .ok (.invokevirtual 176, 3) := dk_182 0 176 (dk_at dksX3_lost_0 2 rfl rfl)
theorem dX3_lost_5 : decode cX3_lost 5 = .ok (.ifCond .eq 33, 3) := dk_153 0 33 (dk_at dksX3_lost_0 5 rfl rfl)
theorem dX3_lost_8 : decode cX3_lost 8 = .ok (.iload_n 2, 1) := dk_28 (dk_at dksX3_lost_0 8 rfl rfl)
theorem dX3_lost_9 : decode cX3_lost 9 = .ok (.i2l, 1) := dk_133 (dk_at dksX3_lost_0 9 rfl rfl)
theorem dX3_lost_10 : decode cX3_lost 10 = .ok (.lconst 1, 1) := dk_10 (dk_at dksX3_lost_0 10 rfl rfl)
theorem dX3_lost_11 : decode cX3_lost 11 = .ok (.ldc2_w 244, 3) := dk_20 0 244 (dk_at dksX3_lost_0 11 rfl rfl)
theorem dX3_lost_14 : decode cX3_lost 14 = .ok (.invokestatic 160, 3) := dk_184 0 160 (dk_at dksX3_lost_0 14 rfl rfl)
theorem dX3_lost_17 : decode cX3_lost 17 = .ok (.ifCond .eq 21, 3) := dk_153 0 21 (dk_at dksX3_lost_0 17 rfl rfl)
theorem dX3_lost_20 : decode cX3_lost 20 = .ok (.iload_n 3, 1) := dk_29 (dk_at dksX3_lost_0 20 rfl rfl)
theorem dX3_lost_21 : decode cX3_lost 21 = .ok (.i2l, 1) := dk_133 (dk_at dksX3_lost_0 21 rfl rfl)
theorem dX3_lost_22 : decode cX3_lost 22 = .ok (.lconst 0, 1) := dk_9 (dk_at dksX3_lost_0 22 rfl rfl)
theorem dX3_lost_23 : decode cX3_lost 23 = .ok (.iconst 1, 1) := dk_4 (dk_at dksX3_lost_0 23 rfl rfl)
theorem dX3_lost_24 : decode cX3_lost 24 = .ok (.aload_n 0, 1) := dk_42 (dk_at dksX3_lost_1 0 rfl rfl)
theorem dX3_lost_25 : decode cX3_lost 25 = .ok (.getfield 166, 3) := dk_180 0 166 (dk_at dksX3_lost_1 1 rfl rfl)
theorem dX3_lost_28 : decode cX3_lost 28 = .ok (.ishl, 1) := dk_120 (dk_at dksX3_lost_1 4 rfl rfl)
theorem dX3_lost_29 : decode cX3_lost 29 = .ok (.iconst 1, 1) := dk_4 (dk_at dksX3_lost_1 5 rfl rfl)
theorem dX3_lost_30 : decode cX3_lost 30 = .ok (.isub, 1) := dk_100 (dk_at dksX3_lost_1 6 rfl rfl)
theorem dX3_lost_31 : decode cX3_lost 31 = .ok (.i2l, 1) := dk_133 (dk_at dksX3_lost_1 7 rfl rfl)
theorem dX3_lost_32 : decode cX3_lost 32 = .ok (.invokestatic 160, 3) := dk_184 0 160 (dk_at dksX3_lost_1 8 rfl rfl)
theorem dX3_lost_35 : decode cX3_lost 35 = .ok (.ifCond .ne 5, 3) := dk_154 0 5 (dk_at dksX3_lost_1 11 rfl rfl)
theorem dX3_lost_38 : decode cX3_lost 38 = .ok (.iconst (-1), 1) := dk_2 (dk_at dksX3_lost_1 14 rfl rfl)
theorem dX3_lost_39 : decode cX3_lost 39 = .ok (.ireturn, 1) := dk_172 (dk_at dksX3_lost_1 15 rfl rfl)
theorem dX3_lost_40 : decode cX3_lost 40 = .ok (.aload_n 0, 1) := dk_42 (dk_at dksX3_lost_1 16 rfl rfl)
theorem dX3_lost_41 : decode cX3_lost 41 = .ok (.iload_n 1, 1) := dk_27 (dk_at dksX3_lost_1 17 rfl rfl)
theorem dX3_lost_42 : decode cX3_lost 42 = .ok (.invokevirtual 184, 3) := dk_182 0 184 (dk_at dksX3_lost_1 18 rfl rfl)
theorem dX3_lost_45 : decode cX3_lost 45 = .ok (.istore 4, 2) := dk_54 4 (dk_at dksX3_lost_1 21 rfl rfl)
theorem dX3_lost_47 : decode cX3_lost 47 = .ok (.iconst 0, 1) := dk_3 (dk_at dksX3_lost_1 23 rfl rfl)
theorem dX3_lost_48 : decode cX3_lost 48 = .ok (.istore 5, 2) := dk_54 5 (dk_at dksX3_lost_2 0 rfl rfl)
theorem dX3_lost_50 : decode cX3_lost 50 = .ok (.iload 5, 2) := dk_21 5 (dk_at dksX3_lost_2 2 rfl rfl)
theorem dX3_lost_52 : decode cX3_lost 52 = .ok (.aload_n 0, 1) := dk_42 (dk_at dksX3_lost_2 4 rfl rfl)
theorem dX3_lost_53 : decode cX3_lost 53 = .ok (.getfield 166, 3) := dk_180 0 166 (dk_at dksX3_lost_2 5 rfl rfl)
theorem dX3_lost_56 : decode cX3_lost 56 = .ok (.if_icmp .ge 39, 3) := dk_162 0 39 (dk_at dksX3_lost_2 8 rfl rfl)
theorem dX3_lost_59 : decode cX3_lost 59 = .ok (.iload 4, 2) := dk_21 4 (dk_at dksX3_lost_2 11 rfl rfl)
theorem dX3_lost_61 : decode cX3_lost 61 = .ok (.ifCond .eq 25, 3) := dk_153 0 25 (dk_at dksX3_lost_2 13 rfl rfl)
theorem dX3_lost_64 : decode cX3_lost 64 = .ok (.iload_n 3, 1) := dk_29 (dk_at dksX3_lost_2 16 rfl rfl)
theorem dX3_lost_65 : decode cX3_lost 65 = .ok (.iload 5, 2) := dk_21 5 (dk_at dksX3_lost_2 17 rfl rfl)
theorem dX3_lost_67 : decode cX3_lost 67 = .ok (.ishr, 1) := dk_122 (dk_at dksX3_lost_2 19 rfl rfl)
theorem dX3_lost_68 : decode cX3_lost 68 = .ok (.iconst 1, 1) := dk_4 (dk_at dksX3_lost_2 20 rfl rfl)
theorem dX3_lost_69 : decode cX3_lost 69 = .ok (.iand, 1) := dk_126 (dk_at dksX3_lost_2 21 rfl rfl)
theorem dX3_lost_70 : decode cX3_lost 70 = .ok (.ifCond .eq 12, 3) := dk_153 0 12 (dk_at dksX3_lost_3 0 rfl rfl)
theorem dX3_lost_73 : decode cX3_lost 73 = .ok (.aload_n 0, 1) := dk_42 (dk_at dksX3_lost_3 3 rfl rfl)
theorem dX3_lost_74 : decode cX3_lost 74 = .ok (.iload 5, 2) := dk_21 5 (dk_at dksX3_lost_3 4 rfl rfl)
theorem dX3_lost_76 : decode cX3_lost 76 = .ok (.invokevirtual 184, 3) := dk_182 0 184 (dk_at dksX3_lost_3 6 rfl rfl)
theorem dX3_lost_79 : decode cX3_lost 79 = .ok (.ifCond .eq 7, 3) := dk_153 0 7 (dk_at dksX3_lost_3 9 rfl rfl)
theorem dX3_lost_82 : decode cX3_lost 82 = .ok (.iconst 1, 1) := dk_4 (dk_at dksX3_lost_3 12 rfl rfl)
theorem dX3_lost_83 : decode cX3_lost 83 = .ok (.goto 4, 3) := dk_167 0 4 (dk_at dksX3_lost_3 13 rfl rfl)
theorem dX3_lost_86 : decode cX3_lost 86 = .ok (.iconst 0, 1) := dk_3 (dk_at dksX3_lost_3 16 rfl rfl)
theorem dX3_lost_87 : decode cX3_lost 87 = .ok (.istore 4, 2) := dk_54 4 (dk_at dksX3_lost_3 17 rfl rfl)
theorem dX3_lost_89 : decode cX3_lost 89 = .ok (.iinc 5 1, 3) := dk_132 5 1 (dk_at dksX3_lost_3 19 rfl rfl)
theorem dX3_lost_92 : decode cX3_lost 92 = .ok (.goto (-42), 3) := dk_167 255 214 (dk_at dksX3_lost_4 0 rfl rfl)
theorem dX3_lost_95 : decode cX3_lost 95 = .ok (.iload 4, 2) := dk_21 4 (dk_at dksX3_lost_4 3 rfl rfl)
theorem dX3_lost_97 : decode cX3_lost 97 = .ok (.ifCond .ne 6, 3) := dk_154 0 6 (dk_at dksX3_lost_4 5 rfl rfl)
theorem dX3_lost_100 : decode cX3_lost 100 = .ok (.bipush (-12), 2) := dk_16 244 (dk_at dksX3_lost_4 8 rfl rfl)
theorem dX3_lost_102 : decode cX3_lost 102 = .ok (.ireturn, 1) := dk_172 (dk_at dksX3_lost_4 10 rfl rfl)
theorem dX3_lost_103 : decode cX3_lost 103 = .ok (.aload_n 0, 1) := dk_42 (dk_at dksX3_lost_4 11 rfl rfl)
theorem dX3_lost_104 : decode cX3_lost 104 = .ok (.iload_n 1, 1) := dk_27 (dk_at dksX3_lost_4 12 rfl rfl)
theorem dX3_lost_105 : decode cX3_lost 105 = .ok (.iconst 0, 1) := dk_3 (dk_at dksX3_lost_4 13 rfl rfl)
theorem dX3_lost_106 : decode cX3_lost 106 = .ok (.invokevirtual 389, 3) := dk_182 1 133 (dk_at dksX3_lost_4 14 rfl rfl)
theorem dX3_lost_109 : decode cX3_lost 109 = .ok (.iconst 0, 1) := dk_3 (dk_at dksX3_lost_4 17 rfl rfl)
theorem dX3_lost_110 : decode cX3_lost 110 = .ok (.istore 5, 2) := dk_54 5 (dk_at dksX3_lost_4 18 rfl rfl)
theorem dX3_lost_112 : decode cX3_lost 112 = .ok (.iload 5, 2) := dk_21 5 (dk_at dksX3_lost_4 20 rfl rfl)
theorem dX3_lost_114 : decode cX3_lost 114 = .ok (.bipush 16, 2) := dk_16 16 (dk_at dksX3_lost_4 22 rfl rfl)
theorem dX3_lost_116 : decode cX3_lost 116 = .ok (.if_icmp .ge 41, 3) := dk_162 0 41 (dk_at dksX3_lost_5 0 rfl rfl)
theorem dX3_lost_119 : decode cX3_lost 119 = .ok (.aload_n 0, 1) := dk_42 (dk_at dksX3_lost_5 3 rfl rfl)
theorem dX3_lost_120 : decode cX3_lost 120 = .ok (.getfield 137, 3) := dk_180 0 137 (dk_at dksX3_lost_5 4 rfl rfl)
theorem dX3_lost_123 : decode cX3_lost 123 = .ok (.iload 5, 2) := dk_21 5 (dk_at dksX3_lost_5 7 rfl rfl)
theorem dX3_lost_125 : decode cX3_lost 125 = .ok (.iload_n 3, 1) := dk_29 (dk_at dksX3_lost_5 9 rfl rfl)
theorem dX3_lost_126 : decode cX3_lost 126 = .ok (.iload 5, 2) := dk_21 5 (dk_at dksX3_lost_5 10 rfl rfl)
theorem dX3_lost_128 : decode cX3_lost 128 = .ok (.ishr, 1) := dk_122 (dk_at dksX3_lost_5 12 rfl rfl)
theorem dX3_lost_129 : decode cX3_lost 129 = .ok (.iconst 1, 1) := dk_4 (dk_at dksX3_lost_5 13 rfl rfl)
theorem dX3_lost_130 : decode cX3_lost 130 = .ok (.iand, 1) := dk_126 (dk_at dksX3_lost_5 14 rfl rfl)
theorem dX3_lost_131 : decode cX3_lost 131 = .ok (.iconst 1, 1) := dk_4 (dk_at dksX3_lost_5 15 rfl rfl)
theorem dX3_lost_132 : decode cX3_lost 132 = .ok (.if_icmp .ne 17, 3) := dk_160 0 17 (dk_at dksX3_lost_5 16 rfl rfl)
theorem dX3_lost_135 : decode cX3_lost 135 = .ok (.aload_n 0, 1) := dk_42 (dk_at dksX3_lost_5 19 rfl rfl)
theorem dX3_lost_136 : decode cX3_lost 136 = .ok (.getfield 134, 3) := dk_180 0 134 (dk_at dksX3_lost_5 20 rfl rfl)
theorem dX3_lost_139 : decode cX3_lost 139 = .ok (.iload 5, 2) := dk_21 5 (dk_at dksX3_lost_6 0 rfl rfl)
theorem dX3_lost_141 : decode cX3_lost 141 = .ok (.iaload, 1) := dk_46 (dk_at dksX3_lost_6 2 rfl rfl)
theorem dX3_lost_142 : decode cX3_lost 142 = .ok (.ifCond .eq 7, 3) := dk_153 0 7 (dk_at dksX3_lost_6 3 rfl rfl)
theorem dX3_lost_145 : decode cX3_lost 145 = .ok (.iconst 0, 1) := dk_3 (dk_at dksX3_lost_6 6 rfl rfl)
theorem dX3_lost_146 : decode cX3_lost 146 = .ok (.goto 4, 3) := dk_167 0 4 (dk_at dksX3_lost_6 7 rfl rfl)
theorem dX3_lost_149 : decode cX3_lost 149 = .ok (.iconst (-1), 1) := dk_2 (dk_at dksX3_lost_6 10 rfl rfl)
theorem dX3_lost_150 : decode cX3_lost 150 = .ok (.iastore, 1) := dk_79 (dk_at dksX3_lost_6 11 rfl rfl)
theorem dX3_lost_151 : decode cX3_lost 151 = .ok (.iinc 5 1, 3) := dk_132 5 1 (dk_at dksX3_lost_6 12 rfl rfl)
theorem dX3_lost_154 : decode cX3_lost 154 = .ok (.goto (-42), 3) := dk_167 255 214 (dk_at dksX3_lost_6 15 rfl rfl)
theorem dX3_lost_157 : decode cX3_lost 157 = .ok (.iconst 1, 1) := dk_4 (dk_at dksX3_lost_6 18 rfl rfl)
theorem dX3_lost_158 : decode cX3_lost 158 = .ok (.istore 5, 2) := dk_54 5 (dk_at dksX3_lost_6 19 rfl rfl)
theorem dX3_lost_160 : decode cX3_lost 160 = .ok (.iload 5, 2) := dk_21 5 (dk_at dksX3_lost_6 21 rfl rfl)
theorem dX3_lost_162 : decode cX3_lost 162 = .ok (.ifCond .eq 173, 3) := dk_153 0 173 (dk_at dksX3_lost_7 0 rfl rfl)
theorem dX3_lost_165 : decode cX3_lost 165 = .ok (.iconst 0, 1) := dk_3 (dk_at dksX3_lost_7 3 rfl rfl)
theorem dX3_lost_166 : decode cX3_lost 166 = .ok (.istore 5, 2) := dk_54 5 (dk_at dksX3_lost_7 4 rfl rfl)
theorem dX3_lost_168 : decode cX3_lost 168 = .ok (.iconst 0, 1) := dk_3 (dk_at dksX3_lost_7 6 rfl rfl)
theorem dX3_lost_169 : decode cX3_lost 169 = .ok (.istore 6, 2) := dk_54 6 (dk_at dksX3_lost_7 7 rfl rfl)
theorem dX3_lost_171 : decode cX3_lost 171 = .ok (.iload 6, 2) := dk_21 6 (dk_at dksX3_lost_7 9 rfl rfl)
theorem dX3_lost_173 : decode cX3_lost 173 = .ok (.aload_n 0, 1) := dk_42 (dk_at dksX3_lost_7 11 rfl rfl)
theorem dX3_lost_174 : decode cX3_lost 174 = .ok (.getfield 166, 3) := dk_180 0 166 (dk_at dksX3_lost_7 12 rfl rfl)
theorem dX3_lost_177 : decode cX3_lost 177 = .ok (.if_icmp .ge 155, 3) := dk_162 0 155 (dk_at dksX3_lost_7 15 rfl rfl)
theorem dX3_lost_180 : decode cX3_lost 180 = .ok (.iconst 0, 1) := dk_3 (dk_at dksX3_lost_7 18 rfl rfl)
theorem dX3_lost_181 : decode cX3_lost 181 = .ok (.istore 7, 2) := dk_54 7 (dk_at dksX3_lost_7 19 rfl rfl)
theorem dX3_lost_183 : decode cX3_lost 183 = .ok (.iload 7, 2) := dk_21 7 (dk_at dksX3_lost_7 21 rfl rfl)
theorem dX3_lost_185 : decode cX3_lost 185 = .ok (.aload_n 0, 1) := dk_42 (dk_at dksX3_lost_7 23 rfl rfl)
theorem dX3_lost_186 : decode cX3_lost 186 = .ok (.getfield 166, 3) := dk_180 0 166 (dk_at dksX3_lost_8 0 rfl rfl)
theorem dX3_lost_189 : decode cX3_lost 189 = .ok (.if_icmp .ge 137, 3) := dk_162 0 137 (dk_at dksX3_lost_8 3 rfl rfl)
theorem dX3_lost_192 : decode cX3_lost 192 = .ok (.aload_n 0, 1) := dk_42 (dk_at dksX3_lost_8 6 rfl rfl)
theorem dX3_lost_193 : decode cX3_lost 193 = .ok (.getfield 137, 3) := dk_180 0 137 (dk_at dksX3_lost_8 7 rfl rfl)
theorem dX3_lost_196 : decode cX3_lost 196 = .ok (.iload 6, 2) := dk_21 6 (dk_at dksX3_lost_8 10 rfl rfl)
theorem dX3_lost_198 : decode cX3_lost 198 = .ok (.iaload, 1) := dk_46 (dk_at dksX3_lost_8 12 rfl rfl)
theorem dX3_lost_199 : decode cX3_lost 199 = .ok (.ifCond .lt 127, 3) := dk_155 0 127 (dk_at dksX3_lost_8 13 rfl rfl)
theorem dX3_lost_202 : decode cX3_lost 202 = .ok (.aload_n 0, 1) := dk_42 (dk_at dksX3_lost_8 16 rfl rfl)
theorem dX3_lost_203 : decode cX3_lost 203 = .ok (.getfield 28, 3) := dk_180 0 28 (dk_at dksX3_lost_8 17 rfl rfl)
theorem dX3_lost_206 : decode cX3_lost 206 = .ok (.iload 6, 2) := dk_21 6 (dk_at dksX3_lost_8 20 rfl rfl)
theorem dX3_lost_208 : decode cX3_lost 208 = .ok (.iaload, 1) := dk_46 (dk_at dksX3_lost_8 22 rfl rfl)
theorem dX3_lost_209 : decode cX3_lost 209 = .ok (.iload 7, 2) := dk_21 7 (dk_at dksX3_lost_9 0 rfl rfl)
theorem dX3_lost_211 : decode cX3_lost 211 = .ok (.ishr, 1) := dk_122 (dk_at dksX3_lost_9 2 rfl rfl)
theorem dX3_lost_212 : decode cX3_lost 212 = .ok (.iconst 1, 1) := dk_4 (dk_at dksX3_lost_9 3 rfl rfl)
theorem dX3_lost_213 : decode cX3_lost 213 = .ok (.iand, 1) := dk_126 (dk_at dksX3_lost_9 4 rfl rfl)
theorem dX3_lost_214 : decode cX3_lost 214 = .ok (.iconst 1, 1) := dk_4 (dk_at dksX3_lost_9 5 rfl rfl)
theorem dX3_lost_215 : decode cX3_lost 215 = .ok (.if_icmp .ne 14, 3) := dk_160 0 14 (dk_at dksX3_lost_9 6 rfl rfl)
theorem dX3_lost_218 : decode cX3_lost 218 = .ok (.aload_n 0, 1) := dk_42 (dk_at dksX3_lost_9 9 rfl rfl)
theorem dX3_lost_219 : decode cX3_lost 219 = .ok (.iload 6, 2) := dk_21 6 (dk_at dksX3_lost_9 10 rfl rfl)
theorem dX3_lost_221 : decode cX3_lost 221 = .ok (.iload 7, 2) := dk_21 7 (dk_at dksX3_lost_9 12 rfl rfl)
theorem dX3_lost_223 : decode cX3_lost 223 = .ok (.invokevirtual 180, 3) := dk_182 0 180 (dk_at dksX3_lost_9 14 rfl rfl)
theorem dX3_lost_226 : decode cX3_lost 226 = .ok (.goto 5, 3) := dk_167 0 5 (dk_at dksX3_lost_9 17 rfl rfl)
theorem dX3_lost_229 : decode cX3_lost 229 = .ok (.bipush (-4), 2) := dk_16 252 (dk_at dksX3_lost_9 20 rfl rfl)
theorem dX3_lost_231 : decode cX3_lost 231 = .ok (.istore 8, 2) := dk_54 8 (dk_at dksX3_lost_9 22 rfl rfl)
theorem dX3_lost_233 : decode cX3_lost 233 = .ok (.aload_n 0, 1) := dk_42 (dk_at dksX3_lost_10 0 rfl rfl)
theorem dX3_lost_234 : decode cX3_lost 234 = .ok (.getfield 137, 3) := dk_180 0 137 (dk_at dksX3_lost_10 1 rfl rfl)
theorem dX3_lost_237 : decode cX3_lost 237 = .ok (.iload 6, 2) := dk_21 6 (dk_at dksX3_lost_10 4 rfl rfl)
theorem dX3_lost_239 : decode cX3_lost 239 = .ok (.iaload, 1) := dk_46 (dk_at dksX3_lost_10 6 rfl rfl)
theorem dX3_lost_240 : decode cX3_lost 240 = .ok (.iload 8, 2) := dk_21 8 (dk_at dksX3_lost_10 7 rfl rfl)
theorem dX3_lost_242 : decode cX3_lost 242 = .ok (.iadd, 1) := dk_96 (dk_at dksX3_lost_10 9 rfl rfl)
theorem dX3_lost_243 : decode cX3_lost 243 = .ok (.istore 9, 2) := dk_54 9 (dk_at dksX3_lost_10 10 rfl rfl)
theorem dX3_lost_245 : decode cX3_lost 245 = .ok (.aload_n 0, 1) := dk_42 (dk_at dksX3_lost_10 12 rfl rfl)
theorem dX3_lost_246 : decode cX3_lost 246 = .ok (.getfield 134, 3) := dk_180 0 134 (dk_at dksX3_lost_10 13 rfl rfl)
theorem dX3_lost_249 : decode cX3_lost 249 = .ok (.iload 7, 2) := dk_21 7 (dk_at dksX3_lost_10 16 rfl rfl)
theorem dX3_lost_251 : decode cX3_lost 251 = .ok (.iaload, 1) := dk_46 (dk_at dksX3_lost_10 18 rfl rfl)
theorem dX3_lost_252 : decode cX3_lost 252 = .ok (.ifCond .lt 17, 3) := dk_155 0 17 (dk_at dksX3_lost_10 19 rfl rfl)
theorem dX3_lost_255 : decode cX3_lost 255 = .ok (.iload 9, 2) := dk_21 9 (dk_at dksX3_lost_10 22 rfl rfl)
theorem dX3_lost_257 : decode cX3_lost 257 = .ok (.iload_n 2, 1) := dk_28 (dk_at dksX3_lost_11 0 rfl rfl)
theorem dX3_lost_258 : decode cX3_lost 258 = .ok (.aload_n 0, 1) := dk_42 (dk_at dksX3_lost_11 1 rfl rfl)
theorem dX3_lost_259 : decode cX3_lost 259 = .ok (.getfield 134, 3) := dk_180 0 134 (dk_at dksX3_lost_11 2 rfl rfl)
theorem dX3_lost_262 : decode cX3_lost 262 = .ok (.iload 7, 2) := dk_21 7 (dk_at dksX3_lost_11 5 rfl rfl)
theorem dX3_lost_264 : decode cX3_lost 264 = .ok (.iaload, 1) := dk_46 (dk_at dksX3_lost_11 7 rfl rfl)
theorem dX3_lost_265 : decode cX3_lost 265 = .ok (.imul, 1) := dk_104 (dk_at dksX3_lost_11 8 rfl rfl)
theorem dX3_lost_266 : decode cX3_lost 266 = .ok (.if_icmp .ge 7, 3) := dk_162 0 7 (dk_at dksX3_lost_11 9 rfl rfl)
theorem dX3_lost_269 : decode cX3_lost 269 = .ok (.iconst 1, 1) := dk_4 (dk_at dksX3_lost_11 12 rfl rfl)
theorem dX3_lost_270 : decode cX3_lost 270 = .ok (.goto 4, 3) := dk_167 0 4 (dk_at dksX3_lost_11 13 rfl rfl)
theorem dX3_lost_273 : decode cX3_lost 273 = .ok (.iconst 0, 1) := dk_3 (dk_at dksX3_lost_11 16 rfl rfl)
theorem dX3_lost_274 : decode cX3_lost 274 = .ok (.istore 10, 2) := dk_54 10 (dk_at dksX3_lost_11 17 rfl rfl)
theorem dX3_lost_276 : decode cX3_lost 276 = .ok (.iload 8, 2) := dk_21 8 (dk_at dksX3_lost_11 19 rfl rfl)
theorem dX3_lost_278 : decode cX3_lost 278 = .ok (.ifCond .lt 42, 3) := dk_155 0 42 (dk_at dksX3_lost_11 21 rfl rfl)
theorem dX3_lost_281 : decode cX3_lost 281 = .ok (.iload 10, 2) := dk_21 10 (dk_at dksX3_lost_12 0 rfl rfl)
theorem dX3_lost_283 : decode cX3_lost 283 = .ok (.ifCond .eq 37, 3) := dk_153 0 37 (dk_at dksX3_lost_12 2 rfl rfl)
theorem dX3_lost_286 : decode cX3_lost 286 = .ok (.aload_n 0, 1) := dk_42 (dk_at dksX3_lost_12 5 rfl rfl)
theorem dX3_lost_287 : decode cX3_lost 287 = .ok (.getfield 137, 3) := dk_180 0 137 (dk_at dksX3_lost_12 6 rfl rfl)
theorem dX3_lost_290 : decode cX3_lost 290 = .ok (.iload 7, 2) := dk_21 7 (dk_at dksX3_lost_12 9 rfl rfl)
theorem dX3_lost_292 : decode cX3_lost 292 = .ok (.iaload, 1) := dk_46 (dk_at dksX3_lost_12 11 rfl rfl)
theorem dX3_lost_293 : decode cX3_lost 293 = .ok (.ifCond .lt 15, 3) := dk_155 0 15 (dk_at dksX3_lost_12 12 rfl rfl)
theorem dX3_lost_296 : decode cX3_lost 296 = .ok (.iload 9, 2) := dk_21 9 (dk_at dksX3_lost_12 15 rfl rfl)
theorem dX3_lost_298 : decode cX3_lost 298 = .ok (.aload_n 0, 1) := dk_42 (dk_at dksX3_lost_12 17 rfl rfl)
theorem dX3_lost_299 : decode cX3_lost 299 = .ok (.getfield 137, 3) := dk_180 0 137 (dk_at dksX3_lost_12 18 rfl rfl)
theorem dX3_lost_302 : decode cX3_lost 302 = .ok (.iload 7, 2) := dk_21 7 (dk_at dksX3_lost_12 21 rfl rfl)
theorem dX3_lost_304 : decode cX3_lost 304 = .ok (.iaload, 1) := dk_46 (dk_at dksX3_lost_12 23 rfl rfl)
theorem dX3_lost_305 : decode cX3_lost 305 = .ok (.if_icmp .ge 15, 3) := dk_162 0 15 (dk_at dksX3_lost_13 0 rfl rfl)
theorem dX3_lost_308 : decode cX3_lost 308 = .ok (.aload_n 0, 1) := dk_42 (dk_at dksX3_lost_13 3 rfl rfl)
theorem dX3_lost_309 : decode cX3_lost 309 = .ok (.getfield 137, 3) := dk_180 0 137 (dk_at dksX3_lost_13 4 rfl rfl)
theorem dX3_lost_312 : decode cX3_lost 312 = .ok (.iload 7, 2) := dk_21 7 (dk_at dksX3_lost_13 7 rfl rfl)
theorem dX3_lost_314 : decode cX3_lost 314 = .ok (.iload 9, 2) := dk_21 9 (dk_at dksX3_lost_13 9 rfl rfl)
theorem dX3_lost_316 : decode cX3_lost 316 = .ok (.iastore, 1) := dk_79 (dk_at dksX3_lost_13 11 rfl rfl)
theorem dX3_lost_317 : decode cX3_lost 317 = .ok (.iconst 1, 1) := dk_4 (dk_at dksX3_lost_13 12 rfl rfl)
theorem dX3_lost_318 : decode cX3_lost 318 = .ok (.istore 5, 2) := dk_54 5 (dk_at dksX3_lost_13 13 rfl rfl)
theorem dX3_lost_320 : decode cX3_lost 320 = .ok (.iinc 7 1, 3) := dk_132 7 1 (dk_at dksX3_lost_13 15 rfl rfl)
theorem dX3_lost_323 : decode cX3_lost 323 = .ok (.goto (-140), 3) := dk_167 255 116 (dk_at dksX3_lost_13 18 rfl rfl)
theorem dX3_lost_326 : decode cX3_lost 326 = .ok (.iinc 6 1, 3) := dk_132 6 1 (dk_at dksX3_lost_13 21 rfl rfl)
theorem dX3_lost_329 : decode cX3_lost 329 = .ok (.goto (-158), 3) := dk_167 255 98 (dk_at dksX3_lost_14 0 rfl rfl)
theorem dX3_lost_332 : decode cX3_lost 332 = .ok (.goto (-172), 3) := dk_167 255 84 (dk_at dksX3_lost_14 3 rfl rfl)
theorem dX3_lost_335 : decode cX3_lost 335 = .ok (.iconst 0, 1) := dk_3 (dk_at dksX3_lost_14 6 rfl rfl)
theorem dX3_lost_336 : decode cX3_lost 336 = .ok (.istore 6, 2) := dk_54 6 (dk_at dksX3_lost_14 7 rfl rfl)
theorem dX3_lost_338 : decode cX3_lost 338 = .ok (.iconst 0, 1) := dk_3 (dk_at dksX3_lost_14 9 rfl rfl)
theorem dX3_lost_339 : decode cX3_lost 339 = .ok (.istore 7, 2) := dk_54 7 (dk_at dksX3_lost_14 10 rfl rfl)
theorem dX3_lost_341 : decode cX3_lost 341 = .ok (.iload 7, 2) := dk_21 7 (dk_at dksX3_lost_14 12 rfl rfl)
theorem dX3_lost_343 : decode cX3_lost 343 = .ok (.aload_n 0, 1) := dk_42 (dk_at dksX3_lost_14 14 rfl rfl)
theorem dX3_lost_344 : decode cX3_lost 344 = .ok (.getfield 166, 3) := dk_180 0 166 (dk_at dksX3_lost_14 15 rfl rfl)
theorem dX3_lost_347 : decode cX3_lost 347 = .ok (.if_icmp .ge 42, 3) := dk_162 0 42 (dk_at dksX3_lost_14 18 rfl rfl)
theorem dX3_lost_350 : decode cX3_lost 350 = .ok (.iload 6, 2) := dk_21 6 (dk_at dksX3_lost_14 21 rfl rfl)
theorem dX3_lost_352 : decode cX3_lost 352 = .ok (.aload_n 0, 1) := dk_42 (dk_at dksX3_lost_14 23 rfl rfl)
theorem dX3_lost_353 : decode cX3_lost 353 = .ok (.getfield 134, 3) := dk_180 0 134 (dk_at dksX3_lost_15 0 rfl rfl)
theorem dX3_lost_356 : decode cX3_lost 356 = .ok (.iload 7, 2) := dk_21 7 (dk_at dksX3_lost_15 3 rfl rfl)
theorem dX3_lost_358 : decode cX3_lost 358 = .ok (.iaload, 1) := dk_46 (dk_at dksX3_lost_15 5 rfl rfl)
theorem dX3_lost_359 : decode cX3_lost 359 = .ok (.ifCond .lt 20, 3) := dk_155 0 20 (dk_at dksX3_lost_15 6 rfl rfl)
theorem dX3_lost_362 : decode cX3_lost 362 = .ok (.aload_n 0, 1) := dk_42 (dk_at dksX3_lost_15 9 rfl rfl)
theorem dX3_lost_363 : decode cX3_lost 363 = .ok (.getfield 137, 3) := dk_180 0 137 (dk_at dksX3_lost_15 10 rfl rfl)
theorem dX3_lost_366 : decode cX3_lost 366 = .ok (.iload 7, 2) := dk_21 7 (dk_at dksX3_lost_15 13 rfl rfl)
theorem dX3_lost_368 : decode cX3_lost 368 = .ok (.iaload, 1) := dk_46 (dk_at dksX3_lost_15 15 rfl rfl)
theorem dX3_lost_369 : decode cX3_lost 369 = .ok (.ifCond .ge 10, 3) := dk_156 0 10 (dk_at dksX3_lost_15 16 rfl rfl)
theorem dX3_lost_372 : decode cX3_lost 372 = .ok (.iconst 1, 1) := dk_4 (dk_at dksX3_lost_15 19 rfl rfl)
theorem dX3_lost_373 : decode cX3_lost 373 = .ok (.iload 7, 2) := dk_21 7 (dk_at dksX3_lost_15 20 rfl rfl)
theorem dX3_lost_375 : decode cX3_lost 375 = .ok (.ishl, 1) := dk_120 (dk_at dksX3_lost_15 22 rfl rfl)
theorem dX3_lost_376 : decode cX3_lost 376 = .ok (.goto 4, 3) := dk_167 0 4 (dk_at dksX3_lost_16 0 rfl rfl)
theorem dX3_lost_379 : decode cX3_lost 379 = .ok (.iconst 0, 1) := dk_3 (dk_at dksX3_lost_16 3 rfl rfl)
theorem dX3_lost_380 : decode cX3_lost 380 = .ok (.ior, 1) := dk_128 (dk_at dksX3_lost_16 4 rfl rfl)
theorem dX3_lost_381 : decode cX3_lost 381 = .ok (.istore 6, 2) := dk_54 6 (dk_at dksX3_lost_16 5 rfl rfl)
theorem dX3_lost_383 : decode cX3_lost 383 = .ok (.iinc 7 1, 3) := dk_132 7 1 (dk_at dksX3_lost_16 7 rfl rfl)
theorem dX3_lost_386 : decode cX3_lost 386 = .ok (.goto (-45), 3) := dk_167 255 211 (dk_at dksX3_lost_16 10 rfl rfl)
theorem dX3_lost_389 : decode cX3_lost 389 = .ok (.iload 6, 2) := dk_21 6 (dk_at dksX3_lost_16 13 rfl rfl)
theorem dX3_lost_391 : decode cX3_lost 391 = .ok (.ireturn, 1) := dk_172 (dk_at dksX3_lost_16 15 rfl rfl)
abbrev cX3_tie : ByteArray := prog_19_method_89_code
def yX3_tie : MethodName := ⟨RX3, "tie", "(II)I"⟩
def dkwX3_tie_5 : List UInt8 := [100, 172]
abbrev dktX3_tie_5 : List UInt8 := dkwX3_tie_5 ++ []
def dkwX3_tie_4 : List UInt8 := [180, 0, 143, 42, 180, 1, 136, 28, 79, 42, 89, 180, 1, 136, 4, 96, 181, 1, 136, 42, 180, 1, 136, 4]
abbrev dktX3_tie_4 : List UInt8 := dkwX3_tie_4 ++ dktX3_tie_5
def dkwX3_tie_3 : List UInt8 := [180, 1, 136, 16, 8, 160, 0, 6, 16, 253, 172, 42, 180, 0, 140, 42, 180, 1, 136, 27, 79, 42]
abbrev dktX3_tie_3 : List UInt8 := dkwX3_tie_3 ++ dktX3_tie_4
def dkwX3_tie_2 : List UInt8 := [28, 122, 4, 126, 153, 0, 15, 42, 27, 28, 17, 0, 255, 182, 1, 130, 153, 0, 6, 16, 254, 172, 42]
abbrev dktX3_tie_2 : List UInt8 := dkwX3_tie_2 ++ dktX3_tie_3
def dkwX3_tie_1 : List UInt8 := [27, 182, 0, 184, 153, 0, 11, 42, 28, 182, 0, 184, 154, 0, 6, 16, 244, 172, 42, 180, 0, 28, 27, 46]
abbrev dktX3_tie_1 : List UInt8 := dkwX3_tie_1 ++ dktX3_tie_2
def dkwX3_tie_0 : List UInt8 := [42, 27, 182, 0, 176, 153, 0, 16, 42, 28, 182, 0, 176, 153, 0, 8, 27, 28, 160, 0, 5, 2, 172, 42]
abbrev dktX3_tie_0 : List UInt8 := dkwX3_tie_0 ++ dktX3_tie_1
theorem dksX3_tie_0 : cX3_tie.data.toList.drop 0 = dktX3_tie_0 := by decide +kernel
theorem dksX3_tie_1 : cX3_tie.data.toList.drop 24 = dktX3_tie_1 := dk_seg dksX3_tie_0 24 rfl rfl
theorem dksX3_tie_2 : cX3_tie.data.toList.drop 48 = dktX3_tie_2 := dk_seg dksX3_tie_1 24 rfl rfl
theorem dksX3_tie_3 : cX3_tie.data.toList.drop 71 = dktX3_tie_3 := dk_seg dksX3_tie_2 23 rfl rfl
theorem dksX3_tie_4 : cX3_tie.data.toList.drop 93 = dktX3_tie_4 := dk_seg dksX3_tie_3 22 rfl rfl
theorem dksX3_tie_5 : cX3_tie.data.toList.drop 117 = dktX3_tie_5 := dk_seg dksX3_tie_4 24 rfl rfl
theorem dX3_tie_0 : decode cX3_tie 0 = .ok (.aload_n 0, 1) := dk_42 (dk_at dksX3_tie_0 0 rfl rfl)
theorem dX3_tie_1 : decode cX3_tie 1 = .ok (.iload_n 1, 1) := dk_27 (dk_at dksX3_tie_0 1 rfl rfl)
theorem dX3_tie_2 : decode cX3_tie 2 = .ok (.invokevirtual 176, 3) := dk_182 0 176 (dk_at dksX3_tie_0 2 rfl rfl)
theorem dX3_tie_5 : decode cX3_tie 5 = .ok (.ifCond .eq 16, 3) := dk_153 0 16 (dk_at dksX3_tie_0 5 rfl rfl)
theorem dX3_tie_8 : decode cX3_tie 8 = .ok (.aload_n 0, 1) := dk_42 (dk_at dksX3_tie_0 8 rfl rfl)
theorem dX3_tie_9 : decode cX3_tie 9 = .ok (.iload_n 2, 1) := dk_28 (dk_at dksX3_tie_0 9 rfl rfl)
theorem dX3_tie_10 : decode cX3_tie 10 = .ok (.invokevirtual 176, 3) := dk_182 0 176 (dk_at dksX3_tie_0 10 rfl rfl)
theorem dX3_tie_13 : decode cX3_tie 13 = .ok (.ifCond .eq 8, 3) := dk_153 0 8 (dk_at dksX3_tie_0 13 rfl rfl)
theorem dX3_tie_16 : decode cX3_tie 16 = .ok (.iload_n 1, 1) := dk_27 (dk_at dksX3_tie_0 16 rfl rfl)
theorem dX3_tie_17 : decode cX3_tie 17 = .ok (.iload_n 2, 1) := dk_28 (dk_at dksX3_tie_0 17 rfl rfl)
theorem dX3_tie_18 : decode cX3_tie 18 = .ok (.if_icmp .ne 5, 3) := dk_160 0 5 (dk_at dksX3_tie_0 18 rfl rfl)
theorem dX3_tie_21 : decode cX3_tie 21 = .ok (.iconst (-1), 1) := dk_2 (dk_at dksX3_tie_0 21 rfl rfl)
theorem dX3_tie_22 : decode cX3_tie 22 = .ok (.ireturn, 1) := dk_172 (dk_at dksX3_tie_0 22 rfl rfl)
theorem dX3_tie_23 : decode cX3_tie 23 = .ok (.aload_n 0, 1) := dk_42 (dk_at dksX3_tie_0 23 rfl rfl)
theorem dX3_tie_24 : decode cX3_tie 24 = .ok (.iload_n 1, 1) := dk_27 (dk_at dksX3_tie_1 0 rfl rfl)
theorem dX3_tie_25 : decode cX3_tie 25 = .ok (.invokevirtual 184, 3) := dk_182 0 184 (dk_at dksX3_tie_1 1 rfl rfl)
theorem dX3_tie_28 : decode cX3_tie 28 = .ok (.ifCond .eq 11, 3) := dk_153 0 11 (dk_at dksX3_tie_1 4 rfl rfl)
theorem dX3_tie_31 : decode cX3_tie 31 = .ok (.aload_n 0, 1) := dk_42 (dk_at dksX3_tie_1 7 rfl rfl)
theorem dX3_tie_32 : decode cX3_tie 32 = .ok (.iload_n 2, 1) := dk_28 (dk_at dksX3_tie_1 8 rfl rfl)
theorem dX3_tie_33 : decode cX3_tie 33 = .ok (.invokevirtual 184, 3) := dk_182 0 184 (dk_at dksX3_tie_1 9 rfl rfl)
theorem dX3_tie_36 : decode cX3_tie 36 = .ok (.ifCond .ne 6, 3) := dk_154 0 6 (dk_at dksX3_tie_1 12 rfl rfl)
theorem dX3_tie_39 : decode cX3_tie 39 = .ok (.bipush (-12), 2) := dk_16 244 (dk_at dksX3_tie_1 15 rfl rfl)
theorem dX3_tie_41 : decode cX3_tie 41 = .ok (.ireturn, 1) := dk_172 (dk_at dksX3_tie_1 17 rfl rfl)
theorem dX3_tie_42 : decode cX3_tie 42 = .ok (.aload_n 0, 1) := dk_42 (dk_at dksX3_tie_1 18 rfl rfl)
theorem dX3_tie_43 : decode cX3_tie 43 = .ok (.getfield 28, 3) := dk_180 0 28 (dk_at dksX3_tie_1 19 rfl rfl)
theorem dX3_tie_46 : decode cX3_tie 46 = .ok (.iload_n 1, 1) := dk_27 (dk_at dksX3_tie_1 22 rfl rfl)
theorem dX3_tie_47 : decode cX3_tie 47 = .ok (.iaload, 1) := dk_46 (dk_at dksX3_tie_1 23 rfl rfl)
theorem dX3_tie_48 : decode cX3_tie 48 = .ok (.iload_n 2, 1) := dk_28 (dk_at dksX3_tie_2 0 rfl rfl)
theorem dX3_tie_49 : decode cX3_tie 49 = .ok (.ishr, 1) := dk_122 (dk_at dksX3_tie_2 1 rfl rfl)
theorem dX3_tie_50 : decode cX3_tie 50 = .ok (.iconst 1, 1) := dk_4 (dk_at dksX3_tie_2 2 rfl rfl)
theorem dX3_tie_51 : decode cX3_tie 51 = .ok (.iand, 1) := dk_126 (dk_at dksX3_tie_2 3 rfl rfl)
theorem dX3_tie_52 : decode cX3_tie 52 = .ok (.ifCond .eq 15, 3) := dk_153 0 15 (dk_at dksX3_tie_2 4 rfl rfl)
theorem dX3_tie_55 : decode cX3_tie 55 = .ok (.aload_n 0, 1) := dk_42 (dk_at dksX3_tie_2 7 rfl rfl)
theorem dX3_tie_56 : decode cX3_tie 56 = .ok (.iload_n 1, 1) := dk_27 (dk_at dksX3_tie_2 8 rfl rfl)
theorem dX3_tie_57 : decode cX3_tie 57 = .ok (.iload_n 2, 1) := dk_28 (dk_at dksX3_tie_2 9 rfl rfl)
theorem dX3_tie_58 : decode cX3_tie 58 = .ok (.sipush 255, 3) := dk_17 0 255 (dk_at dksX3_tie_2 10 rfl rfl)
theorem dX3_tie_61 : decode cX3_tie 61 = .ok (.invokevirtual 386, 3) := dk_182 1 130 (dk_at dksX3_tie_2 13 rfl rfl)
theorem dX3_tie_64 : decode cX3_tie 64 = .ok (.ifCond .eq 6, 3) := dk_153 0 6 (dk_at dksX3_tie_2 16 rfl rfl)
theorem dX3_tie_67 : decode cX3_tie 67 = .ok (.bipush (-2), 2) := dk_16 254 (dk_at dksX3_tie_2 19 rfl rfl)
theorem dX3_tie_69 : decode cX3_tie 69 = .ok (.ireturn, 1) := dk_172 (dk_at dksX3_tie_2 21 rfl rfl)
theorem dX3_tie_70 : decode cX3_tie 70 = .ok (.aload_n 0, 1) := dk_42 (dk_at dksX3_tie_2 22 rfl rfl)
theorem dX3_tie_71 : decode cX3_tie 71 = .ok (.getfield 392, 3) := dk_180 1 136 (dk_at dksX3_tie_3 0 rfl rfl)
theorem dX3_tie_74 : decode cX3_tie 74 = .ok (.bipush 8, 2) := dk_16 8 (dk_at dksX3_tie_3 3 rfl rfl)
theorem dX3_tie_76 : decode cX3_tie 76 = .ok (.if_icmp .ne 6, 3) := dk_160 0 6 (dk_at dksX3_tie_3 5 rfl rfl)
theorem dX3_tie_79 : decode cX3_tie 79 = .ok (.bipush (-3), 2) := dk_16 253 (dk_at dksX3_tie_3 8 rfl rfl)
theorem dX3_tie_81 : decode cX3_tie 81 = .ok (.ireturn, 1) := dk_172 (dk_at dksX3_tie_3 10 rfl rfl)
theorem dX3_tie_82 : decode cX3_tie 82 = .ok (.aload_n 0, 1) := dk_42 (dk_at dksX3_tie_3 11 rfl rfl)
theorem dX3_tie_83 : decode cX3_tie 83 = .ok (.getfield 140, 3) := dk_180 0 140 (dk_at dksX3_tie_3 12 rfl rfl)
theorem dX3_tie_86 : decode cX3_tie 86 = .ok (.aload_n 0, 1) := dk_42 (dk_at dksX3_tie_3 15 rfl rfl)
theorem dX3_tie_87 : decode cX3_tie 87 = .ok (.getfield 392, 3) := dk_180 1 136 (dk_at dksX3_tie_3 16 rfl rfl)
theorem dX3_tie_90 : decode cX3_tie 90 = .ok (.iload_n 1, 1) := dk_27 (dk_at dksX3_tie_3 19 rfl rfl)
theorem dX3_tie_91 : decode cX3_tie 91 = .ok (.iastore, 1) := dk_79 (dk_at dksX3_tie_3 20 rfl rfl)
theorem dX3_tie_92 : decode cX3_tie 92 = .ok (.aload_n 0, 1) := dk_42 (dk_at dksX3_tie_3 21 rfl rfl)
theorem dX3_tie_93 : decode cX3_tie 93 = .ok (.getfield 143, 3) := dk_180 0 143 (dk_at dksX3_tie_4 0 rfl rfl)
theorem dX3_tie_96 : decode cX3_tie 96 = .ok (.aload_n 0, 1) := dk_42 (dk_at dksX3_tie_4 3 rfl rfl)
theorem dX3_tie_97 : decode cX3_tie 97 = .ok (.getfield 392, 3) := dk_180 1 136 (dk_at dksX3_tie_4 4 rfl rfl)
theorem dX3_tie_100 : decode cX3_tie 100 = .ok (.iload_n 2, 1) := dk_28 (dk_at dksX3_tie_4 7 rfl rfl)
theorem dX3_tie_101 : decode cX3_tie 101 = .ok (.iastore, 1) := dk_79 (dk_at dksX3_tie_4 8 rfl rfl)
theorem dX3_tie_102 : decode cX3_tie 102 = .ok (.aload_n 0, 1) := dk_42 (dk_at dksX3_tie_4 9 rfl rfl)
theorem dX3_tie_103 : decode cX3_tie 103 = .ok (.dup, 1) := dk_89 (dk_at dksX3_tie_4 10 rfl rfl)
theorem dX3_tie_104 : decode cX3_tie 104 = .ok (.getfield 392, 3) := dk_180 1 136 (dk_at dksX3_tie_4 11 rfl rfl)
theorem dX3_tie_107 : decode cX3_tie 107 = .ok (.iconst 1, 1) := dk_4 (dk_at dksX3_tie_4 14 rfl rfl)
theorem dX3_tie_108 : decode cX3_tie 108 = .ok (.iadd, 1) := dk_96 (dk_at dksX3_tie_4 15 rfl rfl)
theorem dX3_tie_109 : decode cX3_tie 109 = .ok (.putfield 392, 3) := dk_181 1 136 (dk_at dksX3_tie_4 16 rfl rfl)
theorem dX3_tie_112 : decode cX3_tie 112 = .ok (.aload_n 0, 1) := dk_42 (dk_at dksX3_tie_4 19 rfl rfl)
theorem dX3_tie_113 : decode cX3_tie 113 = .ok (.getfield 392, 3) := dk_180 1 136 (dk_at dksX3_tie_4 20 rfl rfl)
theorem dX3_tie_116 : decode cX3_tie 116 = .ok (.iconst 1, 1) := dk_4 (dk_at dksX3_tie_4 23 rfl rfl)
theorem dX3_tie_117 : decode cX3_tie 117 = .ok (.isub, 1) := dk_100 (dk_at dksX3_tie_5 0 rfl rfl)
theorem dX3_tie_118 : decode cX3_tie 118 = .ok (.ireturn, 1) := dk_172 (dk_at dksX3_tie_5 1 rfl rfl)
abbrev cX3_safe : ByteArray := prog_19_method_91_code
def yX3_safe : MethodName := ⟨RX3, "safe", "(I)I"⟩
def dkwX3_safe_4 : List UInt8 := [132, 3, 1, 167, 255, 182, 28, 172]
abbrev dktX3_safe_4 : List UInt8 := dkwX3_safe_4 ++ []
def dkwX3_safe_3 : List UInt8 := [54, 4, 21, 4, 153, 0, 16, 42, 27, 29, 182, 1, 141, 153, 0, 7, 29, 167, 0, 4, 28, 61]
abbrev dktX3_safe_3 : List UInt8 := dkwX3_safe_3 ++ dktX3_safe_4
def dkwX3_safe_2 : List UInt8 := [184, 1, 1, 28, 184, 1, 1, 160, 0, 15, 29, 28, 184, 1, 122, 153, 0, 7, 4, 167, 0, 4, 3]
abbrev dktX3_safe_2 : List UInt8 := dkwX3_safe_2 ++ dktX3_safe_3
def dkwX3_safe_1 : List UInt8 := [180, 1, 136, 120, 162, 0, 70, 28, 155, 0, 33, 29, 184, 1, 1, 28, 184, 1, 1, 161, 0, 22, 29]
abbrev dktX3_safe_1 : List UInt8 := dkwX3_safe_1 ++ dktX3_safe_2
def dkwX3_safe_0 : List UInt8 := [27, 133, 9, 20, 1, 139, 184, 0, 160, 154, 0, 5, 2, 172, 16, 252, 61, 3, 62, 29, 4, 42]
abbrev dktX3_safe_0 : List UInt8 := dkwX3_safe_0 ++ dktX3_safe_1
theorem dksX3_safe_0 : cX3_safe.data.toList.drop 0 = dktX3_safe_0 := by decide +kernel
theorem dksX3_safe_1 : cX3_safe.data.toList.drop 22 = dktX3_safe_1 := dk_seg dksX3_safe_0 22 rfl rfl
theorem dksX3_safe_2 : cX3_safe.data.toList.drop 45 = dktX3_safe_2 := dk_seg dksX3_safe_1 23 rfl rfl
theorem dksX3_safe_3 : cX3_safe.data.toList.drop 68 = dktX3_safe_3 := dk_seg dksX3_safe_2 23 rfl rfl
theorem dksX3_safe_4 : cX3_safe.data.toList.drop 90 = dktX3_safe_4 := dk_seg dksX3_safe_3 22 rfl rfl
theorem dX3_safe_0 : decode cX3_safe 0 = .ok (.iload_n 1, 1) := dk_27 (dk_at dksX3_safe_0 0 rfl rfl)
theorem dX3_safe_1 : decode cX3_safe 1 = .ok (.i2l, 1) := dk_133 (dk_at dksX3_safe_0 1 rfl rfl)
theorem dX3_safe_2 : decode cX3_safe 2 = .ok (.lconst 0, 1) := dk_9 (dk_at dksX3_safe_0 2 rfl rfl)
theorem dX3_safe_3 : decode cX3_safe 3 = .ok (.ldc2_w 395, 3) := dk_20 1 139 (dk_at dksX3_safe_0 3 rfl rfl)
theorem dX3_safe_6 : decode cX3_safe 6 = .ok (.invokestatic 160, 3) := dk_184 0 160 (dk_at dksX3_safe_0 6 rfl rfl)
theorem dX3_safe_9 : decode cX3_safe 9 = .ok (.ifCond .ne 5, 3) := dk_154 0 5 (dk_at dksX3_safe_0 9 rfl rfl)
theorem dX3_safe_12 : decode cX3_safe 12 = .ok (.iconst (-1), 1) := dk_2 (dk_at dksX3_safe_0 12 rfl rfl)
theorem dX3_safe_13 : decode cX3_safe 13 = .ok (.ireturn, 1) := dk_172 (dk_at dksX3_safe_0 13 rfl rfl)
theorem dX3_safe_14 : decode cX3_safe 14 = .ok (.bipush (-4), 2) := dk_16 252 (dk_at dksX3_safe_0 14 rfl rfl)
theorem dX3_safe_16 : decode cX3_safe 16 = .ok (.istore_n 2, 1) := dk_61 (dk_at dksX3_safe_0 16 rfl rfl)
theorem dX3_safe_17 : decode cX3_safe 17 = .ok (.iconst 0, 1) := dk_3 (dk_at dksX3_safe_0 17 rfl rfl)
theorem dX3_safe_18 : decode cX3_safe 18 = .ok (.istore_n 3, 1) := dk_62 (dk_at dksX3_safe_0 18 rfl rfl)
theorem dX3_safe_19 : decode cX3_safe 19 = .ok (.iload_n 3, 1) := dk_29 (dk_at dksX3_safe_0 19 rfl rfl)
theorem dX3_safe_20 : decode cX3_safe 20 = .ok (.iconst 1, 1) := dk_4 (dk_at dksX3_safe_0 20 rfl rfl)
theorem dX3_safe_21 : decode cX3_safe 21 = .ok (.aload_n 0, 1) := dk_42 (dk_at dksX3_safe_0 21 rfl rfl)
theorem dX3_safe_22 : decode cX3_safe 22 = .ok (.getfield 392, 3) := dk_180 1 136 (dk_at dksX3_safe_1 0 rfl rfl)
theorem dX3_safe_25 : decode cX3_safe 25 = .ok (.ishl, 1) := dk_120 (dk_at dksX3_safe_1 3 rfl rfl)
theorem dX3_safe_26 : decode cX3_safe 26 = .ok (.if_icmp .ge 70, 3) := dk_162 0 70 (dk_at dksX3_safe_1 4 rfl rfl)
theorem dX3_safe_29 : decode cX3_safe 29 = .ok (.iload_n 2, 1) := dk_28 (dk_at dksX3_safe_1 7 rfl rfl)
theorem dX3_safe_30 : decode cX3_safe 30 = .ok (.ifCond .lt 33, 3) := dk_155 0 33 (dk_at dksX3_safe_1 8 rfl rfl)
theorem dX3_safe_33 : decode cX3_safe 33 = .ok (.iload_n 3, 1) := dk_29 (dk_at dksX3_safe_1 11 rfl rfl)
theorem dX3_safe_34 : decode cX3_safe 34 = .ok (.invokestatic 257, 3) := dk_184 1 1 (dk_at dksX3_safe_1 12 rfl rfl)
theorem dX3_safe_37 : decode cX3_safe 37 = .ok (.iload_n 2, 1) := dk_28 (dk_at dksX3_safe_1 15 rfl rfl)
theorem dX3_safe_38 : decode cX3_safe 38 = .ok (.invokestatic 257, 3) := dk_184 1 1 (dk_at dksX3_safe_1 16 rfl rfl)
theorem dX3_safe_41 : decode cX3_safe 41 = .ok (.if_icmp .lt 22, 3) := dk_161 0 22 (dk_at dksX3_safe_1 19 rfl rfl)
theorem dX3_safe_44 : decode cX3_safe 44 = .ok (.iload_n 3, 1) := dk_29 (dk_at dksX3_safe_1 22 rfl rfl)
theorem dX3_safe_45 : decode cX3_safe 45 = .ok (.invokestatic 257, 3) := dk_184 1 1 (dk_at dksX3_safe_2 0 rfl rfl)
theorem dX3_safe_48 : decode cX3_safe 48 = .ok (.iload_n 2, 1) := dk_28 (dk_at dksX3_safe_2 3 rfl rfl)
theorem dX3_safe_49 : decode cX3_safe 49 = .ok (.invokestatic 257, 3) := dk_184 1 1 (dk_at dksX3_safe_2 4 rfl rfl)
theorem dX3_safe_52 : decode cX3_safe 52 = .ok (.if_icmp .ne 15, 3) := dk_160 0 15 (dk_at dksX3_safe_2 7 rfl rfl)
theorem dX3_safe_55 : decode cX3_safe 55 = .ok (.iload_n 3, 1) := dk_29 (dk_at dksX3_safe_2 10 rfl rfl)
theorem dX3_safe_56 : decode cX3_safe 56 = .ok (.iload_n 2, 1) := dk_28 (dk_at dksX3_safe_2 11 rfl rfl)
theorem dX3_safe_57 : decode cX3_safe 57 = .ok (.invokestatic 378, 3) := dk_184 1 122 (dk_at dksX3_safe_2 12 rfl rfl)
theorem dX3_safe_60 : decode cX3_safe 60 = .ok (.ifCond .eq 7, 3) := dk_153 0 7 (dk_at dksX3_safe_2 15 rfl rfl)
theorem dX3_safe_63 : decode cX3_safe 63 = .ok (.iconst 1, 1) := dk_4 (dk_at dksX3_safe_2 18 rfl rfl)
theorem dX3_safe_64 : decode cX3_safe 64 = .ok (.goto 4, 3) := dk_167 0 4 (dk_at dksX3_safe_2 19 rfl rfl)
theorem dX3_safe_67 : decode cX3_safe 67 = .ok (.iconst 0, 1) := dk_3 (dk_at dksX3_safe_2 22 rfl rfl)
theorem dX3_safe_68 : decode cX3_safe 68 = .ok (.istore 4, 2) := dk_54 4 (dk_at dksX3_safe_3 0 rfl rfl)
theorem dX3_safe_70 : decode cX3_safe 70 = .ok (.iload 4, 2) := dk_21 4 (dk_at dksX3_safe_3 2 rfl rfl)
theorem dX3_safe_72 : decode cX3_safe 72 = .ok (.ifCond .eq 16, 3) := dk_153 0 16 (dk_at dksX3_safe_3 4 rfl rfl)
theorem dX3_safe_75 : decode cX3_safe 75 = .ok (.aload_n 0, 1) := dk_42 (dk_at dksX3_safe_3 7 rfl rfl)
theorem dX3_safe_76 : decode cX3_safe 76 = .ok (.iload_n 1, 1) := dk_27 (dk_at dksX3_safe_3 8 rfl rfl)
theorem dX3_safe_77 : decode cX3_safe 77 = .ok (.iload_n 3, 1) := dk_29 (dk_at dksX3_safe_3 9 rfl rfl)
theorem dX3_safe_78 : decode cX3_safe 78 = .ok (.invokevirtual 397, 3) := dk_182 1 141 (dk_at dksX3_safe_3 10 rfl rfl)
theorem dX3_safe_81 : decode cX3_safe 81 = .ok (.ifCond .eq 7, 3) := dk_153 0 7 (dk_at dksX3_safe_3 13 rfl rfl)
theorem dX3_safe_84 : decode cX3_safe 84 = .ok (.iload_n 3, 1) := dk_29 (dk_at dksX3_safe_3 16 rfl rfl)
theorem dX3_safe_85 : decode cX3_safe 85 = .ok (.goto 4, 3) := dk_167 0 4 (dk_at dksX3_safe_3 17 rfl rfl)
theorem dX3_safe_88 : decode cX3_safe 88 = .ok (.iload_n 2, 1) := dk_28 (dk_at dksX3_safe_3 20 rfl rfl)
theorem dX3_safe_89 : decode cX3_safe 89 = .ok (.istore_n 2, 1) := dk_61 (dk_at dksX3_safe_3 21 rfl rfl)
theorem dX3_safe_90 : decode cX3_safe 90 = .ok (.iinc 3 1, 3) := dk_132 3 1 (dk_at dksX3_safe_4 0 rfl rfl)
theorem dX3_safe_93 : decode cX3_safe 93 = .ok (.goto (-74), 3) := dk_167 255 182 (dk_at dksX3_safe_4 3 rfl rfl)
theorem dX3_safe_96 : decode cX3_safe 96 = .ok (.iload_n 2, 1) := dk_28 (dk_at dksX3_safe_4 6 rfl rfl)
theorem dX3_safe_97 : decode cX3_safe 97 = .ok (.ireturn, 1) := dk_172 (dk_at dksX3_safe_4 7 rfl rfl)
abbrev cX3_isSafe : ByteArray := prog_19_method_90_code
def yX3_isSafe : MethodName := ⟨RX3, "isSafe", "(II)Z"⟩
def dkwX3_isSafe_3 : List UInt8 := [172, 132, 3, 1, 167, 255, 182, 4, 172]
abbrev dktX3_isSafe_3 : List UInt8 := dkwX3_isSafe_3 ++ []
def dkwX3_isSafe_2 : List UInt8 := [96, 54, 4, 132, 5, 1, 167, 255, 224, 21, 4, 27, 164, 0, 13, 42, 29, 182, 0, 184, 153, 0, 5, 3]
abbrev dktX3_isSafe_2 : List UInt8 := dkwX3_isSafe_2 ++ dktX3_isSafe_3
def dkwX3_isSafe_1 : List UInt8 := [42, 180, 0, 166, 162, 0, 29, 21, 4, 42, 180, 0, 134, 21, 5, 46, 158, 0, 7, 4, 167, 0, 4, 3]
abbrev dktX3_isSafe_1 : List UInt8 := dkwX3_isSafe_1 ++ dktX3_isSafe_2
def dkwX3_isSafe_0 : List UInt8 := [3, 62, 29, 42, 180, 0, 166, 162, 0, 72, 42, 29, 28, 182, 1, 133, 3, 54, 4, 3, 54, 5, 21, 5]
abbrev dktX3_isSafe_0 : List UInt8 := dkwX3_isSafe_0 ++ dktX3_isSafe_1
theorem dksX3_isSafe_0 : cX3_isSafe.data.toList.drop 0 = dktX3_isSafe_0 := by decide +kernel
theorem dksX3_isSafe_1 : cX3_isSafe.data.toList.drop 24 = dktX3_isSafe_1 := dk_seg dksX3_isSafe_0 24 rfl rfl
theorem dksX3_isSafe_2 : cX3_isSafe.data.toList.drop 48 = dktX3_isSafe_2 := dk_seg dksX3_isSafe_1 24 rfl rfl
theorem dksX3_isSafe_3 : cX3_isSafe.data.toList.drop 72 = dktX3_isSafe_3 := dk_seg dksX3_isSafe_2 24 rfl rfl
theorem dX3_isSafe_0 : decode cX3_isSafe 0 = .ok (.iconst 0, 1) := dk_3 (dk_at dksX3_isSafe_0 0 rfl rfl)
theorem dX3_isSafe_1 : decode cX3_isSafe 1 = .ok (.istore_n 3, 1) := dk_62 (dk_at dksX3_isSafe_0 1 rfl rfl)
theorem dX3_isSafe_2 : decode cX3_isSafe 2 = .ok (.iload_n 3, 1) := dk_29 (dk_at dksX3_isSafe_0 2 rfl rfl)
theorem dX3_isSafe_3 : decode cX3_isSafe 3 = .ok (.aload_n 0, 1) := dk_42 (dk_at dksX3_isSafe_0 3 rfl rfl)
theorem dX3_isSafe_4 : decode cX3_isSafe 4 = .ok (.getfield 166, 3) := dk_180 0 166 (dk_at dksX3_isSafe_0 4 rfl rfl)
theorem dX3_isSafe_7 : decode cX3_isSafe 7 = .ok (.if_icmp .ge 72, 3) := dk_162 0 72 (dk_at dksX3_isSafe_0 7 rfl rfl)
theorem dX3_isSafe_10 : decode cX3_isSafe 10 = .ok (.aload_n 0, 1) := dk_42 (dk_at dksX3_isSafe_0 10 rfl rfl)
theorem dX3_isSafe_11 : decode cX3_isSafe 11 = .ok (.iload_n 3, 1) := dk_29 (dk_at dksX3_isSafe_0 11 rfl rfl)
theorem dX3_isSafe_12 : decode cX3_isSafe 12 = .ok (.iload_n 2, 1) := dk_28 (dk_at dksX3_isSafe_0 12 rfl rfl)
theorem dX3_isSafe_13 : decode cX3_isSafe 13 = .ok (.invokevirtual 389, 3) := dk_182 1 133 (dk_at dksX3_isSafe_0 13 rfl rfl)
theorem dX3_isSafe_16 : decode cX3_isSafe 16 = .ok (.iconst 0, 1) := dk_3 (dk_at dksX3_isSafe_0 16 rfl rfl)
theorem dX3_isSafe_17 : decode cX3_isSafe 17 = .ok (.istore 4, 2) := dk_54 4 (dk_at dksX3_isSafe_0 17 rfl rfl)
theorem dX3_isSafe_19 : decode cX3_isSafe 19 = .ok (.iconst 0, 1) := dk_3 (dk_at dksX3_isSafe_0 19 rfl rfl)
theorem dX3_isSafe_20 : decode cX3_isSafe 20 = .ok (.istore 5, 2) := dk_54 5 (dk_at dksX3_isSafe_0 20 rfl rfl)
theorem dX3_isSafe_22 : decode cX3_isSafe 22 = .ok (.iload 5, 2) := dk_21 5 (dk_at dksX3_isSafe_0 22 rfl rfl)
theorem dX3_isSafe_24 : decode cX3_isSafe 24 = .ok (.aload_n 0, 1) := dk_42 (dk_at dksX3_isSafe_1 0 rfl rfl)
theorem dX3_isSafe_25 : decode cX3_isSafe 25 = .ok (.getfield 166, 3) := dk_180 0 166 (dk_at dksX3_isSafe_1 1 rfl rfl)
theorem dX3_isSafe_28 : decode cX3_isSafe 28 = .ok (.if_icmp .ge 29, 3) := dk_162 0 29 (dk_at dksX3_isSafe_1 4 rfl rfl)
theorem dX3_isSafe_31 : decode cX3_isSafe 31 = .ok (.iload 4, 2) := dk_21 4 (dk_at dksX3_isSafe_1 7 rfl rfl)
theorem dX3_isSafe_33 : decode cX3_isSafe 33 = .ok (.aload_n 0, 1) := dk_42 (dk_at dksX3_isSafe_1 9 rfl rfl)
theorem dX3_isSafe_34 : decode cX3_isSafe 34 = .ok (.getfield 134, 3) := dk_180 0 134 (dk_at dksX3_isSafe_1 10 rfl rfl)
theorem dX3_isSafe_37 : decode cX3_isSafe 37 = .ok (.iload 5, 2) := dk_21 5 (dk_at dksX3_isSafe_1 13 rfl rfl)
theorem dX3_isSafe_39 : decode cX3_isSafe 39 = .ok (.iaload, 1) := dk_46 (dk_at dksX3_isSafe_1 15 rfl rfl)
theorem dX3_isSafe_40 : decode cX3_isSafe 40 = .ok (.ifCond .le 7, 3) := dk_158 0 7 (dk_at dksX3_isSafe_1 16 rfl rfl)
theorem dX3_isSafe_43 : decode cX3_isSafe 43 = .ok (.iconst 1, 1) := dk_4 (dk_at dksX3_isSafe_1 19 rfl rfl)
theorem dX3_isSafe_44 : decode cX3_isSafe 44 = .ok (.goto 4, 3) := dk_167 0 4 (dk_at dksX3_isSafe_1 20 rfl rfl)
theorem dX3_isSafe_47 : decode cX3_isSafe 47 = .ok (.iconst 0, 1) := dk_3 (dk_at dksX3_isSafe_1 23 rfl rfl)
theorem dX3_isSafe_48 : decode cX3_isSafe 48 = .ok (.iadd, 1) := dk_96 (dk_at dksX3_isSafe_2 0 rfl rfl)
theorem dX3_isSafe_49 : decode cX3_isSafe 49 = .ok (.istore 4, 2) := dk_54 4 (dk_at dksX3_isSafe_2 1 rfl rfl)
theorem dX3_isSafe_51 : decode cX3_isSafe 51 = .ok (.iinc 5 1, 3) := dk_132 5 1 (dk_at dksX3_isSafe_2 3 rfl rfl)
theorem dX3_isSafe_54 : decode cX3_isSafe 54 = .ok (.goto (-32), 3) := dk_167 255 224 (dk_at dksX3_isSafe_2 6 rfl rfl)
theorem dX3_isSafe_57 : decode cX3_isSafe 57 = .ok (.iload 4, 2) := dk_21 4 (dk_at dksX3_isSafe_2 9 rfl rfl)
theorem dX3_isSafe_59 : decode cX3_isSafe 59 = .ok (.iload_n 1, 1) := dk_27 (dk_at dksX3_isSafe_2 11 rfl rfl)
theorem dX3_isSafe_60 : decode cX3_isSafe 60 = .ok (.if_icmp .le 13, 3) := dk_164 0 13 (dk_at dksX3_isSafe_2 12 rfl rfl)
theorem dX3_isSafe_63 : decode cX3_isSafe 63 = .ok (.aload_n 0, 1) := dk_42 (dk_at dksX3_isSafe_2 15 rfl rfl)
theorem dX3_isSafe_64 : decode cX3_isSafe 64 = .ok (.iload_n 3, 1) := dk_29 (dk_at dksX3_isSafe_2 16 rfl rfl)
theorem dX3_isSafe_65 : decode cX3_isSafe 65 = .ok (.invokevirtual 184, 3) := dk_182 0 184 (dk_at dksX3_isSafe_2 17 rfl rfl)
theorem dX3_isSafe_68 : decode cX3_isSafe 68 = .ok (.ifCond .eq 5, 3) := dk_153 0 5 (dk_at dksX3_isSafe_2 20 rfl rfl)
theorem dX3_isSafe_71 : decode cX3_isSafe 71 = .ok (.iconst 0, 1) := dk_3 (dk_at dksX3_isSafe_2 23 rfl rfl)
theorem dX3_isSafe_72 : decode cX3_isSafe 72 = .ok (.ireturn, 1) := dk_172 (dk_at dksX3_isSafe_3 0 rfl rfl)
theorem dX3_isSafe_73 : decode cX3_isSafe 73 = .ok (.iinc 3 1, 3) := dk_132 3 1 (dk_at dksX3_isSafe_3 1 rfl rfl)
theorem dX3_isSafe_76 : decode cX3_isSafe 76 = .ok (.goto (-74), 3) := dk_167 255 182 (dk_at dksX3_isSafe_3 4 rfl rfl)
theorem dX3_isSafe_79 : decode cX3_isSafe 79 = .ok (.iconst 1, 1) := dk_4 (dk_at dksX3_isSafe_3 7 rfl rfl)
theorem dX3_isSafe_80 : decode cX3_isSafe 80 = .ok (.ireturn, 1) := dk_172 (dk_at dksX3_isSafe_3 8 rfl rfl)
abbrev cX3_thinks : ByteArray := prog_19_method_92_code
def yX3_thinks : MethodName := ⟨RX3, "thinks", "(III)I"⟩
def dkwX3_thinks_4 : List UInt8 := [182, 0, 193, 153, 0, 7, 4, 167, 0, 4, 3, 172]
abbrev dktX3_thinks_4 : List UInt8 := dkwX3_thinks_4 ++ []
def dkwX3_thinks_3 : List UInt8 := [42, 27, 28, 182, 0, 180, 54, 4, 21, 4, 156, 0, 8, 16, 252, 167, 0, 20, 42, 28, 29, 21, 4, 100]
abbrev dktX3_thinks_3 : List UInt8 := dkwX3_thinks_3 ++ dktX3_thinks_4
def dkwX3_thinks_2 : List UInt8 := [16, 244, 172, 27, 28, 159, 0, 19, 42, 180, 0, 28, 27, 46, 28, 122, 4, 126, 154, 0, 6, 16, 254, 172]
abbrev dktX3_thinks_2 : List UInt8 := dkwX3_thinks_2 ++ dktX3_thinks_3
def dkwX3_thinks_1 : List UInt8 := [184, 0, 160, 154, 0, 5, 2, 172, 42, 27, 182, 0, 184, 153, 0, 11, 42, 28, 182, 0, 184, 154, 0, 6]
abbrev dktX3_thinks_1 : List UInt8 := dkwX3_thinks_1 ++ dktX3_thinks_2
def dkwX3_thinks_0 : List UInt8 := [42, 27, 182, 0, 176, 153, 0, 25, 42, 28, 182, 0, 176, 153, 0, 17, 29, 133, 9, 42, 180, 0, 190, 133]
abbrev dktX3_thinks_0 : List UInt8 := dkwX3_thinks_0 ++ dktX3_thinks_1
theorem dksX3_thinks_0 : cX3_thinks.data.toList.drop 0 = dktX3_thinks_0 := by decide +kernel
theorem dksX3_thinks_1 : cX3_thinks.data.toList.drop 24 = dktX3_thinks_1 := dk_seg dksX3_thinks_0 24 rfl rfl
theorem dksX3_thinks_2 : cX3_thinks.data.toList.drop 48 = dktX3_thinks_2 := dk_seg dksX3_thinks_1 24 rfl rfl
theorem dksX3_thinks_3 : cX3_thinks.data.toList.drop 72 = dktX3_thinks_3 := dk_seg dksX3_thinks_2 24 rfl rfl
theorem dksX3_thinks_4 : cX3_thinks.data.toList.drop 96 = dktX3_thinks_4 := dk_seg dksX3_thinks_3 24 rfl rfl
theorem dX3_thinks_0 : decode cX3_thinks 0 = .ok (.aload_n 0, 1) := dk_42 (dk_at dksX3_thinks_0 0 rfl rfl)
theorem dX3_thinks_1 : decode cX3_thinks 1 = .ok (.iload_n 1, 1) := dk_27 (dk_at dksX3_thinks_0 1 rfl rfl)
theorem dX3_thinks_2 : decode cX3_thinks 2 = .ok (.invokevirtual 176, 3) := dk_182 0 176 (dk_at dksX3_thinks_0 2 rfl rfl)
theorem dX3_thinks_5 : decode cX3_thinks 5 = .ok (.ifCond .eq 25, 3) := dk_153 0 25 (dk_at dksX3_thinks_0 5 rfl rfl)
theorem dX3_thinks_8 : decode cX3_thinks 8 = .ok (.aload_n 0, 1) := dk_42 (dk_at dksX3_thinks_0 8 rfl rfl)
theorem dX3_thinks_9 : decode cX3_thinks 9 = .ok (.iload_n 2, 1) := dk_28 (dk_at dksX3_thinks_0 9 rfl rfl)
theorem dX3_thinks_10 : decode cX3_thinks 10 = .ok (.invokevirtual 176, 3) := dk_182 0 176 (dk_at dksX3_thinks_0 10 rfl rfl)
theorem dX3_thinks_13 : decode cX3_thinks 13 = .ok (.ifCond .eq 17, 3) := dk_153 0 17 (dk_at dksX3_thinks_0 13 rfl rfl)
theorem dX3_thinks_16 : decode cX3_thinks 16 = .ok (.iload_n 3, 1) := dk_29 (dk_at dksX3_thinks_0 16 rfl rfl)
theorem dX3_thinks_17 : decode cX3_thinks 17 = .ok (.i2l, 1) := dk_133 (dk_at dksX3_thinks_0 17 rfl rfl)
theorem dX3_thinks_18 : decode cX3_thinks 18 = .ok (.lconst 0, 1) := dk_9 (dk_at dksX3_thinks_0 18 rfl rfl)
theorem dX3_thinks_19 : decode cX3_thinks 19 = .ok (.aload_n 0, 1) := dk_42 (dk_at dksX3_thinks_0 19 rfl rfl)
theorem dX3_thinks_20 : decode cX3_thinks 20 = .ok (.getfield 190, 3) := dk_180 0 190 (dk_at dksX3_thinks_0 20 rfl rfl)
theorem dX3_thinks_23 : decode cX3_thinks 23 = .ok (.i2l, 1) := dk_133 (dk_at dksX3_thinks_0 23 rfl rfl)
theorem dX3_thinks_24 : decode cX3_thinks 24 = .ok (.invokestatic 160, 3) := dk_184 0 160 (dk_at dksX3_thinks_1 0 rfl rfl)
theorem dX3_thinks_27 : decode cX3_thinks 27 = .ok (.ifCond .ne 5, 3) := dk_154 0 5 (dk_at dksX3_thinks_1 3 rfl rfl)
theorem dX3_thinks_30 : decode cX3_thinks 30 = .ok (.iconst (-1), 1) := dk_2 (dk_at dksX3_thinks_1 6 rfl rfl)
theorem dX3_thinks_31 : decode cX3_thinks 31 = .ok (.ireturn, 1) := dk_172 (dk_at dksX3_thinks_1 7 rfl rfl)
theorem dX3_thinks_32 : decode cX3_thinks 32 = .ok (.aload_n 0, 1) := dk_42 (dk_at dksX3_thinks_1 8 rfl rfl)
theorem dX3_thinks_33 : decode cX3_thinks 33 = .ok (.iload_n 1, 1) := dk_27 (dk_at dksX3_thinks_1 9 rfl rfl)
theorem dX3_thinks_34 : decode cX3_thinks 34 = .ok (.invokevirtual 184, 3) := dk_182 0 184 (dk_at dksX3_thinks_1 10 rfl rfl)
theorem dX3_thinks_37 : decode cX3_thinks 37 = .ok (.ifCond .eq 11, 3) := dk_153 0 11 (dk_at dksX3_thinks_1 13 rfl rfl)
theorem dX3_thinks_40 : decode cX3_thinks 40 = .ok (.aload_n 0, 1) := dk_42 (dk_at dksX3_thinks_1 16 rfl rfl)
theorem dX3_thinks_41 : decode cX3_thinks 41 = .ok (.iload_n 2, 1) := dk_28 (dk_at dksX3_thinks_1 17 rfl rfl)
theorem dX3_thinks_42 : decode cX3_thinks 42 = .ok (.invokevirtual 184, 3) := dk_182 0 184 (dk_at dksX3_thinks_1 18 rfl rfl)
theorem dX3_thinks_45 : decode cX3_thinks 45 = .ok (.ifCond .ne 6, 3) := dk_154 0 6 (dk_at dksX3_thinks_1 21 rfl rfl)
theorem dX3_thinks_48 : decode cX3_thinks 48 = .ok (.bipush (-12), 2) := dk_16 244 (dk_at dksX3_thinks_2 0 rfl rfl)
theorem dX3_thinks_50 : decode cX3_thinks 50 = .ok (.ireturn, 1) := dk_172 (dk_at dksX3_thinks_2 2 rfl rfl)
theorem dX3_thinks_51 : decode cX3_thinks 51 = .ok (.iload_n 1, 1) := dk_27 (dk_at dksX3_thinks_2 3 rfl rfl)
theorem dX3_thinks_52 : decode cX3_thinks 52 = .ok (.iload_n 2, 1) := dk_28 (dk_at dksX3_thinks_2 4 rfl rfl)
theorem dX3_thinks_53 : decode cX3_thinks 53 = .ok (.if_icmp .eq 19, 3) := dk_159 0 19 (dk_at dksX3_thinks_2 5 rfl rfl)
theorem dX3_thinks_56 : decode cX3_thinks 56 = .ok (.aload_n 0, 1) := dk_42 (dk_at dksX3_thinks_2 8 rfl rfl)
theorem dX3_thinks_57 : decode cX3_thinks 57 = .ok (.getfield 28, 3) := dk_180 0 28 (dk_at dksX3_thinks_2 9 rfl rfl)
theorem dX3_thinks_60 : decode cX3_thinks 60 = .ok (.iload_n 1, 1) := dk_27 (dk_at dksX3_thinks_2 12 rfl rfl)
theorem dX3_thinks_61 : decode cX3_thinks 61 = .ok (.iaload, 1) := dk_46 (dk_at dksX3_thinks_2 13 rfl rfl)
theorem dX3_thinks_62 : decode cX3_thinks 62 = .ok (.iload_n 2, 1) := dk_28 (dk_at dksX3_thinks_2 14 rfl rfl)
theorem dX3_thinks_63 : decode cX3_thinks 63 = .ok (.ishr, 1) := dk_122 (dk_at dksX3_thinks_2 15 rfl rfl)
theorem dX3_thinks_64 : decode cX3_thinks 64 = .ok (.iconst 1, 1) := dk_4 (dk_at dksX3_thinks_2 16 rfl rfl)
theorem dX3_thinks_65 : decode cX3_thinks 65 = .ok (.iand, 1) := dk_126 (dk_at dksX3_thinks_2 17 rfl rfl)
theorem dX3_thinks_66 : decode cX3_thinks 66 = .ok (.ifCond .ne 6, 3) := dk_154 0 6 (dk_at dksX3_thinks_2 18 rfl rfl)
theorem dX3_thinks_69 : decode cX3_thinks 69 = .ok (.bipush (-2), 2) := dk_16 254 (dk_at dksX3_thinks_2 21 rfl rfl)
theorem dX3_thinks_71 : decode cX3_thinks 71 = .ok (.ireturn, 1) := dk_172 (dk_at dksX3_thinks_2 23 rfl rfl)
theorem dX3_thinks_72 : decode cX3_thinks 72 = .ok (.aload_n 0, 1) := dk_42 (dk_at dksX3_thinks_3 0 rfl rfl)
theorem dX3_thinks_73 : decode cX3_thinks 73 = .ok (.iload_n 1, 1) := dk_27 (dk_at dksX3_thinks_3 1 rfl rfl)
theorem dX3_thinks_74 : decode cX3_thinks 74 = .ok (.iload_n 2, 1) := dk_28 (dk_at dksX3_thinks_3 2 rfl rfl)
theorem dX3_thinks_75 : decode cX3_thinks 75 = .ok (.invokevirtual 180, 3) := dk_182 0 180 (dk_at dksX3_thinks_3 3 rfl rfl)
theorem dX3_thinks_78 : decode cX3_thinks 78 = .ok (.istore 4, 2) := dk_54 4 (dk_at dksX3_thinks_3 6 rfl rfl)
theorem dX3_thinks_80 : decode cX3_thinks 80 = .ok (.iload 4, 2) := dk_21 4 (dk_at dksX3_thinks_3 8 rfl rfl)
theorem dX3_thinks_82 : decode cX3_thinks 82 = .ok (.ifCond .ge 8, 3) := dk_156 0 8 (dk_at dksX3_thinks_3 10 rfl rfl)
theorem dX3_thinks_85 : decode cX3_thinks 85 = .ok (.bipush (-4), 2) := dk_16 252 (dk_at dksX3_thinks_3 13 rfl rfl)
theorem dX3_thinks_87 : decode cX3_thinks 87 = .ok (.goto 20, 3) := dk_167 0 20 (dk_at dksX3_thinks_3 15 rfl rfl)
theorem dX3_thinks_90 : decode cX3_thinks 90 = .ok (.aload_n 0, 1) := dk_42 (dk_at dksX3_thinks_3 18 rfl rfl)
theorem dX3_thinks_91 : decode cX3_thinks 91 = .ok (.iload_n 2, 1) := dk_28 (dk_at dksX3_thinks_3 19 rfl rfl)
theorem dX3_thinks_92 : decode cX3_thinks 92 = .ok (.iload_n 3, 1) := dk_29 (dk_at dksX3_thinks_3 20 rfl rfl)
theorem dX3_thinks_93 : decode cX3_thinks 93 = .ok (.iload 4, 2) := dk_21 4 (dk_at dksX3_thinks_3 21 rfl rfl)
theorem dX3_thinks_95 : decode cX3_thinks 95 = .ok (.isub, 1) := dk_100 (dk_at dksX3_thinks_3 23 rfl rfl)
theorem dX3_thinks_96 : decode cX3_thinks 96 = .ok (.invokevirtual 193, 3) := dk_182 0 193 (dk_at dksX3_thinks_4 0 rfl rfl)
theorem dX3_thinks_99 : decode cX3_thinks 99 = .ok (.ifCond .eq 7, 3) := dk_153 0 7 (dk_at dksX3_thinks_4 3 rfl rfl)
theorem dX3_thinks_102 : decode cX3_thinks 102 = .ok (.iconst 1, 1) := dk_4 (dk_at dksX3_thinks_4 6 rfl rfl)
theorem dX3_thinks_103 : decode cX3_thinks 103 = .ok (.goto 4, 3) := dk_167 0 4 (dk_at dksX3_thinks_4 7 rfl rfl)
theorem dX3_thinks_106 : decode cX3_thinks 106 = .ok (.iconst 0, 1) := dk_3 (dk_at dksX3_thinks_4 10 rfl rfl)
theorem dX3_thinks_107 : decode cX3_thinks 107 = .ok (.ireturn, 1) := dk_172 (dk_at dksX3_thinks_4 11 rfl rfl)
abbrev cX3_count : ByteArray := prog_19_method_93_code
def yX3_count : MethodName := ⟨RX3, "count", "(I)I"⟩
def dkwX3_count_5 : List UInt8 := [42, 180, 1, 46, 172, 42, 180, 0, 190, 172, 2, 172]
abbrev dktX3_count_5 : List UInt8 := dkwX3_count_5 ++ []
def dkwX3_count_4 : List UInt8 := [42, 180, 0, 166, 172, 42, 180, 0, 213, 172, 28, 172, 29, 172, 42, 180, 1, 9, 172, 42, 180, 1, 18, 172]
abbrev dktX3_count_4 : List UInt8 := dkwX3_count_4 ++ dktX3_count_5
def dkwX3_count_3 : List UInt8 := [170, 0, 0, 0, 0, 0, 81, 0, 0, 0, 0, 0, 0, 0, 7, 0, 0, 0, 47, 0, 0, 0, 52, 0, 0, 0, 57, 0, 0, 0, 59, 0, 0, 0, 61, 0, 0, 0, 66, 0, 0, 0, 71, 0, 0, 0, 76]
abbrev dktX3_count_3 : List UInt8 := dkwX3_count_3 ++ dktX3_count_4
def dkwX3_count_2 : List UInt8 := [160, 0, 7, 4, 167, 0, 4, 3, 96, 62, 132, 4, 1, 167, 255, 202, 27]
abbrev dktX3_count_2 : List UInt8 := dkwX3_count_2 ++ dktX3_count_3
def dkwX3_count_1 : List UInt8 := [17, 0, 200, 160, 0, 7, 4, 167, 0, 4, 3, 96, 61, 29, 42, 180, 0, 62, 21, 4, 46, 17, 0, 201]
abbrev dktX3_count_1 : List UInt8 := dkwX3_count_1 ++ dktX3_count_2
def dkwX3_count_0 : List UInt8 := [3, 61, 3, 62, 3, 54, 4, 21, 4, 42, 180, 0, 213, 162, 0, 51, 28, 42, 180, 0, 62, 21, 4, 46]
abbrev dktX3_count_0 : List UInt8 := dkwX3_count_0 ++ dktX3_count_1
theorem dksX3_count_0 : cX3_count.data.toList.drop 0 = dktX3_count_0 := by decide +kernel
theorem dksX3_count_1 : cX3_count.data.toList.drop 24 = dktX3_count_1 := dk_seg dksX3_count_0 24 rfl rfl
theorem dksX3_count_2 : cX3_count.data.toList.drop 48 = dktX3_count_2 := dk_seg dksX3_count_1 24 rfl rfl
theorem dksX3_count_3 : cX3_count.data.toList.drop 65 = dktX3_count_3 := dk_seg dksX3_count_2 17 rfl rfl
theorem dksX3_count_4 : cX3_count.data.toList.drop 112 = dktX3_count_4 := dk_seg dksX3_count_3 47 rfl rfl
theorem dksX3_count_5 : cX3_count.data.toList.drop 136 = dktX3_count_5 := dk_seg dksX3_count_4 24 rfl rfl
theorem dX3_count_0 : decode cX3_count 0 = .ok (.iconst 0, 1) := dk_3 (dk_at dksX3_count_0 0 rfl rfl)
theorem dX3_count_1 : decode cX3_count 1 = .ok (.istore_n 2, 1) := dk_61 (dk_at dksX3_count_0 1 rfl rfl)
theorem dX3_count_2 : decode cX3_count 2 = .ok (.iconst 0, 1) := dk_3 (dk_at dksX3_count_0 2 rfl rfl)
theorem dX3_count_3 : decode cX3_count 3 = .ok (.istore_n 3, 1) := dk_62 (dk_at dksX3_count_0 3 rfl rfl)
theorem dX3_count_4 : decode cX3_count 4 = .ok (.iconst 0, 1) := dk_3 (dk_at dksX3_count_0 4 rfl rfl)
theorem dX3_count_5 : decode cX3_count 5 = .ok (.istore 4, 2) := dk_54 4 (dk_at dksX3_count_0 5 rfl rfl)
theorem dX3_count_7 : decode cX3_count 7 = .ok (.iload 4, 2) := dk_21 4 (dk_at dksX3_count_0 7 rfl rfl)
theorem dX3_count_9 : decode cX3_count 9 = .ok (.aload_n 0, 1) := dk_42 (dk_at dksX3_count_0 9 rfl rfl)
theorem dX3_count_10 : decode cX3_count 10 = .ok (.getfield 213, 3) := dk_180 0 213 (dk_at dksX3_count_0 10 rfl rfl)
theorem dX3_count_13 : decode cX3_count 13 = .ok (.if_icmp .ge 51, 3) := dk_162 0 51 (dk_at dksX3_count_0 13 rfl rfl)
theorem dX3_count_16 : decode cX3_count 16 = .ok (.iload_n 2, 1) := dk_28 (dk_at dksX3_count_0 16 rfl rfl)
theorem dX3_count_17 : decode cX3_count 17 = .ok (.aload_n 0, 1) := dk_42 (dk_at dksX3_count_0 17 rfl rfl)
theorem dX3_count_18 : decode cX3_count 18 = .ok (.getfield 62, 3) := dk_180 0 62 (dk_at dksX3_count_0 18 rfl rfl)
theorem dX3_count_21 : decode cX3_count 21 = .ok (.iload 4, 2) := dk_21 4 (dk_at dksX3_count_0 21 rfl rfl)
theorem dX3_count_23 : decode cX3_count 23 = .ok (.iaload, 1) := dk_46 (dk_at dksX3_count_0 23 rfl rfl)
theorem dX3_count_24 : decode cX3_count 24 = .ok (.sipush 200, 3) := dk_17 0 200 (dk_at dksX3_count_1 0 rfl rfl)
theorem dX3_count_27 : decode cX3_count 27 = .ok (.if_icmp .ne 7, 3) := dk_160 0 7 (dk_at dksX3_count_1 3 rfl rfl)
theorem dX3_count_30 : decode cX3_count 30 = .ok (.iconst 1, 1) := dk_4 (dk_at dksX3_count_1 6 rfl rfl)
theorem dX3_count_31 : decode cX3_count 31 = .ok (.goto 4, 3) := dk_167 0 4 (dk_at dksX3_count_1 7 rfl rfl)
theorem dX3_count_34 : decode cX3_count 34 = .ok (.iconst 0, 1) := dk_3 (dk_at dksX3_count_1 10 rfl rfl)
theorem dX3_count_35 : decode cX3_count 35 = .ok (.iadd, 1) := dk_96 (dk_at dksX3_count_1 11 rfl rfl)
theorem dX3_count_36 : decode cX3_count 36 = .ok (.istore_n 2, 1) := dk_61 (dk_at dksX3_count_1 12 rfl rfl)
theorem dX3_count_37 : decode cX3_count 37 = .ok (.iload_n 3, 1) := dk_29 (dk_at dksX3_count_1 13 rfl rfl)
theorem dX3_count_38 : decode cX3_count 38 = .ok (.aload_n 0, 1) := dk_42 (dk_at dksX3_count_1 14 rfl rfl)
theorem dX3_count_39 : decode cX3_count 39 = .ok (.getfield 62, 3) := dk_180 0 62 (dk_at dksX3_count_1 15 rfl rfl)
theorem dX3_count_42 : decode cX3_count 42 = .ok (.iload 4, 2) := dk_21 4 (dk_at dksX3_count_1 18 rfl rfl)
theorem dX3_count_44 : decode cX3_count 44 = .ok (.iaload, 1) := dk_46 (dk_at dksX3_count_1 20 rfl rfl)
theorem dX3_count_45 : decode cX3_count 45 = .ok (.sipush 201, 3) := dk_17 0 201 (dk_at dksX3_count_1 21 rfl rfl)
theorem dX3_count_48 : decode cX3_count 48 = .ok (.if_icmp .ne 7, 3) := dk_160 0 7 (dk_at dksX3_count_2 0 rfl rfl)
theorem dX3_count_51 : decode cX3_count 51 = .ok (.iconst 1, 1) := dk_4 (dk_at dksX3_count_2 3 rfl rfl)
theorem dX3_count_52 : decode cX3_count 52 = .ok (.goto 4, 3) := dk_167 0 4 (dk_at dksX3_count_2 4 rfl rfl)
theorem dX3_count_55 : decode cX3_count 55 = .ok (.iconst 0, 1) := dk_3 (dk_at dksX3_count_2 7 rfl rfl)
theorem dX3_count_56 : decode cX3_count 56 = .ok (.iadd, 1) := dk_96 (dk_at dksX3_count_2 8 rfl rfl)
theorem dX3_count_57 : decode cX3_count 57 = .ok (.istore_n 3, 1) := dk_62 (dk_at dksX3_count_2 9 rfl rfl)
theorem dX3_count_58 : decode cX3_count 58 = .ok (.iinc 4 1, 3) := dk_132 4 1 (dk_at dksX3_count_2 10 rfl rfl)
theorem dX3_count_61 : decode cX3_count 61 = .ok (.goto (-54), 3) := dk_167 255 202 (dk_at dksX3_count_2 13 rfl rfl)
theorem dX3_count_64 : decode cX3_count 64 = .ok (.iload_n 1, 1) := dk_27 (dk_at dksX3_count_2 16 rfl rfl)
theorem dX3_count_65 : decode cX3_count 65 = .ok (.tableswitch 81 0 7 #[47, 52, 57, 59, 61, 66, 71, 76], 47) := by decide +kernel
theorem dX3_count_112 : decode cX3_count 112 = .ok (.aload_n 0, 1) := dk_42 (dk_at dksX3_count_4 0 rfl rfl)
theorem dX3_count_113 : decode cX3_count 113 = .ok (.getfield 166, 3) := dk_180 0 166 (dk_at dksX3_count_4 1 rfl rfl)
theorem dX3_count_116 : decode cX3_count 116 = .ok (.ireturn, 1) := dk_172 (dk_at dksX3_count_4 4 rfl rfl)
theorem dX3_count_117 : decode cX3_count 117 = .ok (.aload_n 0, 1) := dk_42 (dk_at dksX3_count_4 5 rfl rfl)
theorem dX3_count_118 : decode cX3_count 118 = .ok (.getfield 213, 3) := dk_180 0 213 (dk_at dksX3_count_4 6 rfl rfl)
theorem dX3_count_121 : decode cX3_count 121 = .ok (.ireturn, 1) := dk_172 (dk_at dksX3_count_4 9 rfl rfl)
theorem dX3_count_122 : decode cX3_count 122 = .ok (.iload_n 2, 1) := dk_28 (dk_at dksX3_count_4 10 rfl rfl)
theorem dX3_count_123 : decode cX3_count 123 = .ok (.ireturn, 1) := dk_172 (dk_at dksX3_count_4 11 rfl rfl)
theorem dX3_count_124 : decode cX3_count 124 = .ok (.iload_n 3, 1) := dk_29 (dk_at dksX3_count_4 12 rfl rfl)
theorem dX3_count_125 : decode cX3_count 125 = .ok (.ireturn, 1) := dk_172 (dk_at dksX3_count_4 13 rfl rfl)
theorem dX3_count_126 : decode cX3_count 126 = .ok (.aload_n 0, 1) := dk_42 (dk_at dksX3_count_4 14 rfl rfl)
theorem dX3_count_127 : decode cX3_count 127 = .ok (.getfield 265, 3) := dk_180 1 9 (dk_at dksX3_count_4 15 rfl rfl)
theorem dX3_count_130 : decode cX3_count 130 = .ok (.ireturn, 1) := dk_172 (dk_at dksX3_count_4 18 rfl rfl)
theorem dX3_count_131 : decode cX3_count 131 = .ok (.aload_n 0, 1) := dk_42 (dk_at dksX3_count_4 19 rfl rfl)
theorem dX3_count_132 : decode cX3_count 132 = .ok (.getfield 274, 3) := dk_180 1 18 (dk_at dksX3_count_4 20 rfl rfl)
theorem dX3_count_135 : decode cX3_count 135 = .ok (.ireturn, 1) := dk_172 (dk_at dksX3_count_4 23 rfl rfl)
theorem dX3_count_136 : decode cX3_count 136 = .ok (.aload_n 0, 1) := dk_42 (dk_at dksX3_count_5 0 rfl rfl)
theorem dX3_count_137 : decode cX3_count 137 = .ok (.getfield 302, 3) := dk_180 1 46 (dk_at dksX3_count_5 1 rfl rfl)
theorem dX3_count_140 : decode cX3_count 140 = .ok (.ireturn, 1) := dk_172 (dk_at dksX3_count_5 4 rfl rfl)
theorem dX3_count_141 : decode cX3_count 141 = .ok (.aload_n 0, 1) := dk_42 (dk_at dksX3_count_5 5 rfl rfl)
theorem dX3_count_142 : decode cX3_count 142 = .ok (.getfield 190, 3) := dk_180 0 190 (dk_at dksX3_count_5 6 rfl rfl)
theorem dX3_count_145 : decode cX3_count 145 = .ok (.ireturn, 1) := dk_172 (dk_at dksX3_count_5 9 rfl rfl)
theorem dX3_count_146 : decode cX3_count 146 = .ok (.iconst (-1), 1) := dk_2 (dk_at dksX3_count_5 10 rfl rfl)
theorem dX3_count_147 : decode cX3_count 147 = .ok (.ireturn, 1) := dk_172 (dk_at dksX3_count_5 11 rfl rfl)
abbrev cX3_sheet : ByteArray := prog_19_method_97_code
def yX3_sheet : MethodName := ⟨RX3, "sheet", "(III)I"⟩
def dkwX3_sheet_3 : List UInt8 := [167, 255, 233, 29, 172]
abbrev dktX3_sheet_3 : List UInt8 := dkwX3_sheet_3 ++ []
def dkwX3_sheet_2 : List UInt8 := [21, 4, 16, 50, 162, 0, 22, 42, 180, 0, 152, 16, 50, 27, 104, 21, 4, 96, 3, 79, 132, 4, 1]
abbrev dktX3_sheet_2 : List UInt8 := dkwX3_sheet_2 ++ dktX3_sheet_3
def dkwX3_sheet_1 : List UInt8 := [156, 0, 6, 16, 242, 172, 42, 180, 0, 146, 27, 28, 79, 42, 180, 0, 149, 27, 29, 79, 3, 54, 4]
abbrev dktX3_sheet_1 : List UInt8 := dkwX3_sheet_1 ++ dktX3_sheet_2
def dkwX3_sheet_0 : List UInt8 := [27, 184, 0, 199, 153, 0, 16, 28, 184, 1, 144, 153, 0, 9, 29, 16, 50, 164, 0, 5, 2, 172, 29]
abbrev dktX3_sheet_0 : List UInt8 := dkwX3_sheet_0 ++ dktX3_sheet_1
theorem dksX3_sheet_0 : cX3_sheet.data.toList.drop 0 = dktX3_sheet_0 := by decide +kernel
theorem dksX3_sheet_1 : cX3_sheet.data.toList.drop 23 = dktX3_sheet_1 := dk_seg dksX3_sheet_0 23 rfl rfl
theorem dksX3_sheet_2 : cX3_sheet.data.toList.drop 46 = dktX3_sheet_2 := dk_seg dksX3_sheet_1 23 rfl rfl
theorem dksX3_sheet_3 : cX3_sheet.data.toList.drop 69 = dktX3_sheet_3 := dk_seg dksX3_sheet_2 23 rfl rfl
theorem dX3_sheet_0 : decode cX3_sheet 0 = .ok (.iload_n 1, 1) := dk_27 (dk_at dksX3_sheet_0 0 rfl rfl)
theorem dX3_sheet_1 : decode cX3_sheet 1 = .ok (.invokestatic 199, 3) := dk_184 0 199 (dk_at dksX3_sheet_0 1 rfl rfl)
theorem dX3_sheet_4 : decode cX3_sheet 4 = .ok (.ifCond .eq 16, 3) := dk_153 0 16 (dk_at dksX3_sheet_0 4 rfl rfl)
theorem dX3_sheet_7 : decode cX3_sheet 7 = .ok (.iload_n 2, 1) := dk_28 (dk_at dksX3_sheet_0 7 rfl rfl)
theorem dX3_sheet_8 : decode cX3_sheet 8 = .ok (.invokestatic 400, 3) := dk_184 1 144 (dk_at dksX3_sheet_0 8 rfl rfl)
theorem dX3_sheet_11 : decode cX3_sheet 11 = .ok (.ifCond .eq 9, 3) := dk_153 0 9 (dk_at dksX3_sheet_0 11 rfl rfl)
theorem dX3_sheet_14 : decode cX3_sheet 14 = .ok (.iload_n 3, 1) := dk_29 (dk_at dksX3_sheet_0 14 rfl rfl)
theorem dX3_sheet_15 : decode cX3_sheet 15 = .ok (.bipush 50, 2) := dk_16 50 (dk_at dksX3_sheet_0 15 rfl rfl)
theorem dX3_sheet_17 : decode cX3_sheet 17 = .ok (.if_icmp .le 5, 3) := dk_164 0 5 (dk_at dksX3_sheet_0 17 rfl rfl)
theorem dX3_sheet_20 : decode cX3_sheet 20 = .ok (.iconst (-1), 1) := dk_2 (dk_at dksX3_sheet_0 20 rfl rfl)
theorem dX3_sheet_21 : decode cX3_sheet 21 = .ok (.ireturn, 1) := dk_172 (dk_at dksX3_sheet_0 21 rfl rfl)
theorem dX3_sheet_22 : decode cX3_sheet 22 = .ok (.iload_n 3, 1) := dk_29 (dk_at dksX3_sheet_0 22 rfl rfl)
theorem dX3_sheet_23 : decode cX3_sheet 23 = .ok (.ifCond .ge 6, 3) := dk_156 0 6 (dk_at dksX3_sheet_1 0 rfl rfl)
theorem dX3_sheet_26 : decode cX3_sheet 26 = .ok (.bipush (-14), 2) := dk_16 242 (dk_at dksX3_sheet_1 3 rfl rfl)
theorem dX3_sheet_28 : decode cX3_sheet 28 = .ok (.ireturn, 1) := dk_172 (dk_at dksX3_sheet_1 5 rfl rfl)
theorem dX3_sheet_29 : decode cX3_sheet 29 = .ok (.aload_n 0, 1) := dk_42 (dk_at dksX3_sheet_1 6 rfl rfl)
theorem dX3_sheet_30 : decode cX3_sheet 30 = .ok (.getfield 146, 3) := dk_180 0 146 (dk_at dksX3_sheet_1 7 rfl rfl)
theorem dX3_sheet_33 : decode cX3_sheet 33 = .ok (.iload_n 1, 1) := dk_27 (dk_at dksX3_sheet_1 10 rfl rfl)
theorem dX3_sheet_34 : decode cX3_sheet 34 = .ok (.iload_n 2, 1) := dk_28 (dk_at dksX3_sheet_1 11 rfl rfl)
theorem dX3_sheet_35 : decode cX3_sheet 35 = .ok (.iastore, 1) := dk_79 (dk_at dksX3_sheet_1 12 rfl rfl)
theorem dX3_sheet_36 : decode cX3_sheet 36 = .ok (.aload_n 0, 1) := dk_42 (dk_at dksX3_sheet_1 13 rfl rfl)
theorem dX3_sheet_37 : decode cX3_sheet 37 = .ok (.getfield 149, 3) := dk_180 0 149 (dk_at dksX3_sheet_1 14 rfl rfl)
theorem dX3_sheet_40 : decode cX3_sheet 40 = .ok (.iload_n 1, 1) := dk_27 (dk_at dksX3_sheet_1 17 rfl rfl)
theorem dX3_sheet_41 : decode cX3_sheet 41 = .ok (.iload_n 3, 1) := dk_29 (dk_at dksX3_sheet_1 18 rfl rfl)
theorem dX3_sheet_42 : decode cX3_sheet 42 = .ok (.iastore, 1) := dk_79 (dk_at dksX3_sheet_1 19 rfl rfl)
theorem dX3_sheet_43 : decode cX3_sheet 43 = .ok (.iconst 0, 1) := dk_3 (dk_at dksX3_sheet_1 20 rfl rfl)
theorem dX3_sheet_44 : decode cX3_sheet 44 = .ok (.istore 4, 2) := dk_54 4 (dk_at dksX3_sheet_1 21 rfl rfl)
theorem dX3_sheet_46 : decode cX3_sheet 46 = .ok (.iload 4, 2) := dk_21 4 (dk_at dksX3_sheet_2 0 rfl rfl)
theorem dX3_sheet_48 : decode cX3_sheet 48 = .ok (.bipush 50, 2) := dk_16 50 (dk_at dksX3_sheet_2 2 rfl rfl)
theorem dX3_sheet_50 : decode cX3_sheet 50 = .ok (.if_icmp .ge 22, 3) := dk_162 0 22 (dk_at dksX3_sheet_2 4 rfl rfl)
theorem dX3_sheet_53 : decode cX3_sheet 53 = .ok (.aload_n 0, 1) := dk_42 (dk_at dksX3_sheet_2 7 rfl rfl)
theorem dX3_sheet_54 : decode cX3_sheet 54 = .ok (.getfield 152, 3) := dk_180 0 152 (dk_at dksX3_sheet_2 8 rfl rfl)
theorem dX3_sheet_57 : decode cX3_sheet 57 = .ok (.bipush 50, 2) := dk_16 50 (dk_at dksX3_sheet_2 11 rfl rfl)
theorem dX3_sheet_59 : decode cX3_sheet 59 = .ok (.iload_n 1, 1) := dk_27 (dk_at dksX3_sheet_2 13 rfl rfl)
theorem dX3_sheet_60 : decode cX3_sheet 60 = .ok (.imul, 1) := dk_104 (dk_at dksX3_sheet_2 14 rfl rfl)
theorem dX3_sheet_61 : decode cX3_sheet 61 = .ok (.iload 4, 2) := dk_21 4 (dk_at dksX3_sheet_2 15 rfl rfl)
theorem dX3_sheet_63 : decode cX3_sheet 63 = .ok (.iadd, 1) := dk_96 (dk_at dksX3_sheet_2 17 rfl rfl)
theorem dX3_sheet_64 : decode cX3_sheet 64 = .ok (.iconst 0, 1) := dk_3 (dk_at dksX3_sheet_2 18 rfl rfl)
theorem dX3_sheet_65 : decode cX3_sheet 65 = .ok (.iastore, 1) := dk_79 (dk_at dksX3_sheet_2 19 rfl rfl)
theorem dX3_sheet_66 : decode cX3_sheet 66 = .ok (.iinc 4 1, 3) := dk_132 4 1 (dk_at dksX3_sheet_2 20 rfl rfl)
theorem dX3_sheet_69 : decode cX3_sheet 69 = .ok (.goto (-23), 3) := dk_167 255 233 (dk_at dksX3_sheet_3 0 rfl rfl)
theorem dX3_sheet_72 : decode cX3_sheet 72 = .ok (.iload_n 3, 1) := dk_29 (dk_at dksX3_sheet_3 3 rfl rfl)
theorem dX3_sheet_73 : decode cX3_sheet 73 = .ok (.ireturn, 1) := dk_172 (dk_at dksX3_sheet_3 4 rfl rfl)
abbrev cX3_isLane : ByteArray := prog_19_method_95_code
def yX3_isLane : MethodName := ⟨RX3, "isLane", "(I)Z"⟩
def dkwX3_isLane_0 : List UInt8 := [26, 133, 9, 20, 1, 99, 184, 0, 160, 172]
abbrev dktX3_isLane_0 : List UInt8 := dkwX3_isLane_0 ++ []
theorem dksX3_isLane_0 : cX3_isLane.data.toList.drop 0 = dktX3_isLane_0 := by decide +kernel
theorem dX3_isLane_0 : decode cX3_isLane 0 = .ok (.iload_n 0, 1) := dk_26 (dk_at dksX3_isLane_0 0 rfl rfl)
theorem dX3_isLane_1 : decode cX3_isLane 1 = .ok (.i2l, 1) := dk_133 (dk_at dksX3_isLane_0 1 rfl rfl)
theorem dX3_isLane_2 : decode cX3_isLane 2 = .ok (.lconst 0, 1) := dk_9 (dk_at dksX3_isLane_0 2 rfl rfl)
theorem dX3_isLane_3 : decode cX3_isLane 3 = .ok (.ldc2_w 355, 3) := dk_20 1 99 (dk_at dksX3_isLane_0 3 rfl rfl)
theorem dX3_isLane_6 : decode cX3_isLane 6 = .ok (.invokestatic 160, 3) := dk_184 0 160 (dk_at dksX3_isLane_0 6 rfl rfl)
theorem dX3_isLane_9 : decode cX3_isLane 9 = .ok (.ireturn, 1) := dk_172 (dk_at dksX3_isLane_0 9 rfl rfl)
abbrev cX3_drop : ByteArray := prog_19_method_98_code
def yX3_drop : MethodName := ⟨RX3, "drop", "(I)I"⟩
def dkwX3_drop_1 : List UInt8 := [180, 0, 146, 27, 2, 79, 42, 180, 0, 149, 27, 46, 172]
abbrev dktX3_drop_1 : List UInt8 := dkwX3_drop_1 ++ []
def dkwX3_drop_0 : List UInt8 := [27, 184, 0, 199, 154, 0, 5, 2, 172, 42, 180, 0, 146, 27, 46, 156, 0, 6, 16, 245, 172, 42]
abbrev dktX3_drop_0 : List UInt8 := dkwX3_drop_0 ++ dktX3_drop_1
theorem dksX3_drop_0 : cX3_drop.data.toList.drop 0 = dktX3_drop_0 := by decide +kernel
theorem dksX3_drop_1 : cX3_drop.data.toList.drop 22 = dktX3_drop_1 := dk_seg dksX3_drop_0 22 rfl rfl
theorem dX3_drop_0 : decode cX3_drop 0 = .ok (.iload_n 1, 1) := dk_27 (dk_at dksX3_drop_0 0 rfl rfl)
theorem dX3_drop_1 : decode cX3_drop 1 = .ok (.invokestatic 199, 3) := dk_184 0 199 (dk_at dksX3_drop_0 1 rfl rfl)
theorem dX3_drop_4 : decode cX3_drop 4 = .ok (.ifCond .ne 5, 3) := dk_154 0 5 (dk_at dksX3_drop_0 4 rfl rfl)
theorem dX3_drop_7 : decode cX3_drop 7 = .ok (.iconst (-1), 1) := dk_2 (dk_at dksX3_drop_0 7 rfl rfl)
theorem dX3_drop_8 : decode cX3_drop 8 = .ok (.ireturn, 1) := dk_172 (dk_at dksX3_drop_0 8 rfl rfl)
theorem dX3_drop_9 : decode cX3_drop 9 = .ok (.aload_n 0, 1) := dk_42 (dk_at dksX3_drop_0 9 rfl rfl)
theorem dX3_drop_10 : decode cX3_drop 10 = .ok (.getfield 146, 3) := dk_180 0 146 (dk_at dksX3_drop_0 10 rfl rfl)
theorem dX3_drop_13 : decode cX3_drop 13 = .ok (.iload_n 1, 1) := dk_27 (dk_at dksX3_drop_0 13 rfl rfl)
theorem dX3_drop_14 : decode cX3_drop 14 = .ok (.iaload, 1) := dk_46 (dk_at dksX3_drop_0 14 rfl rfl)
theorem dX3_drop_15 : decode cX3_drop 15 = .ok (.ifCond .ge 6, 3) := dk_156 0 6 (dk_at dksX3_drop_0 15 rfl rfl)
theorem dX3_drop_18 : decode cX3_drop 18 = .ok (.bipush (-11), 2) := dk_16 245 (dk_at dksX3_drop_0 18 rfl rfl)
theorem dX3_drop_20 : decode cX3_drop 20 = .ok (.ireturn, 1) := dk_172 (dk_at dksX3_drop_0 20 rfl rfl)
theorem dX3_drop_21 : decode cX3_drop 21 = .ok (.aload_n 0, 1) := dk_42 (dk_at dksX3_drop_0 21 rfl rfl)
theorem dX3_drop_22 : decode cX3_drop 22 = .ok (.getfield 146, 3) := dk_180 0 146 (dk_at dksX3_drop_1 0 rfl rfl)
theorem dX3_drop_25 : decode cX3_drop 25 = .ok (.iload_n 1, 1) := dk_27 (dk_at dksX3_drop_1 3 rfl rfl)
theorem dX3_drop_26 : decode cX3_drop 26 = .ok (.iconst (-1), 1) := dk_2 (dk_at dksX3_drop_1 4 rfl rfl)
theorem dX3_drop_27 : decode cX3_drop 27 = .ok (.iastore, 1) := dk_79 (dk_at dksX3_drop_1 5 rfl rfl)
theorem dX3_drop_28 : decode cX3_drop 28 = .ok (.aload_n 0, 1) := dk_42 (dk_at dksX3_drop_1 6 rfl rfl)
theorem dX3_drop_29 : decode cX3_drop 29 = .ok (.getfield 149, 3) := dk_180 0 149 (dk_at dksX3_drop_1 7 rfl rfl)
theorem dX3_drop_32 : decode cX3_drop 32 = .ok (.iload_n 1, 1) := dk_27 (dk_at dksX3_drop_1 10 rfl rfl)
theorem dX3_drop_33 : decode cX3_drop 33 = .ok (.iaload, 1) := dk_46 (dk_at dksX3_drop_1 11 rfl rfl)
theorem dX3_drop_34 : decode cX3_drop 34 = .ok (.ireturn, 1) := dk_172 (dk_at dksX3_drop_1 12 rfl rfl)
abbrev cX3_item : ByteArray := prog_19_method_99_code
def yX3_item : MethodName := ⟨RX3, "item", "(IIII)I"⟩
def dkwX3_item_3 : List UInt8 := [21, 4, 79, 4, 172]
abbrev dktX3_item_3 : List UInt8 := dkwX3_item_3 ++ []
def dkwX3_item_2 : List UInt8 := [21, 4, 153, 0, 7, 4, 167, 0, 20, 3, 167, 0, 16, 28, 4, 160, 0, 9, 21, 4, 147, 167, 0, 5]
abbrev dktX3_item_2 : List UInt8 := dkwX3_item_2 ++ dktX3_item_3
def dkwX3_item_1 : List UInt8 := [54, 5, 21, 5, 156, 0, 6, 21, 5, 172, 42, 180, 0, 152, 16, 50, 27, 104, 29, 96, 28, 154, 0, 16]
abbrev dktX3_item_1 : List UInt8 := dkwX3_item_1 ++ dktX3_item_2
def dkwX3_item_0 : List UInt8 := [27, 184, 0, 199, 153, 0, 10, 28, 184, 1, 144, 154, 0, 5, 2, 172, 42, 27, 28, 29, 4, 182, 0, 202]
abbrev dktX3_item_0 : List UInt8 := dkwX3_item_0 ++ dktX3_item_1
theorem dksX3_item_0 : cX3_item.data.toList.drop 0 = dktX3_item_0 := by decide +kernel
theorem dksX3_item_1 : cX3_item.data.toList.drop 24 = dktX3_item_1 := dk_seg dksX3_item_0 24 rfl rfl
theorem dksX3_item_2 : cX3_item.data.toList.drop 48 = dktX3_item_2 := dk_seg dksX3_item_1 24 rfl rfl
theorem dksX3_item_3 : cX3_item.data.toList.drop 72 = dktX3_item_3 := dk_seg dksX3_item_2 24 rfl rfl
theorem dX3_item_0 : decode cX3_item 0 = .ok (.iload_n 1, 1) := dk_27 (dk_at dksX3_item_0 0 rfl rfl)
theorem dX3_item_1 : decode cX3_item 1 = .ok (.invokestatic 199, 3) := dk_184 0 199 (dk_at dksX3_item_0 1 rfl rfl)
theorem dX3_item_4 : decode cX3_item 4 = .ok (.ifCond .eq 10, 3) := dk_153 0 10 (dk_at dksX3_item_0 4 rfl rfl)
theorem dX3_item_7 : decode cX3_item 7 = .ok (.iload_n 2, 1) := dk_28 (dk_at dksX3_item_0 7 rfl rfl)
theorem dX3_item_8 : decode cX3_item 8 = .ok (.invokestatic 400, 3) := dk_184 1 144 (dk_at dksX3_item_0 8 rfl rfl)
theorem dX3_item_11 : decode cX3_item 11 = .ok (.ifCond .ne 5, 3) := dk_154 0 5 (dk_at dksX3_item_0 11 rfl rfl)
theorem dX3_item_14 : decode cX3_item 14 = .ok (.iconst (-1), 1) := dk_2 (dk_at dksX3_item_0 14 rfl rfl)
theorem dX3_item_15 : decode cX3_item 15 = .ok (.ireturn, 1) := dk_172 (dk_at dksX3_item_0 15 rfl rfl)
theorem dX3_item_16 : decode cX3_item 16 = .ok (.aload_n 0, 1) := dk_42 (dk_at dksX3_item_0 16 rfl rfl)
theorem dX3_item_17 : decode cX3_item 17 = .ok (.iload_n 1, 1) := dk_27 (dk_at dksX3_item_0 17 rfl rfl)
theorem dX3_item_18 : decode cX3_item 18 = .ok (.iload_n 2, 1) := dk_28 (dk_at dksX3_item_0 18 rfl rfl)
theorem dX3_item_19 : decode cX3_item 19 = .ok (.iload_n 3, 1) := dk_29 (dk_at dksX3_item_0 19 rfl rfl)
theorem dX3_item_20 : decode cX3_item 20 = .ok (.iconst 1, 1) := dk_4 (dk_at dksX3_item_0 20 rfl rfl)
theorem dX3_item_21 : decode cX3_item 21 = .ok (.invokevirtual 202, 3) := dk_182 0 202 (dk_at dksX3_item_0 21 rfl rfl)
theorem dX3_item_24 : decode cX3_item 24 = .ok (.istore 5, 2) := dk_54 5 (dk_at dksX3_item_1 0 rfl rfl)
theorem dX3_item_26 : decode cX3_item 26 = .ok (.iload 5, 2) := dk_21 5 (dk_at dksX3_item_1 2 rfl rfl)
theorem dX3_item_28 : decode cX3_item 28 = .ok (.ifCond .ge 6, 3) := dk_156 0 6 (dk_at dksX3_item_1 4 rfl rfl)
theorem dX3_item_31 : decode cX3_item 31 = .ok (.iload 5, 2) := dk_21 5 (dk_at dksX3_item_1 7 rfl rfl)
theorem dX3_item_33 : decode cX3_item 33 = .ok (.ireturn, 1) := dk_172 (dk_at dksX3_item_1 9 rfl rfl)
theorem dX3_item_34 : decode cX3_item 34 = .ok (.aload_n 0, 1) := dk_42 (dk_at dksX3_item_1 10 rfl rfl)
theorem dX3_item_35 : decode cX3_item 35 = .ok (.getfield 152, 3) := dk_180 0 152 (dk_at dksX3_item_1 11 rfl rfl)
theorem dX3_item_38 : decode cX3_item 38 = .ok (.bipush 50, 2) := dk_16 50 (dk_at dksX3_item_1 14 rfl rfl)
theorem dX3_item_40 : decode cX3_item 40 = .ok (.iload_n 1, 1) := dk_27 (dk_at dksX3_item_1 16 rfl rfl)
theorem dX3_item_41 : decode cX3_item 41 = .ok (.imul, 1) := dk_104 (dk_at dksX3_item_1 17 rfl rfl)
theorem dX3_item_42 : decode cX3_item 42 = .ok (.iload_n 3, 1) := dk_29 (dk_at dksX3_item_1 18 rfl rfl)
theorem dX3_item_43 : decode cX3_item 43 = .ok (.iadd, 1) := dk_96 (dk_at dksX3_item_1 19 rfl rfl)
theorem dX3_item_44 : decode cX3_item 44 = .ok (.iload_n 2, 1) := dk_28 (dk_at dksX3_item_1 20 rfl rfl)
theorem dX3_item_45 : decode cX3_item 45 = .ok (.ifCond .ne 16, 3) := dk_154 0 16 (dk_at dksX3_item_1 21 rfl rfl)
theorem dX3_item_48 : decode cX3_item 48 = .ok (.iload 4, 2) := dk_21 4 (dk_at dksX3_item_2 0 rfl rfl)
theorem dX3_item_50 : decode cX3_item 50 = .ok (.ifCond .eq 7, 3) := dk_153 0 7 (dk_at dksX3_item_2 2 rfl rfl)
theorem dX3_item_53 : decode cX3_item 53 = .ok (.iconst 1, 1) := dk_4 (dk_at dksX3_item_2 5 rfl rfl)
theorem dX3_item_54 : decode cX3_item 54 = .ok (.goto 20, 3) := dk_167 0 20 (dk_at dksX3_item_2 6 rfl rfl)
theorem dX3_item_57 : decode cX3_item 57 = .ok (.iconst 0, 1) := dk_3 (dk_at dksX3_item_2 9 rfl rfl)
theorem dX3_item_58 : decode cX3_item 58 = .ok (.goto 16, 3) := dk_167 0 16 (dk_at dksX3_item_2 10 rfl rfl)
theorem dX3_item_61 : decode cX3_item 61 = .ok (.iload_n 2, 1) := dk_28 (dk_at dksX3_item_2 13 rfl rfl)
theorem dX3_item_62 : decode cX3_item 62 = .ok (.iconst 1, 1) := dk_4 (dk_at dksX3_item_2 14 rfl rfl)
theorem dX3_item_63 : decode cX3_item 63 = .ok (.if_icmp .ne 9, 3) := dk_160 0 9 (dk_at dksX3_item_2 15 rfl rfl)
theorem dX3_item_66 : decode cX3_item 66 = .ok (.iload 4, 2) := dk_21 4 (dk_at dksX3_item_2 18 rfl rfl)
theorem dX3_item_68 : decode cX3_item 68 = .ok (.i2s, 1) := dk_147 (dk_at dksX3_item_2 20 rfl rfl)
theorem dX3_item_69 : decode cX3_item 69 = .ok (.goto 5, 3) := dk_167 0 5 (dk_at dksX3_item_2 21 rfl rfl)
theorem dX3_item_72 : decode cX3_item 72 = .ok (.iload 4, 2) := dk_21 4 (dk_at dksX3_item_3 0 rfl rfl)
theorem dX3_item_74 : decode cX3_item 74 = .ok (.iastore, 1) := dk_79 (dk_at dksX3_item_3 2 rfl rfl)
theorem dX3_item_75 : decode cX3_item 75 = .ok (.iconst 1, 1) := dk_4 (dk_at dksX3_item_3 3 rfl rfl)
theorem dX3_item_76 : decode cX3_item 76 = .ok (.ireturn, 1) := dk_172 (dk_at dksX3_item_3 4 rfl rfl)
abbrev cX3_copy : ByteArray := prog_19_method_100_code
def yX3_copy : MethodName := ⟨RX3, "copy", "(IIIII)I"⟩
def dkwX3_copy_7 : List UInt8 := [180, 0, 155, 21, 6, 46, 79, 132, 6, 1, 167, 255, 224, 21, 5, 172]
abbrev dktX3_copy_7 : List UInt8 := dkwX3_copy_7 ++ []
def dkwX3_copy_6 : List UInt8 := [21, 6, 21, 5, 162, 0, 31, 42, 180, 0, 152, 16, 50, 29, 104, 21, 4, 96, 21, 6, 96, 42]
abbrev dktX3_copy_6 : List UInt8 := dkwX3_copy_6 ++ dktX3_copy_7
def dkwX3_copy_5 : List UInt8 := [180, 0, 152, 16, 50, 27, 104, 28, 96, 21, 6, 96, 46, 79, 132, 6, 1, 167, 255, 225, 3, 54, 6]
abbrev dktX3_copy_5 : List UInt8 := dkwX3_copy_5 ++ dktX3_copy_6
def dkwX3_copy_4 : List UInt8 := [156, 0, 6, 16, 243, 172, 3, 54, 6, 21, 6, 21, 5, 162, 0, 30, 42, 180, 0, 155, 21, 6, 42]
abbrev dktX3_copy_4 : List UInt8 := dkwX3_copy_4 ++ dktX3_copy_5
def dkwX3_copy_3 : List UInt8 := [28, 21, 5, 182, 0, 202, 155, 0, 21, 42, 29, 42, 180, 0, 146, 29, 46, 21, 4, 21, 5, 182, 0, 202]
abbrev dktX3_copy_3 : List UInt8 := dkwX3_copy_3 ++ dktX3_copy_4
def dkwX3_copy_2 : List UInt8 := [180, 0, 146, 29, 46, 159, 0, 6, 16, 244, 172, 21, 5, 155, 0, 38, 42, 27, 42, 180, 0, 146, 27, 46]
abbrev dktX3_copy_2 : List UInt8 := dkwX3_copy_2 ++ dktX3_copy_3
def dkwX3_copy_1 : List UInt8 := [155, 0, 12, 42, 180, 0, 146, 29, 46, 156, 0, 6, 16, 245, 172, 42, 180, 0, 146, 27, 46, 42]
abbrev dktX3_copy_1 : List UInt8 := dkwX3_copy_1 ++ dktX3_copy_2
def dkwX3_copy_0 : List UInt8 := [27, 184, 0, 199, 153, 0, 10, 29, 184, 0, 199, 154, 0, 5, 2, 172, 42, 180, 0, 146, 27, 46]
abbrev dktX3_copy_0 : List UInt8 := dkwX3_copy_0 ++ dktX3_copy_1
theorem dksX3_copy_0 : cX3_copy.data.toList.drop 0 = dktX3_copy_0 := by decide +kernel
theorem dksX3_copy_1 : cX3_copy.data.toList.drop 22 = dktX3_copy_1 := dk_seg dksX3_copy_0 22 rfl rfl
theorem dksX3_copy_2 : cX3_copy.data.toList.drop 44 = dktX3_copy_2 := dk_seg dksX3_copy_1 22 rfl rfl
theorem dksX3_copy_3 : cX3_copy.data.toList.drop 68 = dktX3_copy_3 := dk_seg dksX3_copy_2 24 rfl rfl
theorem dksX3_copy_4 : cX3_copy.data.toList.drop 92 = dktX3_copy_4 := dk_seg dksX3_copy_3 24 rfl rfl
theorem dksX3_copy_5 : cX3_copy.data.toList.drop 115 = dktX3_copy_5 := dk_seg dksX3_copy_4 23 rfl rfl
theorem dksX3_copy_6 : cX3_copy.data.toList.drop 138 = dktX3_copy_6 := dk_seg dksX3_copy_5 23 rfl rfl
theorem dksX3_copy_7 : cX3_copy.data.toList.drop 160 = dktX3_copy_7 := dk_seg dksX3_copy_6 22 rfl rfl
theorem dX3_copy_0 : decode cX3_copy 0 = .ok (.iload_n 1, 1) := dk_27 (dk_at dksX3_copy_0 0 rfl rfl)
theorem dX3_copy_1 : decode cX3_copy 1 = .ok (.invokestatic 199, 3) := dk_184 0 199 (dk_at dksX3_copy_0 1 rfl rfl)
theorem dX3_copy_4 : decode cX3_copy 4 = .ok (.ifCond .eq 10, 3) := dk_153 0 10 (dk_at dksX3_copy_0 4 rfl rfl)
theorem dX3_copy_7 : decode cX3_copy 7 = .ok (.iload_n 3, 1) := dk_29 (dk_at dksX3_copy_0 7 rfl rfl)
theorem dX3_copy_8 : decode cX3_copy 8 = .ok (.invokestatic 199, 3) := dk_184 0 199 (dk_at dksX3_copy_0 8 rfl rfl)
theorem dX3_copy_11 : decode cX3_copy 11 = .ok (.ifCond .ne 5, 3) := dk_154 0 5 (dk_at dksX3_copy_0 11 rfl rfl)
theorem dX3_copy_14 : decode cX3_copy 14 = .ok (.iconst (-1), 1) := dk_2 (dk_at dksX3_copy_0 14 rfl rfl)
theorem dX3_copy_15 : decode cX3_copy 15 = .ok (.ireturn, 1) := dk_172 (dk_at dksX3_copy_0 15 rfl rfl)
theorem dX3_copy_16 : decode cX3_copy 16 = .ok (.aload_n 0, 1) := dk_42 (dk_at dksX3_copy_0 16 rfl rfl)
theorem dX3_copy_17 : decode cX3_copy 17 = .ok (.getfield 146, 3) := dk_180 0 146 (dk_at dksX3_copy_0 17 rfl rfl)
theorem dX3_copy_20 : decode cX3_copy 20 = .ok (.iload_n 1, 1) := dk_27 (dk_at dksX3_copy_0 20 rfl rfl)
theorem dX3_copy_21 : decode cX3_copy 21 = .ok (.iaload, 1) := dk_46 (dk_at dksX3_copy_0 21 rfl rfl)
theorem dX3_copy_22 : decode cX3_copy 22 = .ok (.ifCond .lt 12, 3) := dk_155 0 12 (dk_at dksX3_copy_1 0 rfl rfl)
theorem dX3_copy_25 : decode cX3_copy 25 = .ok (.aload_n 0, 1) := dk_42 (dk_at dksX3_copy_1 3 rfl rfl)
theorem dX3_copy_26 : decode cX3_copy 26 = .ok (.getfield 146, 3) := dk_180 0 146 (dk_at dksX3_copy_1 4 rfl rfl)
theorem dX3_copy_29 : decode cX3_copy 29 = .ok (.iload_n 3, 1) := dk_29 (dk_at dksX3_copy_1 7 rfl rfl)
theorem dX3_copy_30 : decode cX3_copy 30 = .ok (.iaload, 1) := dk_46 (dk_at dksX3_copy_1 8 rfl rfl)
theorem dX3_copy_31 : decode cX3_copy 31 = .ok (.ifCond .ge 6, 3) := dk_156 0 6 (dk_at dksX3_copy_1 9 rfl rfl)
theorem dX3_copy_34 : decode cX3_copy 34 = .ok (.bipush (-11), 2) := dk_16 245 (dk_at dksX3_copy_1 12 rfl rfl)
theorem dX3_copy_36 : decode cX3_copy 36 = .ok (.ireturn, 1) := dk_172 (dk_at dksX3_copy_1 14 rfl rfl)
theorem dX3_copy_37 : decode cX3_copy 37 = .ok (.aload_n 0, 1) := dk_42 (dk_at dksX3_copy_1 15 rfl rfl)
theorem dX3_copy_38 : decode cX3_copy 38 = .ok (.getfield 146, 3) := dk_180 0 146 (dk_at dksX3_copy_1 16 rfl rfl)
theorem dX3_copy_41 : decode cX3_copy 41 = .ok (.iload_n 1, 1) := dk_27 (dk_at dksX3_copy_1 19 rfl rfl)
theorem dX3_copy_42 : decode cX3_copy 42 = .ok (.iaload, 1) := dk_46 (dk_at dksX3_copy_1 20 rfl rfl)
theorem dX3_copy_43 : decode cX3_copy 43 = .ok (.aload_n 0, 1) := dk_42 (dk_at dksX3_copy_1 21 rfl rfl)
theorem dX3_copy_44 : decode cX3_copy 44 = .ok (.getfield 146, 3) := dk_180 0 146 (dk_at dksX3_copy_2 0 rfl rfl)
theorem dX3_copy_47 : decode cX3_copy 47 = .ok (.iload_n 3, 1) := dk_29 (dk_at dksX3_copy_2 3 rfl rfl)
theorem dX3_copy_48 : decode cX3_copy 48 = .ok (.iaload, 1) := dk_46 (dk_at dksX3_copy_2 4 rfl rfl)
theorem dX3_copy_49 : decode cX3_copy 49 = .ok (.if_icmp .eq 6, 3) := dk_159 0 6 (dk_at dksX3_copy_2 5 rfl rfl)
theorem dX3_copy_52 : decode cX3_copy 52 = .ok (.bipush (-12), 2) := dk_16 244 (dk_at dksX3_copy_2 8 rfl rfl)
theorem dX3_copy_54 : decode cX3_copy 54 = .ok (.ireturn, 1) := dk_172 (dk_at dksX3_copy_2 10 rfl rfl)
theorem dX3_copy_55 : decode cX3_copy 55 = .ok (.iload 5, 2) := dk_21 5 (dk_at dksX3_copy_2 11 rfl rfl)
theorem dX3_copy_57 : decode cX3_copy 57 = .ok (.ifCond .lt 38, 3) := dk_155 0 38 (dk_at dksX3_copy_2 13 rfl rfl)
theorem dX3_copy_60 : decode cX3_copy 60 = .ok (.aload_n 0, 1) := dk_42 (dk_at dksX3_copy_2 16 rfl rfl)
theorem dX3_copy_61 : decode cX3_copy 61 = .ok (.iload_n 1, 1) := dk_27 (dk_at dksX3_copy_2 17 rfl rfl)
theorem dX3_copy_62 : decode cX3_copy 62 = .ok (.aload_n 0, 1) := dk_42 (dk_at dksX3_copy_2 18 rfl rfl)
theorem dX3_copy_63 : decode cX3_copy 63 = .ok (.getfield 146, 3) := dk_180 0 146 (dk_at dksX3_copy_2 19 rfl rfl)
theorem dX3_copy_66 : decode cX3_copy 66 = .ok (.iload_n 1, 1) := dk_27 (dk_at dksX3_copy_2 22 rfl rfl)
theorem dX3_copy_67 : decode cX3_copy 67 = .ok (.iaload, 1) := dk_46 (dk_at dksX3_copy_2 23 rfl rfl)
theorem dX3_copy_68 : decode cX3_copy 68 = .ok (.iload_n 2, 1) := dk_28 (dk_at dksX3_copy_3 0 rfl rfl)
theorem dX3_copy_69 : decode cX3_copy 69 = .ok (.iload 5, 2) := dk_21 5 (dk_at dksX3_copy_3 1 rfl rfl)
theorem dX3_copy_71 : decode cX3_copy 71 = .ok (.invokevirtual 202, 3) := dk_182 0 202 (dk_at dksX3_copy_3 3 rfl rfl)
theorem dX3_copy_74 : decode cX3_copy 74 = .ok (.ifCond .lt 21, 3) := dk_155 0 21 (dk_at dksX3_copy_3 6 rfl rfl)
theorem dX3_copy_77 : decode cX3_copy 77 = .ok (.aload_n 0, 1) := dk_42 (dk_at dksX3_copy_3 9 rfl rfl)
theorem dX3_copy_78 : decode cX3_copy 78 = .ok (.iload_n 3, 1) := dk_29 (dk_at dksX3_copy_3 10 rfl rfl)
theorem dX3_copy_79 : decode cX3_copy 79 = .ok (.aload_n 0, 1) := dk_42 (dk_at dksX3_copy_3 11 rfl rfl)
theorem dX3_copy_80 : decode cX3_copy 80 = .ok (.getfield 146, 3) := dk_180 0 146 (dk_at dksX3_copy_3 12 rfl rfl)
theorem dX3_copy_83 : decode cX3_copy 83 = .ok (.iload_n 3, 1) := dk_29 (dk_at dksX3_copy_3 15 rfl rfl)
theorem dX3_copy_84 : decode cX3_copy 84 = .ok (.iaload, 1) := dk_46 (dk_at dksX3_copy_3 16 rfl rfl)
theorem dX3_copy_85 : decode cX3_copy 85 = .ok (.iload 4, 2) := dk_21 4 (dk_at dksX3_copy_3 17 rfl rfl)
theorem dX3_copy_87 : decode cX3_copy 87 = .ok (.iload 5, 2) := dk_21 5 (dk_at dksX3_copy_3 19 rfl rfl)
theorem dX3_copy_89 : decode cX3_copy 89 = .ok (.invokevirtual 202, 3) := dk_182 0 202 (dk_at dksX3_copy_3 21 rfl rfl)
theorem dX3_copy_92 : decode cX3_copy 92 = .ok (.ifCond .ge 6, 3) := dk_156 0 6 (dk_at dksX3_copy_4 0 rfl rfl)
theorem dX3_copy_95 : decode cX3_copy 95 = .ok (.bipush (-13), 2) := dk_16 243 (dk_at dksX3_copy_4 3 rfl rfl)
theorem dX3_copy_97 : decode cX3_copy 97 = .ok (.ireturn, 1) := dk_172 (dk_at dksX3_copy_4 5 rfl rfl)
theorem dX3_copy_98 : decode cX3_copy 98 = .ok (.iconst 0, 1) := dk_3 (dk_at dksX3_copy_4 6 rfl rfl)
theorem dX3_copy_99 : decode cX3_copy 99 = .ok (.istore 6, 2) := dk_54 6 (dk_at dksX3_copy_4 7 rfl rfl)
theorem dX3_copy_101 : decode cX3_copy 101 = .ok (.iload 6, 2) := dk_21 6 (dk_at dksX3_copy_4 9 rfl rfl)
theorem dX3_copy_103 : decode cX3_copy 103 = .ok (.iload 5, 2) := dk_21 5 (dk_at dksX3_copy_4 11 rfl rfl)
theorem dX3_copy_105 : decode cX3_copy 105 = .ok (.if_icmp .ge 30, 3) := dk_162 0 30 (dk_at dksX3_copy_4 13 rfl rfl)
theorem dX3_copy_108 : decode cX3_copy 108 = .ok (.aload_n 0, 1) := dk_42 (dk_at dksX3_copy_4 16 rfl rfl)
theorem dX3_copy_109 : decode cX3_copy 109 = .ok (.getfield 155, 3) := dk_180 0 155 (dk_at dksX3_copy_4 17 rfl rfl)
theorem dX3_copy_112 : decode cX3_copy 112 = .ok (.iload 6, 2) := dk_21 6 (dk_at dksX3_copy_4 20 rfl rfl)
theorem dX3_copy_114 : decode cX3_copy 114 = .ok (.aload_n 0, 1) := dk_42 (dk_at dksX3_copy_4 22 rfl rfl)
theorem dX3_copy_115 : decode cX3_copy 115 = .ok (.getfield 152, 3) := dk_180 0 152 (dk_at dksX3_copy_5 0 rfl rfl)
theorem dX3_copy_118 : decode cX3_copy 118 = .ok (.bipush 50, 2) := dk_16 50 (dk_at dksX3_copy_5 3 rfl rfl)
theorem dX3_copy_120 : decode cX3_copy 120 = .ok (.iload_n 1, 1) := dk_27 (dk_at dksX3_copy_5 5 rfl rfl)
theorem dX3_copy_121 : decode cX3_copy 121 = .ok (.imul, 1) := dk_104 (dk_at dksX3_copy_5 6 rfl rfl)
theorem dX3_copy_122 : decode cX3_copy 122 = .ok (.iload_n 2, 1) := dk_28 (dk_at dksX3_copy_5 7 rfl rfl)
theorem dX3_copy_123 : decode cX3_copy 123 = .ok (.iadd, 1) := dk_96 (dk_at dksX3_copy_5 8 rfl rfl)
theorem dX3_copy_124 : decode cX3_copy 124 = .ok (.iload 6, 2) := dk_21 6 (dk_at dksX3_copy_5 9 rfl rfl)
theorem dX3_copy_126 : decode cX3_copy 126 = .ok (.iadd, 1) := dk_96 (dk_at dksX3_copy_5 11 rfl rfl)
theorem dX3_copy_127 : decode cX3_copy 127 = .ok (.iaload, 1) := dk_46 (dk_at dksX3_copy_5 12 rfl rfl)
theorem dX3_copy_128 : decode cX3_copy 128 = .ok (.iastore, 1) := dk_79 (dk_at dksX3_copy_5 13 rfl rfl)
theorem dX3_copy_129 : decode cX3_copy 129 = .ok (.iinc 6 1, 3) := dk_132 6 1 (dk_at dksX3_copy_5 14 rfl rfl)
theorem dX3_copy_132 : decode cX3_copy 132 = .ok (.goto (-31), 3) := dk_167 255 225 (dk_at dksX3_copy_5 17 rfl rfl)
theorem dX3_copy_135 : decode cX3_copy 135 = .ok (.iconst 0, 1) := dk_3 (dk_at dksX3_copy_5 20 rfl rfl)
theorem dX3_copy_136 : decode cX3_copy 136 = .ok (.istore 6, 2) := dk_54 6 (dk_at dksX3_copy_5 21 rfl rfl)
theorem dX3_copy_138 : decode cX3_copy 138 = .ok (.iload 6, 2) := dk_21 6 (dk_at dksX3_copy_6 0 rfl rfl)
theorem dX3_copy_140 : decode cX3_copy 140 = .ok (.iload 5, 2) := dk_21 5 (dk_at dksX3_copy_6 2 rfl rfl)
theorem dX3_copy_142 : decode cX3_copy 142 = .ok (.if_icmp .ge 31, 3) := dk_162 0 31 (dk_at dksX3_copy_6 4 rfl rfl)
theorem dX3_copy_145 : decode cX3_copy 145 = .ok (.aload_n 0, 1) := dk_42 (dk_at dksX3_copy_6 7 rfl rfl)
theorem dX3_copy_146 : decode cX3_copy 146 = .ok (.getfield 152, 3) := dk_180 0 152 (dk_at dksX3_copy_6 8 rfl rfl)
theorem dX3_copy_149 : decode cX3_copy 149 = .ok (.bipush 50, 2) := dk_16 50 (dk_at dksX3_copy_6 11 rfl rfl)
theorem dX3_copy_151 : decode cX3_copy 151 = .ok (.iload_n 3, 1) := dk_29 (dk_at dksX3_copy_6 13 rfl rfl)
theorem dX3_copy_152 : decode cX3_copy 152 = .ok (.imul, 1) := dk_104 (dk_at dksX3_copy_6 14 rfl rfl)
theorem dX3_copy_153 : decode cX3_copy 153 = .ok (.iload 4, 2) := dk_21 4 (dk_at dksX3_copy_6 15 rfl rfl)
theorem dX3_copy_155 : decode cX3_copy 155 = .ok (.iadd, 1) := dk_96 (dk_at dksX3_copy_6 17 rfl rfl)
theorem dX3_copy_156 : decode cX3_copy 156 = .ok (.iload 6, 2) := dk_21 6 (dk_at dksX3_copy_6 18 rfl rfl)
theorem dX3_copy_158 : decode cX3_copy 158 = .ok (.iadd, 1) := dk_96 (dk_at dksX3_copy_6 20 rfl rfl)
theorem dX3_copy_159 : decode cX3_copy 159 = .ok (.aload_n 0, 1) := dk_42 (dk_at dksX3_copy_6 21 rfl rfl)
theorem dX3_copy_160 : decode cX3_copy 160 = .ok (.getfield 155, 3) := dk_180 0 155 (dk_at dksX3_copy_7 0 rfl rfl)
theorem dX3_copy_163 : decode cX3_copy 163 = .ok (.iload 6, 2) := dk_21 6 (dk_at dksX3_copy_7 3 rfl rfl)
theorem dX3_copy_165 : decode cX3_copy 165 = .ok (.iaload, 1) := dk_46 (dk_at dksX3_copy_7 5 rfl rfl)
theorem dX3_copy_166 : decode cX3_copy 166 = .ok (.iastore, 1) := dk_79 (dk_at dksX3_copy_7 6 rfl rfl)
theorem dX3_copy_167 : decode cX3_copy 167 = .ok (.iinc 6 1, 3) := dk_132 6 1 (dk_at dksX3_copy_7 7 rfl rfl)
theorem dX3_copy_170 : decode cX3_copy 170 = .ok (.goto (-32), 3) := dk_167 255 224 (dk_at dksX3_copy_7 10 rfl rfl)
theorem dX3_copy_173 : decode cX3_copy 173 = .ok (.iload 5, 2) := dk_21 5 (dk_at dksX3_copy_7 13 rfl rfl)
theorem dX3_copy_175 : decode cX3_copy 175 = .ok (.ireturn, 1) := dk_172 (dk_at dksX3_copy_7 15 rfl rfl)
theorem q90 : (Jvm.Cond.initialized "RoadHousesModel") ∈ lw_all := lw_g (lw_at lw_m1 9 rfl) rfl
theorem q430 : (Jvm.Cond.selects "RoadHousesModel" ({ cls := "java/lang/Object", name := "getClass", desc := "()Ljava/lang/Class;" } : Jvm.MethodName) ({ cls := "java/lang/Object", name := "getClass", desc := "()Ljava/lang/Class;" } : Jvm.MethodName)) ∈ lw_all := lw_g (lw_at lw_m2 109 rfl) rfl
theorem q1392 : (Jvm.Cond.instantiable "RoadHousesModel" (62 : Nat)) ∈ lw_all := lw_g (lw_at lw_m6 111 rfl) rfl
theorem q1394 : (Jvm.Cond.instanceMethod ({ cls := "RoadHousesModel", name := "<init>", desc := "()V" } : Jvm.MethodName)) ∈ lw_all := lw_g (lw_at lw_m6 113 rfl) rfl
theorem q1395 : (Jvm.Cond.code ({ cls := "RoadHousesModel", name := "<init>", desc := "()V" } : Jvm.MethodName) prog_19_method_3_code (2 : Nat) (Option.none : Option Jvm.ClassFile.FieldType)) ∈ lw_all := lw_g (lw_at lw_m6 114 rfl) rfl
theorem q1396 : (Jvm.Cond.methodLink "RoadHousesModel" (1 : Nat) ({ cls := "java/lang/Object", name := "<init>", desc := "()V" } : Jvm.MethodName)) ∈ lw_all := lw_g (lw_at lw_m6 115 rfl) rfl
theorem q1397 : (Jvm.Cond.fieldLink "RoadHousesModel" (190 : Nat) "RoadHousesModel" "now" "I") ∈ lw_all := lw_g (lw_at lw_m6 116 rfl) rfl
theorem q1398 : (Jvm.Cond.fieldLink "RoadHousesModel" (166 : Nat) "RoadHousesModel" "places" "I") ∈ lw_all := lw_g (lw_at lw_m6 117 rfl) rfl
theorem q1399 : (Jvm.Cond.fieldLink "RoadHousesModel" (7 : Nat) "RoadHousesModel" "kinds" "[I") ∈ lw_all := lw_g (lw_at lw_m6 118 rfl) rfl
theorem q1400 : (Jvm.Cond.fieldLink "RoadHousesModel" (13 : Nat) "RoadHousesModel" "lands" "[I") ∈ lw_all := lw_g (lw_at lw_m6 119 rfl) rfl
theorem q1401 : (Jvm.Cond.fieldLink "RoadHousesModel" (16 : Nat) "RoadHousesModel" "beds" "[I") ∈ lw_all := lw_g (lw_at lw_m6 120 rfl) rfl
theorem q1402 : (Jvm.Cond.fieldLink "RoadHousesModel" (19 : Nat) "RoadHousesModel" "walls" "[I") ∈ lw_all := lw_g (lw_at lw_m6 121 rfl) rfl
theorem q1403 : (Jvm.Cond.fieldLink "RoadHousesModel" (22 : Nat) "RoadHousesModel" "depths" "[I") ∈ lw_all := lw_g (lw_at lw_m6 122 rfl) rfl
theorem q1404 : (Jvm.Cond.fieldLink "RoadHousesModel" (25 : Nat) "RoadHousesModel" "eyes" "[I") ∈ lw_all := lw_g (lw_at lw_m6 123 rfl) rfl
theorem q1405 : (Jvm.Cond.fieldLink "RoadHousesModel" (28 : Nat) "RoadHousesModel" "known" "[I") ∈ lw_all := lw_g (lw_at lw_m6 124 rfl) rfl
theorem q1406 : (Jvm.Cond.fieldLink "RoadHousesModel" (31 : Nat) "RoadHousesModel" "isWatched" "[Z") ∈ lw_all := lw_g (lw_at lw_m6 125 rfl) rfl
theorem q1407 : (Jvm.Cond.fieldLink "RoadHousesModel" (35 : Nat) "RoadHousesModel" "bearing" "[Z") ∈ lw_all := lw_g (lw_at lw_m6 126 rfl) rfl
theorem q1408 : (Jvm.Cond.fieldLink "RoadHousesModel" (38 : Nat) "RoadHousesModel" "ways" "[I") ∈ lw_all := lw_g (lw_at lw_m6 127 rfl) rfl
theorem q1409 : (Jvm.Cond.fieldLink "RoadHousesModel" (187 : Nat) "RoadHousesModel" "changes" "I") ∈ lw_all := lw_g (lw_at lw_m6 128 rfl) rfl
theorem q1410 : (Jvm.Cond.fieldLink "RoadHousesModel" (41 : Nat) "RoadHousesModel" "changeTime" "[I") ∈ lw_all := lw_g (lw_at lw_m6 129 rfl) rfl
theorem q1411 : (Jvm.Cond.fieldLink "RoadHousesModel" (44 : Nat) "RoadHousesModel" "changeHouse" "[I") ∈ lw_all := lw_g (lw_at lw_m6 130 rfl) rfl
theorem q1412 : (Jvm.Cond.fieldLink "RoadHousesModel" (47 : Nat) "RoadHousesModel" "changeIs" "[Z") ∈ lw_all := lw_g (lw_at lw_m6 131 rfl) rfl
theorem q1413 : (Jvm.Cond.fieldLink "RoadHousesModel" (50 : Nat) "RoadHousesModel" "fars" "[I") ∈ lw_all := lw_g (lw_at lw_m6 132 rfl) rfl
theorem q1414 : (Jvm.Cond.fieldLink "RoadHousesModel" (53 : Nat) "RoadHousesModel" "isDone" "[Z") ∈ lw_all := lw_g (lw_at lw_m6 133 rfl) rfl
theorem q1415 : (Jvm.Cond.fieldLink "RoadHousesModel" (213 : Nat) "RoadHousesModel" "persons" "I") ∈ lw_all := lw_g (lw_at lw_m6 134 rfl) rfl
theorem q1416 : (Jvm.Cond.fieldLink "RoadHousesModel" (56 : Nat) "RoadHousesModel" "strengths" "[I") ∈ lw_all := lw_g (lw_at lw_m6 135 rfl) rfl
theorem q1417 : (Jvm.Cond.fieldLink "RoadHousesModel" (59 : Nat) "RoadHousesModel" "ofs" "[I") ∈ lw_all := lw_g (lw_at lw_m6 136 rfl) rfl
theorem q1418 : (Jvm.Cond.fieldLink "RoadHousesModel" (62 : Nat) "RoadHousesModel" "wheres" "[I") ∈ lw_all := lw_g (lw_at lw_m6 137 rfl) rfl
theorem q1419 : (Jvm.Cond.fieldLink "RoadHousesModel" (65 : Nat) "RoadHousesModel" "comings" "[I") ∈ lw_all := lw_g (lw_at lw_m6 138 rfl) rfl
theorem q1420 : (Jvm.Cond.fieldLink "RoadHousesModel" (68 : Nat) "RoadHousesModel" "isHidden" "[Z") ∈ lw_all := lw_g (lw_at lw_m6 139 rfl) rfl
theorem q1421 : (Jvm.Cond.fieldLink "RoadHousesModel" (71 : Nat) "RoadHousesModel" "scentPlace" "[I") ∈ lw_all := lw_g (lw_at lw_m6 140 rfl) rfl
theorem q1422 : (Jvm.Cond.fieldLink "RoadHousesModel" (74 : Nat) "RoadHousesModel" "scentTo" "[I") ∈ lw_all := lw_g (lw_at lw_m6 141 rfl) rfl
theorem q1423 : (Jvm.Cond.fieldLink "RoadHousesModel" (77 : Nat) "RoadHousesModel" "scentTime" "[I") ∈ lw_all := lw_g (lw_at lw_m6 142 rfl) rfl
theorem q1424 : (Jvm.Cond.fieldLink "RoadHousesModel" (265 : Nat) "RoadHousesModel" "hunters" "I") ∈ lw_all := lw_g (lw_at lw_m6 143 rfl) rfl
theorem q1425 : (Jvm.Cond.fieldLink "RoadHousesModel" (80 : Nat) "RoadHousesModel" "hunterPlace" "[I") ∈ lw_all := lw_g (lw_at lw_m6 144 rfl) rfl
theorem q1426 : (Jvm.Cond.fieldLink "RoadHousesModel" (83 : Nat) "RoadHousesModel" "warrants" "[I") ∈ lw_all := lw_g (lw_at lw_m6 145 rfl) rfl
theorem q1427 : (Jvm.Cond.fieldLink "RoadHousesModel" (274 : Nat) "RoadHousesModel" "raids" "I") ∈ lw_all := lw_g (lw_at lw_m6 146 rfl) rfl
theorem q1428 : (Jvm.Cond.fieldLink "RoadHousesModel" (86 : Nat) "RoadHousesModel" "raidPlace" "[I") ∈ lw_all := lw_g (lw_at lw_m6 147 rfl) rfl
theorem q1429 : (Jvm.Cond.fieldLink "RoadHousesModel" (89 : Nat) "RoadHousesModel" "raidTime" "[I") ∈ lw_all := lw_g (lw_at lw_m6 148 rfl) rfl
theorem q1430 : (Jvm.Cond.fieldLink "RoadHousesModel" (302 : Nat) "RoadHousesModel" "laws" "I") ∈ lw_all := lw_g (lw_at lw_m6 149 rfl) rfl
theorem q1431 : (Jvm.Cond.fieldLink "RoadHousesModel" (92 : Nat) "RoadHousesModel" "lawKind" "[I") ∈ lw_all := lw_g (lw_at lw_m6 150 rfl) rfl
theorem q1432 : (Jvm.Cond.fieldLink "RoadHousesModel" (95 : Nat) "RoadHousesModel" "lawLands" "[I") ∈ lw_all := lw_g (lw_at lw_m6 151 rfl) rfl
theorem q1433 : (Jvm.Cond.fieldLink "RoadHousesModel" (98 : Nat) "RoadHousesModel" "lawEnd" "[I") ∈ lw_all := lw_g (lw_at lw_m6 152 rfl) rfl
theorem q1434 : (Jvm.Cond.fieldLink "RoadHousesModel" (101 : Nat) "RoadHousesModel" "lawFrom" "[I") ∈ lw_all := lw_g (lw_at lw_m6 153 rfl) rfl
theorem q1435 : (Jvm.Cond.fieldLink "RoadHousesModel" (104 : Nat) "RoadHousesModel" "lawTo" "[I") ∈ lw_all := lw_g (lw_at lw_m6 154 rfl) rfl
theorem q1436 : (Jvm.Cond.fieldLink "RoadHousesModel" (107 : Nat) "RoadHousesModel" "struck" "[I") ∈ lw_all := lw_g (lw_at lw_m6 155 rfl) rfl
theorem q1437 : (Jvm.Cond.fieldLink "RoadHousesModel" (110 : Nat) "RoadHousesModel" "orders" "[I") ∈ lw_all := lw_g (lw_at lw_m6 156 rfl) rfl
theorem q1438 : (Jvm.Cond.fieldLink "RoadHousesModel" (113 : Nat) "RoadHousesModel" "values" "[I") ∈ lw_all := lw_g (lw_at lw_m6 157 rfl) rfl
theorem q1439 : (Jvm.Cond.fieldLink "RoadHousesModel" (116 : Nat) "RoadHousesModel" "tape" "[I") ∈ lw_all := lw_g (lw_at lw_m6 158 rfl) rfl
theorem q1440 : (Jvm.Cond.fieldLink "RoadHousesModel" (288 : Nat) "RoadHousesModel" "taped" "I") ∈ lw_all := lw_g (lw_at lw_m6 159 rfl) rfl
theorem q1441 : (Jvm.Cond.fieldLink "RoadHousesModel" (291 : Nat) "RoadHousesModel" "at" "I") ∈ lw_all := lw_g (lw_at lw_m6 160 rfl) rfl
theorem q1442 : (Jvm.Cond.fieldLink "RoadHousesModel" (294 : Nat) "RoadHousesModel" "wrong" "Z") ∈ lw_all := lw_g (lw_at lw_m6 161 rfl) rfl
theorem q1443 : (Jvm.Cond.fieldLink "RoadHousesModel" (305 : Nat) "RoadHousesModel" "emitted" "I") ∈ lw_all := lw_g (lw_at lw_m6 162 rfl) rfl
theorem q1444 : (Jvm.Cond.fieldLink "RoadHousesModel" (119 : Nat) "RoadHousesModel" "andPending" "[Z") ∈ lw_all := lw_g (lw_at lw_m6 163 rfl) rfl
theorem q1445 : (Jvm.Cond.fieldLink "RoadHousesModel" (122 : Nat) "RoadHousesModel" "orPending" "[Z") ∈ lw_all := lw_g (lw_at lw_m6 164 rfl) rfl
theorem q1446 : (Jvm.Cond.fieldLink "RoadHousesModel" (125 : Nat) "RoadHousesModel" "notPending" "[Z") ∈ lw_all := lw_g (lw_at lw_m6 165 rfl) rfl
theorem q1447 : (Jvm.Cond.fieldLink "RoadHousesModel" (128 : Nat) "RoadHousesModel" "pile" "[I") ∈ lw_all := lw_g (lw_at lw_m6 166 rfl) rfl
theorem q1448 : (Jvm.Cond.fieldLink "RoadHousesModel" (131 : Nat) "RoadHousesModel" "heads" "[I") ∈ lw_all := lw_g (lw_at lw_m6 167 rfl) rfl
theorem q1449 : (Jvm.Cond.fieldLink "RoadHousesModel" (367 : Nat) "RoadHousesModel" "headMany" "I") ∈ lw_all := lw_g (lw_at lw_m6 168 rfl) rfl
theorem q1450 : (Jvm.Cond.fieldLink "RoadHousesModel" (134 : Nat) "RoadHousesModel" "namings" "[I") ∈ lw_all := lw_g (lw_at lw_m6 169 rfl) rfl
theorem q1451 : (Jvm.Cond.fieldLink "RoadHousesModel" (137 : Nat) "RoadHousesModel" "warned" "[I") ∈ lw_all := lw_g (lw_at lw_m6 170 rfl) rfl
theorem q1452 : (Jvm.Cond.fieldLink "RoadHousesModel" (392 : Nat) "RoadHousesModel" "ties" "I") ∈ lw_all := lw_g (lw_at lw_m6 171 rfl) rfl
theorem q1453 : (Jvm.Cond.fieldLink "RoadHousesModel" (140 : Nat) "RoadHousesModel" "tieA" "[I") ∈ lw_all := lw_g (lw_at lw_m6 172 rfl) rfl
theorem q1454 : (Jvm.Cond.fieldLink "RoadHousesModel" (143 : Nat) "RoadHousesModel" "tieB" "[I") ∈ lw_all := lw_g (lw_at lw_m6 173 rfl) rfl
theorem q1455 : (Jvm.Cond.fieldLink "RoadHousesModel" (146 : Nat) "RoadHousesModel" "lanes" "[I") ∈ lw_all := lw_g (lw_at lw_m6 174 rfl) rfl
theorem q1456 : (Jvm.Cond.fieldLink "RoadHousesModel" (149 : Nat) "RoadHousesModel" "sizes" "[I") ∈ lw_all := lw_g (lw_at lw_m6 175 rfl) rfl
theorem q1457 : (Jvm.Cond.fieldLink "RoadHousesModel" (152 : Nat) "RoadHousesModel" "items" "[I") ∈ lw_all := lw_g (lw_at lw_m6 176 rfl) rfl
theorem q1458 : (Jvm.Cond.fieldLink "RoadHousesModel" (155 : Nat) "RoadHousesModel" "moved" "[I") ∈ lw_all := lw_g (lw_at lw_m6 177 rfl) rfl
theorem q1459 : (Jvm.Cond.lays "RoadHousesModel" "RoadHousesModel" "now" "I") ∈ lw_all := lw_g (lw_at lw_m6 178 rfl) rfl
theorem q1460 : (Jvm.Cond.soleField "RoadHousesModel" "now") ∈ lw_all := lw_g (lw_at lw_m6 179 rfl) rfl
theorem q1461 : (Jvm.Cond.lays "RoadHousesModel" "RoadHousesModel" "places" "I") ∈ lw_all := lw_g (lw_at lw_m6 180 rfl) rfl
theorem q1462 : (Jvm.Cond.soleField "RoadHousesModel" "places") ∈ lw_all := lw_g (lw_at lw_m6 181 rfl) rfl
theorem q1463 : (Jvm.Cond.laysFinal "RoadHousesModel" "RoadHousesModel" "kinds" "[I") ∈ lw_all := lw_g (lw_at lw_m6 182 rfl) rfl
theorem q1464 : (Jvm.Cond.soleField "RoadHousesModel" "kinds") ∈ lw_all := lw_g (lw_at lw_m6 183 rfl) rfl
theorem q1465 : (Jvm.Cond.laysFinal "RoadHousesModel" "RoadHousesModel" "lands" "[I") ∈ lw_all := lw_g (lw_at lw_m6 184 rfl) rfl
theorem q1466 : (Jvm.Cond.soleField "RoadHousesModel" "lands") ∈ lw_all := lw_g (lw_at lw_m6 185 rfl) rfl
theorem q1467 : (Jvm.Cond.laysFinal "RoadHousesModel" "RoadHousesModel" "beds" "[I") ∈ lw_all := lw_g (lw_at lw_m6 186 rfl) rfl
theorem q1468 : (Jvm.Cond.soleField "RoadHousesModel" "beds") ∈ lw_all := lw_g (lw_at lw_m6 187 rfl) rfl
theorem q1469 : (Jvm.Cond.laysFinal "RoadHousesModel" "RoadHousesModel" "walls" "[I") ∈ lw_all := lw_g (lw_at lw_m6 188 rfl) rfl
theorem q1470 : (Jvm.Cond.soleField "RoadHousesModel" "walls") ∈ lw_all := lw_g (lw_at lw_m6 189 rfl) rfl
theorem q1471 : (Jvm.Cond.laysFinal "RoadHousesModel" "RoadHousesModel" "depths" "[I") ∈ lw_all := lw_g (lw_at lw_m6 190 rfl) rfl
theorem q1472 : (Jvm.Cond.soleField "RoadHousesModel" "depths") ∈ lw_all := lw_g (lw_at lw_m6 191 rfl) rfl
theorem q1473 : (Jvm.Cond.laysFinal "RoadHousesModel" "RoadHousesModel" "eyes" "[I") ∈ lw_all := lw_g (lw_at lw_m6 192 rfl) rfl
theorem q1474 : (Jvm.Cond.soleField "RoadHousesModel" "eyes") ∈ lw_all := lw_g (lw_at lw_m6 193 rfl) rfl
theorem q1475 : (Jvm.Cond.laysFinal "RoadHousesModel" "RoadHousesModel" "known" "[I") ∈ lw_all := lw_g (lw_at lw_m6 194 rfl) rfl
theorem q1476 : (Jvm.Cond.soleField "RoadHousesModel" "known") ∈ lw_all := lw_g (lw_at lw_m6 195 rfl) rfl
theorem q1477 : (Jvm.Cond.laysFinal "RoadHousesModel" "RoadHousesModel" "isWatched" "[Z") ∈ lw_all := lw_g (lw_at lw_m6 196 rfl) rfl
theorem q1478 : (Jvm.Cond.soleField "RoadHousesModel" "isWatched") ∈ lw_all := lw_g (lw_at lw_m6 197 rfl) rfl
theorem q1479 : (Jvm.Cond.laysFinal "RoadHousesModel" "RoadHousesModel" "bearing" "[Z") ∈ lw_all := lw_g (lw_at lw_m6 198 rfl) rfl
theorem q1480 : (Jvm.Cond.soleField "RoadHousesModel" "bearing") ∈ lw_all := lw_g (lw_at lw_m6 199 rfl) rfl
theorem q1481 : (Jvm.Cond.laysFinal "RoadHousesModel" "RoadHousesModel" "ways" "[I") ∈ lw_all := lw_g (lw_at lw_m6 200 rfl) rfl
theorem q1482 : (Jvm.Cond.soleField "RoadHousesModel" "ways") ∈ lw_all := lw_g (lw_at lw_m6 201 rfl) rfl
theorem q1483 : (Jvm.Cond.lays "RoadHousesModel" "RoadHousesModel" "changes" "I") ∈ lw_all := lw_g (lw_at lw_m6 202 rfl) rfl
theorem q1484 : (Jvm.Cond.soleField "RoadHousesModel" "changes") ∈ lw_all := lw_g (lw_at lw_m6 203 rfl) rfl
theorem q1485 : (Jvm.Cond.laysFinal "RoadHousesModel" "RoadHousesModel" "changeTime" "[I") ∈ lw_all := lw_g (lw_at lw_m6 204 rfl) rfl
theorem q1486 : (Jvm.Cond.soleField "RoadHousesModel" "changeTime") ∈ lw_all := lw_g (lw_at lw_m6 205 rfl) rfl
theorem q1487 : (Jvm.Cond.laysFinal "RoadHousesModel" "RoadHousesModel" "changeHouse" "[I") ∈ lw_all := lw_g (lw_at lw_m6 206 rfl) rfl
theorem q1488 : (Jvm.Cond.soleField "RoadHousesModel" "changeHouse") ∈ lw_all := lw_g (lw_at lw_m6 207 rfl) rfl
theorem q1489 : (Jvm.Cond.laysFinal "RoadHousesModel" "RoadHousesModel" "changeIs" "[Z") ∈ lw_all := lw_g (lw_at lw_m6 208 rfl) rfl
theorem q1490 : (Jvm.Cond.soleField "RoadHousesModel" "changeIs") ∈ lw_all := lw_g (lw_at lw_m6 209 rfl) rfl
theorem q1491 : (Jvm.Cond.laysFinal "RoadHousesModel" "RoadHousesModel" "fars" "[I") ∈ lw_all := lw_g (lw_at lw_m6 210 rfl) rfl
theorem q1492 : (Jvm.Cond.soleField "RoadHousesModel" "fars") ∈ lw_all := lw_g (lw_at lw_m6 211 rfl) rfl
theorem q1493 : (Jvm.Cond.laysFinal "RoadHousesModel" "RoadHousesModel" "isDone" "[Z") ∈ lw_all := lw_g (lw_at lw_m6 212 rfl) rfl
theorem q1494 : (Jvm.Cond.soleField "RoadHousesModel" "isDone") ∈ lw_all := lw_g (lw_at lw_m6 213 rfl) rfl
theorem q1495 : (Jvm.Cond.lays "RoadHousesModel" "RoadHousesModel" "persons" "I") ∈ lw_all := lw_g (lw_at lw_m6 214 rfl) rfl
theorem q1496 : (Jvm.Cond.soleField "RoadHousesModel" "persons") ∈ lw_all := lw_g (lw_at lw_m6 215 rfl) rfl
theorem q1497 : (Jvm.Cond.laysFinal "RoadHousesModel" "RoadHousesModel" "strengths" "[I") ∈ lw_all := lw_g (lw_at lw_m6 216 rfl) rfl
theorem q1498 : (Jvm.Cond.soleField "RoadHousesModel" "strengths") ∈ lw_all := lw_g (lw_at lw_m6 217 rfl) rfl
theorem q1499 : (Jvm.Cond.laysFinal "RoadHousesModel" "RoadHousesModel" "ofs" "[I") ∈ lw_all := lw_g (lw_at lw_m6 218 rfl) rfl
theorem q1500 : (Jvm.Cond.soleField "RoadHousesModel" "ofs") ∈ lw_all := lw_g (lw_at lw_m6 219 rfl) rfl
theorem q1501 : (Jvm.Cond.laysFinal "RoadHousesModel" "RoadHousesModel" "wheres" "[I") ∈ lw_all := lw_g (lw_at lw_m6 220 rfl) rfl
theorem q1502 : (Jvm.Cond.soleField "RoadHousesModel" "wheres") ∈ lw_all := lw_g (lw_at lw_m6 221 rfl) rfl
theorem q1503 : (Jvm.Cond.laysFinal "RoadHousesModel" "RoadHousesModel" "comings" "[I") ∈ lw_all := lw_g (lw_at lw_m6 222 rfl) rfl
theorem q1504 : (Jvm.Cond.soleField "RoadHousesModel" "comings") ∈ lw_all := lw_g (lw_at lw_m6 223 rfl) rfl
theorem q1505 : (Jvm.Cond.laysFinal "RoadHousesModel" "RoadHousesModel" "isHidden" "[Z") ∈ lw_all := lw_g (lw_at lw_m6 224 rfl) rfl
theorem q1506 : (Jvm.Cond.soleField "RoadHousesModel" "isHidden") ∈ lw_all := lw_g (lw_at lw_m6 225 rfl) rfl
theorem q1507 : (Jvm.Cond.laysFinal "RoadHousesModel" "RoadHousesModel" "scentPlace" "[I") ∈ lw_all := lw_g (lw_at lw_m6 226 rfl) rfl
theorem q1508 : (Jvm.Cond.soleField "RoadHousesModel" "scentPlace") ∈ lw_all := lw_g (lw_at lw_m6 227 rfl) rfl
theorem q1509 : (Jvm.Cond.laysFinal "RoadHousesModel" "RoadHousesModel" "scentTo" "[I") ∈ lw_all := lw_g (lw_at lw_m6 228 rfl) rfl
theorem q1510 : (Jvm.Cond.soleField "RoadHousesModel" "scentTo") ∈ lw_all := lw_g (lw_at lw_m6 229 rfl) rfl
theorem q1511 : (Jvm.Cond.laysFinal "RoadHousesModel" "RoadHousesModel" "scentTime" "[I") ∈ lw_all := lw_g (lw_at lw_m6 230 rfl) rfl
theorem q1512 : (Jvm.Cond.soleField "RoadHousesModel" "scentTime") ∈ lw_all := lw_g (lw_at lw_m6 231 rfl) rfl
theorem q1513 : (Jvm.Cond.lays "RoadHousesModel" "RoadHousesModel" "hunters" "I") ∈ lw_all := lw_g (lw_at lw_m6 232 rfl) rfl
theorem q1514 : (Jvm.Cond.soleField "RoadHousesModel" "hunters") ∈ lw_all := lw_g (lw_at lw_m6 233 rfl) rfl
theorem q1515 : (Jvm.Cond.laysFinal "RoadHousesModel" "RoadHousesModel" "hunterPlace" "[I") ∈ lw_all := lw_g (lw_at lw_m6 234 rfl) rfl
theorem q1516 : (Jvm.Cond.soleField "RoadHousesModel" "hunterPlace") ∈ lw_all := lw_g (lw_at lw_m6 235 rfl) rfl
theorem q1517 : (Jvm.Cond.laysFinal "RoadHousesModel" "RoadHousesModel" "warrants" "[I") ∈ lw_all := lw_g (lw_at lw_m6 236 rfl) rfl
theorem q1518 : (Jvm.Cond.soleField "RoadHousesModel" "warrants") ∈ lw_all := lw_g (lw_at lw_m6 237 rfl) rfl
theorem q1519 : (Jvm.Cond.lays "RoadHousesModel" "RoadHousesModel" "raids" "I") ∈ lw_all := lw_g (lw_at lw_m6 238 rfl) rfl
theorem q1520 : (Jvm.Cond.soleField "RoadHousesModel" "raids") ∈ lw_all := lw_g (lw_at lw_m6 239 rfl) rfl
theorem q1521 : (Jvm.Cond.laysFinal "RoadHousesModel" "RoadHousesModel" "raidPlace" "[I") ∈ lw_all := lw_g (lw_at lw_m7 0 rfl) rfl
theorem q1522 : (Jvm.Cond.soleField "RoadHousesModel" "raidPlace") ∈ lw_all := lw_g (lw_at lw_m7 1 rfl) rfl
theorem q1523 : (Jvm.Cond.laysFinal "RoadHousesModel" "RoadHousesModel" "raidTime" "[I") ∈ lw_all := lw_g (lw_at lw_m7 2 rfl) rfl
theorem q1524 : (Jvm.Cond.soleField "RoadHousesModel" "raidTime") ∈ lw_all := lw_g (lw_at lw_m7 3 rfl) rfl
theorem q1525 : (Jvm.Cond.lays "RoadHousesModel" "RoadHousesModel" "laws" "I") ∈ lw_all := lw_g (lw_at lw_m7 4 rfl) rfl
theorem q1526 : (Jvm.Cond.soleField "RoadHousesModel" "laws") ∈ lw_all := lw_g (lw_at lw_m7 5 rfl) rfl
theorem q1527 : (Jvm.Cond.laysFinal "RoadHousesModel" "RoadHousesModel" "lawKind" "[I") ∈ lw_all := lw_g (lw_at lw_m7 6 rfl) rfl
theorem q1528 : (Jvm.Cond.soleField "RoadHousesModel" "lawKind") ∈ lw_all := lw_g (lw_at lw_m7 7 rfl) rfl
theorem q1529 : (Jvm.Cond.laysFinal "RoadHousesModel" "RoadHousesModel" "lawLands" "[I") ∈ lw_all := lw_g (lw_at lw_m7 8 rfl) rfl
theorem q1530 : (Jvm.Cond.soleField "RoadHousesModel" "lawLands") ∈ lw_all := lw_g (lw_at lw_m7 9 rfl) rfl
theorem q1531 : (Jvm.Cond.laysFinal "RoadHousesModel" "RoadHousesModel" "lawEnd" "[I") ∈ lw_all := lw_g (lw_at lw_m7 10 rfl) rfl
theorem q1532 : (Jvm.Cond.soleField "RoadHousesModel" "lawEnd") ∈ lw_all := lw_g (lw_at lw_m7 11 rfl) rfl
theorem q1533 : (Jvm.Cond.laysFinal "RoadHousesModel" "RoadHousesModel" "lawFrom" "[I") ∈ lw_all := lw_g (lw_at lw_m7 12 rfl) rfl
theorem q1534 : (Jvm.Cond.soleField "RoadHousesModel" "lawFrom") ∈ lw_all := lw_g (lw_at lw_m7 13 rfl) rfl
theorem q1535 : (Jvm.Cond.laysFinal "RoadHousesModel" "RoadHousesModel" "lawTo" "[I") ∈ lw_all := lw_g (lw_at lw_m7 14 rfl) rfl
theorem q1536 : (Jvm.Cond.soleField "RoadHousesModel" "lawTo") ∈ lw_all := lw_g (lw_at lw_m7 15 rfl) rfl
theorem q1537 : (Jvm.Cond.laysFinal "RoadHousesModel" "RoadHousesModel" "struck" "[I") ∈ lw_all := lw_g (lw_at lw_m7 16 rfl) rfl
theorem q1538 : (Jvm.Cond.soleField "RoadHousesModel" "struck") ∈ lw_all := lw_g (lw_at lw_m7 17 rfl) rfl
theorem q1539 : (Jvm.Cond.laysFinal "RoadHousesModel" "RoadHousesModel" "orders" "[I") ∈ lw_all := lw_g (lw_at lw_m7 18 rfl) rfl
theorem q1540 : (Jvm.Cond.soleField "RoadHousesModel" "orders") ∈ lw_all := lw_g (lw_at lw_m7 19 rfl) rfl
theorem q1541 : (Jvm.Cond.laysFinal "RoadHousesModel" "RoadHousesModel" "values" "[I") ∈ lw_all := lw_g (lw_at lw_m7 20 rfl) rfl
theorem q1542 : (Jvm.Cond.soleField "RoadHousesModel" "values") ∈ lw_all := lw_g (lw_at lw_m7 21 rfl) rfl
theorem q1543 : (Jvm.Cond.laysFinal "RoadHousesModel" "RoadHousesModel" "tape" "[I") ∈ lw_all := lw_g (lw_at lw_m7 22 rfl) rfl
theorem q1544 : (Jvm.Cond.soleField "RoadHousesModel" "tape") ∈ lw_all := lw_g (lw_at lw_m7 23 rfl) rfl
theorem q1545 : (Jvm.Cond.lays "RoadHousesModel" "RoadHousesModel" "taped" "I") ∈ lw_all := lw_g (lw_at lw_m7 24 rfl) rfl
theorem q1546 : (Jvm.Cond.soleField "RoadHousesModel" "taped") ∈ lw_all := lw_g (lw_at lw_m7 25 rfl) rfl
theorem q1547 : (Jvm.Cond.lays "RoadHousesModel" "RoadHousesModel" "at" "I") ∈ lw_all := lw_g (lw_at lw_m7 26 rfl) rfl
theorem q1548 : (Jvm.Cond.soleField "RoadHousesModel" "at") ∈ lw_all := lw_g (lw_at lw_m7 27 rfl) rfl
theorem q1549 : (Jvm.Cond.lays "RoadHousesModel" "RoadHousesModel" "wrong" "Z") ∈ lw_all := lw_g (lw_at lw_m7 28 rfl) rfl
theorem q1550 : (Jvm.Cond.soleField "RoadHousesModel" "wrong") ∈ lw_all := lw_g (lw_at lw_m7 29 rfl) rfl
theorem q1551 : (Jvm.Cond.lays "RoadHousesModel" "RoadHousesModel" "emitted" "I") ∈ lw_all := lw_g (lw_at lw_m7 30 rfl) rfl
theorem q1552 : (Jvm.Cond.soleField "RoadHousesModel" "emitted") ∈ lw_all := lw_g (lw_at lw_m7 31 rfl) rfl
theorem q1553 : (Jvm.Cond.laysFinal "RoadHousesModel" "RoadHousesModel" "andPending" "[Z") ∈ lw_all := lw_g (lw_at lw_m7 32 rfl) rfl
theorem q1554 : (Jvm.Cond.soleField "RoadHousesModel" "andPending") ∈ lw_all := lw_g (lw_at lw_m7 33 rfl) rfl
theorem q1555 : (Jvm.Cond.laysFinal "RoadHousesModel" "RoadHousesModel" "orPending" "[Z") ∈ lw_all := lw_g (lw_at lw_m7 34 rfl) rfl
theorem q1556 : (Jvm.Cond.soleField "RoadHousesModel" "orPending") ∈ lw_all := lw_g (lw_at lw_m7 35 rfl) rfl
theorem q1557 : (Jvm.Cond.laysFinal "RoadHousesModel" "RoadHousesModel" "notPending" "[Z") ∈ lw_all := lw_g (lw_at lw_m7 36 rfl) rfl
theorem q1558 : (Jvm.Cond.soleField "RoadHousesModel" "notPending") ∈ lw_all := lw_g (lw_at lw_m7 37 rfl) rfl
theorem q1559 : (Jvm.Cond.laysFinal "RoadHousesModel" "RoadHousesModel" "pile" "[I") ∈ lw_all := lw_g (lw_at lw_m7 38 rfl) rfl
theorem q1560 : (Jvm.Cond.soleField "RoadHousesModel" "pile") ∈ lw_all := lw_g (lw_at lw_m7 39 rfl) rfl
theorem q1561 : (Jvm.Cond.laysFinal "RoadHousesModel" "RoadHousesModel" "heads" "[I") ∈ lw_all := lw_g (lw_at lw_m7 40 rfl) rfl
theorem q1562 : (Jvm.Cond.soleField "RoadHousesModel" "heads") ∈ lw_all := lw_g (lw_at lw_m7 41 rfl) rfl
theorem q1563 : (Jvm.Cond.lays "RoadHousesModel" "RoadHousesModel" "headMany" "I") ∈ lw_all := lw_g (lw_at lw_m7 42 rfl) rfl
theorem q1564 : (Jvm.Cond.soleField "RoadHousesModel" "headMany") ∈ lw_all := lw_g (lw_at lw_m7 43 rfl) rfl
theorem q1565 : (Jvm.Cond.laysFinal "RoadHousesModel" "RoadHousesModel" "namings" "[I") ∈ lw_all := lw_g (lw_at lw_m7 44 rfl) rfl
theorem q1566 : (Jvm.Cond.soleField "RoadHousesModel" "namings") ∈ lw_all := lw_g (lw_at lw_m7 45 rfl) rfl
theorem q1567 : (Jvm.Cond.laysFinal "RoadHousesModel" "RoadHousesModel" "warned" "[I") ∈ lw_all := lw_g (lw_at lw_m7 46 rfl) rfl
theorem q1568 : (Jvm.Cond.soleField "RoadHousesModel" "warned") ∈ lw_all := lw_g (lw_at lw_m7 47 rfl) rfl
theorem q1569 : (Jvm.Cond.lays "RoadHousesModel" "RoadHousesModel" "ties" "I") ∈ lw_all := lw_g (lw_at lw_m7 48 rfl) rfl
theorem q1570 : (Jvm.Cond.soleField "RoadHousesModel" "ties") ∈ lw_all := lw_g (lw_at lw_m7 49 rfl) rfl
theorem q1571 : (Jvm.Cond.laysFinal "RoadHousesModel" "RoadHousesModel" "tieA" "[I") ∈ lw_all := lw_g (lw_at lw_m7 50 rfl) rfl
theorem q1572 : (Jvm.Cond.soleField "RoadHousesModel" "tieA") ∈ lw_all := lw_g (lw_at lw_m7 51 rfl) rfl
theorem q1573 : (Jvm.Cond.laysFinal "RoadHousesModel" "RoadHousesModel" "tieB" "[I") ∈ lw_all := lw_g (lw_at lw_m7 52 rfl) rfl
theorem q1574 : (Jvm.Cond.soleField "RoadHousesModel" "tieB") ∈ lw_all := lw_g (lw_at lw_m7 53 rfl) rfl
theorem q1575 : (Jvm.Cond.laysFinal "RoadHousesModel" "RoadHousesModel" "lanes" "[I") ∈ lw_all := lw_g (lw_at lw_m7 54 rfl) rfl
theorem q1576 : (Jvm.Cond.soleField "RoadHousesModel" "lanes") ∈ lw_all := lw_g (lw_at lw_m7 55 rfl) rfl
theorem q1577 : (Jvm.Cond.laysFinal "RoadHousesModel" "RoadHousesModel" "sizes" "[I") ∈ lw_all := lw_g (lw_at lw_m7 56 rfl) rfl
theorem q1578 : (Jvm.Cond.soleField "RoadHousesModel" "sizes") ∈ lw_all := lw_g (lw_at lw_m7 57 rfl) rfl
theorem q1579 : (Jvm.Cond.laysFinal "RoadHousesModel" "RoadHousesModel" "items" "[I") ∈ lw_all := lw_g (lw_at lw_m7 58 rfl) rfl
theorem q1580 : (Jvm.Cond.soleField "RoadHousesModel" "items") ∈ lw_all := lw_g (lw_at lw_m7 59 rfl) rfl
theorem q1581 : (Jvm.Cond.laysFinal "RoadHousesModel" "RoadHousesModel" "moved" "[I") ∈ lw_all := lw_g (lw_at lw_m7 60 rfl) rfl
theorem q1582 : (Jvm.Cond.soleField "RoadHousesModel" "moved") ∈ lw_all := lw_g (lw_at lw_m7 61 rfl) rfl
theorem q1583 : (Jvm.Cond.superclass "RoadHousesModel" "java/lang/Object") ∈ lw_all := lw_g (lw_at lw_m7 62 rfl) rfl
theorem q1585 : (Jvm.Cond.instanceMethod ({ cls := "RoadHousesModel", name := "open", desc := "(I)I" } : Jvm.MethodName)) ∈ lw_all := lw_g (lw_at lw_m7 64 rfl) rfl
theorem q1586 : (Jvm.Cond.selects "RoadHousesModel" ({ cls := "RoadHousesModel", name := "open", desc := "(I)I" } : Jvm.MethodName) ({ cls := "RoadHousesModel", name := "open", desc := "(I)I" } : Jvm.MethodName)) ∈ lw_all := lw_g (lw_at lw_m7 65 rfl) rfl
theorem q1587 : (Jvm.Cond.code ({ cls := "RoadHousesModel", name := "open", desc := "(I)I" } : Jvm.MethodName) prog_19_method_7_code (2 : Nat) (Option.some Jvm.ClassFile.FieldType.int)) ∈ lw_all := lw_g (lw_at lw_m7 66 rfl) rfl
theorem q1588 : (Jvm.Cond.methodLink "RoadHousesModel" (170 : Nat) ({ cls := "RoadHousesModel", name := "makes", desc := "(IIIIII)I" } : Jvm.MethodName)) ∈ lw_all := lw_g (lw_at lw_m7 67 rfl) rfl
theorem q1589 : (Jvm.Cond.privateMethod ({ cls := "RoadHousesModel", name := "makes", desc := "(IIIIII)I" } : Jvm.MethodName)) ∈ lw_tbl := lw_at lw_m7 68 rfl
theorem q1590 : (Jvm.Cond.instanceMethod ({ cls := "RoadHousesModel", name := "makes", desc := "(IIIIII)I" } : Jvm.MethodName)) ∈ lw_all := lw_g (lw_at lw_m7 69 rfl) rfl
theorem q1591 : (Jvm.Cond.code ({ cls := "RoadHousesModel", name := "makes", desc := "(IIIIII)I" } : Jvm.MethodName) prog_19_method_6_code (8 : Nat) (Option.some Jvm.ClassFile.FieldType.int)) ∈ lw_all := lw_g (lw_at lw_m7 70 rfl) rfl
theorem q1592 : (Jvm.Cond.constantLong "RoadHousesModel" (158 : Nat) (3 : Int64)) ∈ lw_all := lw_g (lw_at lw_m7 71 rfl) rfl
theorem q1593 : (Jvm.Cond.methodLink "RoadHousesModel" (160 : Nat) ({ cls := "RoadHousesModel", name := "in", desc := "(JJJ)Z" } : Jvm.MethodName)) ∈ lw_all := lw_g (lw_at lw_m7 72 rfl) rfl
theorem q1594 : (Jvm.Cond.static ({ cls := "RoadHousesModel", name := "in", desc := "(JJJ)Z" } : Jvm.MethodName)) ∈ lw_all := lw_g (lw_at lw_m7 73 rfl) rfl
theorem q1595 : (Jvm.Cond.code ({ cls := "RoadHousesModel", name := "in", desc := "(JJJ)Z" } : Jvm.MethodName) prog_19_method_2_code (6 : Nat) (Option.some Jvm.ClassFile.FieldType.boolean)) ∈ lw_all := lw_g (lw_at lw_m7 74 rfl) rfl
theorem q1596 : (Jvm.Cond.constantLong "RoadHousesModel" (164 : Nat) (9 : Int64)) ∈ lw_all := lw_g (lw_at lw_m7 75 rfl) rfl
theorem q1598 : (Jvm.Cond.instanceMethod ({ cls := "RoadHousesModel", name := "house", desc := "(II)I" } : Jvm.MethodName)) ∈ lw_all := lw_g (lw_at lw_m7 77 rfl) rfl
theorem q1599 : (Jvm.Cond.selects "RoadHousesModel" ({ cls := "RoadHousesModel", name := "house", desc := "(II)I" } : Jvm.MethodName) ({ cls := "RoadHousesModel", name := "house", desc := "(II)I" } : Jvm.MethodName)) ∈ lw_all := lw_g (lw_at lw_m7 78 rfl) rfl
theorem q1600 : (Jvm.Cond.code ({ cls := "RoadHousesModel", name := "house", desc := "(II)I" } : Jvm.MethodName) prog_19_method_8_code (3 : Nat) (Option.some Jvm.ClassFile.FieldType.int)) ∈ lw_all := lw_g (lw_at lw_m7 79 rfl) rfl
theorem q1602 : (Jvm.Cond.instanceMethod ({ cls := "RoadHousesModel", name := "store", desc := "(IIII)I" } : Jvm.MethodName)) ∈ lw_all := lw_g (lw_at lw_m7 81 rfl) rfl
theorem q1603 : (Jvm.Cond.selects "RoadHousesModel" ({ cls := "RoadHousesModel", name := "store", desc := "(IIII)I" } : Jvm.MethodName) ({ cls := "RoadHousesModel", name := "store", desc := "(IIII)I" } : Jvm.MethodName)) ∈ lw_all := lw_g (lw_at lw_m7 82 rfl) rfl
theorem q1604 : (Jvm.Cond.code ({ cls := "RoadHousesModel", name := "store", desc := "(IIII)I" } : Jvm.MethodName) prog_19_method_9_code (5 : Nat) (Option.some Jvm.ClassFile.FieldType.int)) ∈ lw_all := lw_g (lw_at lw_m7 83 rfl) rfl
theorem q1605 : (Jvm.Cond.constantLong "RoadHousesModel" (174 : Nat) (24 : Int64)) ∈ lw_all := lw_g (lw_at lw_m7 84 rfl) rfl
theorem q1607 : (Jvm.Cond.instanceMethod ({ cls := "RoadHousesModel", name := "crossing", desc := "(II)I" } : Jvm.MethodName)) ∈ lw_all := lw_g (lw_at lw_m7 86 rfl) rfl
theorem q1608 : (Jvm.Cond.selects "RoadHousesModel" ({ cls := "RoadHousesModel", name := "crossing", desc := "(II)I" } : Jvm.MethodName) ({ cls := "RoadHousesModel", name := "crossing", desc := "(II)I" } : Jvm.MethodName)) ∈ lw_all := lw_g (lw_at lw_m7 87 rfl) rfl
theorem q1609 : (Jvm.Cond.code ({ cls := "RoadHousesModel", name := "crossing", desc := "(II)I" } : Jvm.MethodName) prog_19_method_10_code (3 : Nat) (Option.some Jvm.ClassFile.FieldType.int)) ∈ lw_all := lw_g (lw_at lw_m7 88 rfl) rfl
theorem q1611 : (Jvm.Cond.instanceMethod ({ cls := "RoadHousesModel", name := "town", desc := "(III)I" } : Jvm.MethodName)) ∈ lw_all := lw_g (lw_at lw_m7 90 rfl) rfl
theorem q1612 : (Jvm.Cond.selects "RoadHousesModel" ({ cls := "RoadHousesModel", name := "town", desc := "(III)I" } : Jvm.MethodName) ({ cls := "RoadHousesModel", name := "town", desc := "(III)I" } : Jvm.MethodName)) ∈ lw_all := lw_g (lw_at lw_m7 91 rfl) rfl
theorem q1613 : (Jvm.Cond.code ({ cls := "RoadHousesModel", name := "town", desc := "(III)I" } : Jvm.MethodName) prog_19_method_11_code (4 : Nat) (Option.some Jvm.ClassFile.FieldType.int)) ∈ lw_all := lw_g (lw_at lw_m7 92 rfl) rfl
theorem q1615 : (Jvm.Cond.instanceMethod ({ cls := "RoadHousesModel", name := "way", desc := "(III)I" } : Jvm.MethodName)) ∈ lw_all := lw_g (lw_at lw_m7 94 rfl) rfl
theorem q1616 : (Jvm.Cond.selects "RoadHousesModel" ({ cls := "RoadHousesModel", name := "way", desc := "(III)I" } : Jvm.MethodName) ({ cls := "RoadHousesModel", name := "way", desc := "(III)I" } : Jvm.MethodName)) ∈ lw_all := lw_g (lw_at lw_m7 95 rfl) rfl
theorem q1617 : (Jvm.Cond.code ({ cls := "RoadHousesModel", name := "way", desc := "(III)I" } : Jvm.MethodName) prog_19_method_14_code (5 : Nat) (Option.some Jvm.ClassFile.FieldType.int)) ∈ lw_all := lw_g (lw_at lw_m7 96 rfl) rfl
theorem q1618 : (Jvm.Cond.methodLink "RoadHousesModel" (176 : Nat) ({ cls := "RoadHousesModel", name := "isPlace", desc := "(I)Z" } : Jvm.MethodName)) ∈ lw_all := lw_g (lw_at lw_m7 97 rfl) rfl
theorem q1619 : (Jvm.Cond.privateMethod ({ cls := "RoadHousesModel", name := "isPlace", desc := "(I)Z" } : Jvm.MethodName)) ∈ lw_tbl := lw_at lw_m7 98 rfl
theorem q1620 : (Jvm.Cond.instanceMethod ({ cls := "RoadHousesModel", name := "isPlace", desc := "(I)Z" } : Jvm.MethodName)) ∈ lw_all := lw_g (lw_at lw_m7 99 rfl) rfl
theorem q1621 : (Jvm.Cond.code ({ cls := "RoadHousesModel", name := "isPlace", desc := "(I)Z" } : Jvm.MethodName) prog_19_method_12_code (2 : Nat) (Option.some Jvm.ClassFile.FieldType.boolean)) ∈ lw_all := lw_g (lw_at lw_m7 100 rfl) rfl
theorem q1623 : (Jvm.Cond.instanceMethod ({ cls := "RoadHousesModel", name := "far", desc := "(II)I" } : Jvm.MethodName)) ∈ lw_all := lw_g (lw_at lw_m7 102 rfl) rfl
theorem q1624 : (Jvm.Cond.selects "RoadHousesModel" ({ cls := "RoadHousesModel", name := "far", desc := "(II)I" } : Jvm.MethodName) ({ cls := "RoadHousesModel", name := "far", desc := "(II)I" } : Jvm.MethodName)) ∈ lw_all := lw_g (lw_at lw_m7 103 rfl) rfl
theorem q1625 : (Jvm.Cond.code ({ cls := "RoadHousesModel", name := "far", desc := "(II)I" } : Jvm.MethodName) prog_19_method_16_code (3 : Nat) (Option.some Jvm.ClassFile.FieldType.int)) ∈ lw_all := lw_g (lw_at lw_m7 104 rfl) rfl
theorem q1626 : (Jvm.Cond.methodLink "RoadHousesModel" (180 : Nat) ({ cls := "RoadHousesModel", name := "farOf", desc := "(II)I" } : Jvm.MethodName)) ∈ lw_all := lw_g (lw_at lw_m7 105 rfl) rfl
theorem q1627 : (Jvm.Cond.privateMethod ({ cls := "RoadHousesModel", name := "farOf", desc := "(II)I" } : Jvm.MethodName)) ∈ lw_tbl := lw_at lw_m7 106 rfl
theorem q1628 : (Jvm.Cond.instanceMethod ({ cls := "RoadHousesModel", name := "farOf", desc := "(II)I" } : Jvm.MethodName)) ∈ lw_all := lw_g (lw_at lw_m7 107 rfl) rfl
theorem q1629 : (Jvm.Cond.code ({ cls := "RoadHousesModel", name := "farOf", desc := "(II)I" } : Jvm.MethodName) prog_19_method_15_code (7 : Nat) (Option.some Jvm.ClassFile.FieldType.int)) ∈ lw_all := lw_g (lw_at lw_m7 108 rfl) rfl
theorem q1631 : (Jvm.Cond.instanceMethod ({ cls := "RoadHousesModel", name := "knows", desc := "(IIZ)I" } : Jvm.MethodName)) ∈ lw_all := lw_g (lw_at lw_m7 110 rfl) rfl
theorem q1632 : (Jvm.Cond.selects "RoadHousesModel" ({ cls := "RoadHousesModel", name := "knows", desc := "(IIZ)I" } : Jvm.MethodName) ({ cls := "RoadHousesModel", name := "knows", desc := "(IIZ)I" } : Jvm.MethodName)) ∈ lw_all := lw_g (lw_at lw_m7 111 rfl) rfl
theorem q1633 : (Jvm.Cond.code ({ cls := "RoadHousesModel", name := "knows", desc := "(IIZ)I" } : Jvm.MethodName) prog_19_method_17_code (5 : Nat) (Option.some Jvm.ClassFile.FieldType.int)) ∈ lw_all := lw_g (lw_at lw_m7 112 rfl) rfl
theorem q1634 : (Jvm.Cond.methodLink "RoadHousesModel" (184 : Nat) ({ cls := "RoadHousesModel", name := "isHouse", desc := "(I)Z" } : Jvm.MethodName)) ∈ lw_all := lw_g (lw_at lw_m7 113 rfl) rfl
theorem q1635 : (Jvm.Cond.privateMethod ({ cls := "RoadHousesModel", name := "isHouse", desc := "(I)Z" } : Jvm.MethodName)) ∈ lw_tbl := lw_at lw_m7 114 rfl
theorem q1636 : (Jvm.Cond.instanceMethod ({ cls := "RoadHousesModel", name := "isHouse", desc := "(I)Z" } : Jvm.MethodName)) ∈ lw_all := lw_g (lw_at lw_m7 115 rfl) rfl
theorem q1637 : (Jvm.Cond.code ({ cls := "RoadHousesModel", name := "isHouse", desc := "(I)Z" } : Jvm.MethodName) prog_19_method_13_code (2 : Nat) (Option.some Jvm.ClassFile.FieldType.boolean)) ∈ lw_all := lw_g (lw_at lw_m7 116 rfl) rfl
theorem q1639 : (Jvm.Cond.instanceMethod ({ cls := "RoadHousesModel", name := "lamp", desc := "(IZ)I" } : Jvm.MethodName)) ∈ lw_all := lw_g (lw_at lw_m7 118 rfl) rfl
theorem q1640 : (Jvm.Cond.selects "RoadHousesModel" ({ cls := "RoadHousesModel", name := "lamp", desc := "(IZ)I" } : Jvm.MethodName) ({ cls := "RoadHousesModel", name := "lamp", desc := "(IZ)I" } : Jvm.MethodName)) ∈ lw_all := lw_g (lw_at lw_m7 119 rfl) rfl
theorem q1641 : (Jvm.Cond.code ({ cls := "RoadHousesModel", name := "lamp", desc := "(IZ)I" } : Jvm.MethodName) prog_19_method_19_code (4 : Nat) (Option.some Jvm.ClassFile.FieldType.int)) ∈ lw_all := lw_g (lw_at lw_m7 120 rfl) rfl
theorem q1642 : (Jvm.Cond.methodLink "RoadHousesModel" (193 : Nat) ({ cls := "RoadHousesModel", name := "isLit", desc := "(II)Z" } : Jvm.MethodName)) ∈ lw_all := lw_g (lw_at lw_m7 121 rfl) rfl
theorem q1643 : (Jvm.Cond.privateMethod ({ cls := "RoadHousesModel", name := "isLit", desc := "(II)Z" } : Jvm.MethodName)) ∈ lw_tbl := lw_at lw_m7 122 rfl
theorem q1644 : (Jvm.Cond.instanceMethod ({ cls := "RoadHousesModel", name := "isLit", desc := "(II)Z" } : Jvm.MethodName)) ∈ lw_all := lw_g (lw_at lw_m7 123 rfl) rfl
theorem q1645 : (Jvm.Cond.code ({ cls := "RoadHousesModel", name := "isLit", desc := "(II)Z" } : Jvm.MethodName) prog_19_method_18_code (5 : Nat) (Option.some Jvm.ClassFile.FieldType.boolean)) ∈ lw_all := lw_g (lw_at lw_m7 124 rfl) rfl
theorem q1647 : (Jvm.Cond.instanceMethod ({ cls := "RoadHousesModel", name := "watch", desc := "(IZ)I" } : Jvm.MethodName)) ∈ lw_all := lw_g (lw_at lw_m7 126 rfl) rfl
theorem q1648 : (Jvm.Cond.selects "RoadHousesModel" ({ cls := "RoadHousesModel", name := "watch", desc := "(IZ)I" } : Jvm.MethodName) ({ cls := "RoadHousesModel", name := "watch", desc := "(IZ)I" } : Jvm.MethodName)) ∈ lw_all := lw_g (lw_at lw_m7 127 rfl) rfl
theorem q1649 : (Jvm.Cond.code ({ cls := "RoadHousesModel", name := "watch", desc := "(IZ)I" } : Jvm.MethodName) prog_19_method_20_code (4 : Nat) (Option.some Jvm.ClassFile.FieldType.int)) ∈ lw_all := lw_g (lw_at lw_m7 128 rfl) rfl
theorem q1651 : (Jvm.Cond.instanceMethod ({ cls := "RoadHousesModel", name := "bears", desc := "(IIZ)I" } : Jvm.MethodName)) ∈ lw_all := lw_g (lw_at lw_m7 130 rfl) rfl
theorem q1652 : (Jvm.Cond.selects "RoadHousesModel" ({ cls := "RoadHousesModel", name := "bears", desc := "(IIZ)I" } : Jvm.MethodName) ({ cls := "RoadHousesModel", name := "bears", desc := "(IIZ)I" } : Jvm.MethodName)) ∈ lw_all := lw_g (lw_at lw_m7 131 rfl) rfl
theorem q1653 : (Jvm.Cond.code ({ cls := "RoadHousesModel", name := "bears", desc := "(IIZ)I" } : Jvm.MethodName) prog_19_method_21_code (5 : Nat) (Option.some Jvm.ClassFile.FieldType.int)) ∈ lw_all := lw_g (lw_at lw_m7 132 rfl) rfl
theorem q1654 : (Jvm.Cond.constantLong "RoadHousesModel" (197 : Nat) (49 : Int64)) ∈ lw_all := lw_g (lw_at lw_m7 133 rfl) rfl
theorem q1656 : (Jvm.Cond.instanceMethod ({ cls := "RoadHousesModel", name := "ice", desc := "(IIIII)I" } : Jvm.MethodName)) ∈ lw_all := lw_g (lw_at lw_m7 135 rfl) rfl
theorem q1657 : (Jvm.Cond.selects "RoadHousesModel" ({ cls := "RoadHousesModel", name := "ice", desc := "(IIIII)I" } : Jvm.MethodName) ({ cls := "RoadHousesModel", name := "ice", desc := "(IIIII)I" } : Jvm.MethodName)) ∈ lw_all := lw_g (lw_at lw_m7 136 rfl) rfl
theorem q1658 : (Jvm.Cond.code ({ cls := "RoadHousesModel", name := "ice", desc := "(IIIII)I" } : Jvm.MethodName) prog_19_method_22_code (8 : Nat) (Option.some Jvm.ClassFile.FieldType.int)) ∈ lw_all := lw_g (lw_at lw_m7 137 rfl) rfl
theorem q1659 : (Jvm.Cond.methodLink "RoadHousesModel" (199 : Nat) ({ cls := "RoadHousesModel", name := "isSheet", desc := "(I)Z" } : Jvm.MethodName)) ∈ lw_all := lw_g (lw_at lw_m7 138 rfl) rfl
theorem q1660 : (Jvm.Cond.static ({ cls := "RoadHousesModel", name := "isSheet", desc := "(I)Z" } : Jvm.MethodName)) ∈ lw_all := lw_g (lw_at lw_m7 139 rfl) rfl
theorem q1661 : (Jvm.Cond.code ({ cls := "RoadHousesModel", name := "isSheet", desc := "(I)Z" } : Jvm.MethodName) prog_19_method_94_code (1 : Nat) (Option.some Jvm.ClassFile.FieldType.boolean)) ∈ lw_all := lw_g (lw_at lw_m7 140 rfl) rfl
theorem q1662 : (Jvm.Cond.methodLink "RoadHousesModel" (202 : Nat) ({ cls := "RoadHousesModel", name := "finds", desc := "(IIII)I" } : Jvm.MethodName)) ∈ lw_all := lw_g (lw_at lw_m7 141 rfl) rfl
theorem q1663 : (Jvm.Cond.privateMethod ({ cls := "RoadHousesModel", name := "finds", desc := "(IIII)I" } : Jvm.MethodName)) ∈ lw_tbl := lw_at lw_m7 142 rfl
theorem q1664 : (Jvm.Cond.instanceMethod ({ cls := "RoadHousesModel", name := "finds", desc := "(IIII)I" } : Jvm.MethodName)) ∈ lw_all := lw_g (lw_at lw_m7 143 rfl) rfl
theorem q1665 : (Jvm.Cond.code ({ cls := "RoadHousesModel", name := "finds", desc := "(IIII)I" } : Jvm.MethodName) prog_19_method_96_code (5 : Nat) (Option.some Jvm.ClassFile.FieldType.int)) ∈ lw_all := lw_g (lw_at lw_m7 144 rfl) rfl
theorem q1667 : (Jvm.Cond.instanceMethod ({ cls := "RoadHousesModel", name := "last", desc := "(I)I" } : Jvm.MethodName)) ∈ lw_all := lw_g (lw_at lw_m7 146 rfl) rfl
theorem q1668 : (Jvm.Cond.selects "RoadHousesModel" ({ cls := "RoadHousesModel", name := "last", desc := "(I)I" } : Jvm.MethodName) ({ cls := "RoadHousesModel", name := "last", desc := "(I)I" } : Jvm.MethodName)) ∈ lw_all := lw_g (lw_at lw_m7 147 rfl) rfl
theorem q1669 : (Jvm.Cond.code ({ cls := "RoadHousesModel", name := "last", desc := "(I)I" } : Jvm.MethodName) prog_19_method_24_code (3 : Nat) (Option.some Jvm.ClassFile.FieldType.int)) ∈ lw_all := lw_g (lw_at lw_m7 148 rfl) rfl
theorem q1670 : (Jvm.Cond.methodLink "RoadHousesModel" (210 : Nat) ({ cls := "RoadHousesModel", name := "bearsAt", desc := "(II)Z" } : Jvm.MethodName)) ∈ lw_all := lw_g (lw_at lw_m7 149 rfl) rfl
theorem q1671 : (Jvm.Cond.privateMethod ({ cls := "RoadHousesModel", name := "bearsAt", desc := "(II)Z" } : Jvm.MethodName)) ∈ lw_tbl := lw_at lw_m7 150 rfl
theorem q1672 : (Jvm.Cond.instanceMethod ({ cls := "RoadHousesModel", name := "bearsAt", desc := "(II)Z" } : Jvm.MethodName)) ∈ lw_all := lw_g (lw_at lw_m7 151 rfl) rfl
theorem q1673 : (Jvm.Cond.code ({ cls := "RoadHousesModel", name := "bearsAt", desc := "(II)Z" } : Jvm.MethodName) prog_19_method_23_code (3 : Nat) (Option.some Jvm.ClassFile.FieldType.boolean)) ∈ lw_all := lw_g (lw_at lw_m7 152 rfl) rfl
theorem q1674 : (Jvm.Cond.methodLink "RoadHousesModel" (206 : Nat) ({ cls := "RoadHousesModel", name := "weekOf", desc := "(I)I" } : Jvm.MethodName)) ∈ lw_all := lw_g (lw_at lw_m7 153 rfl) rfl
theorem q1675 : (Jvm.Cond.static ({ cls := "RoadHousesModel", name := "weekOf", desc := "(I)I" } : Jvm.MethodName)) ∈ lw_all := lw_g (lw_at lw_m7 154 rfl) rfl
theorem q1676 : (Jvm.Cond.code ({ cls := "RoadHousesModel", name := "weekOf", desc := "(I)I" } : Jvm.MethodName) prog_19_method_5_code (1 : Nat) (Option.some Jvm.ClassFile.FieldType.int)) ∈ lw_all := lw_g (lw_at lw_m7 155 rfl) rfl
theorem q1678 : (Jvm.Cond.instanceMethod ({ cls := "RoadHousesModel", name := "place", desc := "(II)I" } : Jvm.MethodName)) ∈ lw_all := lw_g (lw_at lw_m7 157 rfl) rfl
theorem q1679 : (Jvm.Cond.selects "RoadHousesModel" ({ cls := "RoadHousesModel", name := "place", desc := "(II)I" } : Jvm.MethodName) ({ cls := "RoadHousesModel", name := "place", desc := "(II)I" } : Jvm.MethodName)) ∈ lw_all := lw_g (lw_at lw_m7 158 rfl) rfl
theorem q1680 : (Jvm.Cond.code ({ cls := "RoadHousesModel", name := "place", desc := "(II)I" } : Jvm.MethodName) prog_19_method_31_code (3 : Nat) (Option.some Jvm.ClassFile.FieldType.int)) ∈ lw_all := lw_g (lw_at lw_m7 159 rfl) rfl
theorem q1681 : (Jvm.Cond.methodLink "RoadHousesModel" (216 : Nat) ({ cls := "RoadHousesModel", name := "there", desc := "(I)I" } : Jvm.MethodName)) ∈ lw_all := lw_g (lw_at lw_m7 160 rfl) rfl
theorem q1682 : (Jvm.Cond.privateMethod ({ cls := "RoadHousesModel", name := "there", desc := "(I)I" } : Jvm.MethodName)) ∈ lw_tbl := lw_at lw_m7 161 rfl
theorem q1683 : (Jvm.Cond.instanceMethod ({ cls := "RoadHousesModel", name := "there", desc := "(I)I" } : Jvm.MethodName)) ∈ lw_all := lw_g (lw_at lw_m7 162 rfl) rfl
theorem q1684 : (Jvm.Cond.code ({ cls := "RoadHousesModel", name := "there", desc := "(I)I" } : Jvm.MethodName) prog_19_method_26_code (4 : Nat) (Option.some Jvm.ClassFile.FieldType.int)) ∈ lw_all := lw_g (lw_at lw_m7 163 rfl) rfl
theorem q1685 : (Jvm.Cond.methodLink "RoadHousesModel" (219 : Nat) ({ cls := "RoadHousesModel", name := "behind", desc := "(I)I" } : Jvm.MethodName)) ∈ lw_all := lw_g (lw_at lw_m7 164 rfl) rfl
theorem q1686 : (Jvm.Cond.privateMethod ({ cls := "RoadHousesModel", name := "behind", desc := "(I)I" } : Jvm.MethodName)) ∈ lw_tbl := lw_at lw_m7 165 rfl
theorem q1687 : (Jvm.Cond.instanceMethod ({ cls := "RoadHousesModel", name := "behind", desc := "(I)I" } : Jvm.MethodName)) ∈ lw_all := lw_g (lw_at lw_m7 166 rfl) rfl
theorem q1688 : (Jvm.Cond.code ({ cls := "RoadHousesModel", name := "behind", desc := "(I)I" } : Jvm.MethodName) prog_19_method_27_code (4 : Nat) (Option.some Jvm.ClassFile.FieldType.int)) ∈ lw_all := lw_g (lw_at lw_m7 167 rfl) rfl
theorem q1689 : (Jvm.Cond.methodLink "RoadHousesModel" (222 : Nat) ({ cls := "RoadHousesModel", name := "coming", desc := "(I)I" } : Jvm.MethodName)) ∈ lw_all := lw_g (lw_at lw_m7 168 rfl) rfl
theorem q1690 : (Jvm.Cond.privateMethod ({ cls := "RoadHousesModel", name := "coming", desc := "(I)I" } : Jvm.MethodName)) ∈ lw_tbl := lw_at lw_m7 169 rfl
theorem q1691 : (Jvm.Cond.instanceMethod ({ cls := "RoadHousesModel", name := "coming", desc := "(I)I" } : Jvm.MethodName)) ∈ lw_all := lw_g (lw_at lw_m7 170 rfl) rfl
theorem q1692 : (Jvm.Cond.code ({ cls := "RoadHousesModel", name := "coming", desc := "(I)I" } : Jvm.MethodName) prog_19_method_28_code (2 : Nat) (Option.some Jvm.ClassFile.FieldType.int)) ∈ lw_all := lw_g (lw_at lw_m7 171 rfl) rfl
theorem q1693 : (Jvm.Cond.methodLink "RoadHousesModel" (225 : Nat) ({ cls := "RoadHousesModel", name := "bitsKnown", desc := "(I)I" } : Jvm.MethodName)) ∈ lw_all := lw_g (lw_at lw_m7 172 rfl) rfl
theorem q1694 : (Jvm.Cond.privateMethod ({ cls := "RoadHousesModel", name := "bitsKnown", desc := "(I)I" } : Jvm.MethodName)) ∈ lw_tbl := lw_at lw_m7 173 rfl
theorem q1695 : (Jvm.Cond.instanceMethod ({ cls := "RoadHousesModel", name := "bitsKnown", desc := "(I)I" } : Jvm.MethodName)) ∈ lw_all := lw_g (lw_at lw_m7 174 rfl) rfl
theorem q1696 : (Jvm.Cond.code ({ cls := "RoadHousesModel", name := "bitsKnown", desc := "(I)I" } : Jvm.MethodName) prog_19_method_30_code (2 : Nat) (Option.some Jvm.ClassFile.FieldType.int)) ∈ lw_all := lw_g (lw_at lw_m7 175 rfl) rfl
theorem q1698 : (Jvm.Cond.instanceMethod ({ cls := "RoadHousesModel", name := "person", desc := "(II)I" } : Jvm.MethodName)) ∈ lw_all := lw_g (lw_at lw_m7 177 rfl) rfl
theorem q1699 : (Jvm.Cond.selects "RoadHousesModel" ({ cls := "RoadHousesModel", name := "person", desc := "(II)I" } : Jvm.MethodName) ({ cls := "RoadHousesModel", name := "person", desc := "(II)I" } : Jvm.MethodName)) ∈ lw_all := lw_g (lw_at lw_m7 178 rfl) rfl
theorem q1700 : (Jvm.Cond.code ({ cls := "RoadHousesModel", name := "person", desc := "(II)I" } : Jvm.MethodName) prog_19_method_33_code (3 : Nat) (Option.some Jvm.ClassFile.FieldType.int)) ∈ lw_all := lw_g (lw_at lw_m7 179 rfl) rfl
theorem q1701 : (Jvm.Cond.methodLink "RoadHousesModel" (228 : Nat) ({ cls := "RoadHousesModel", name := "hasBeds", desc := "(II)Z" } : Jvm.MethodName)) ∈ lw_all := lw_g (lw_at lw_m7 180 rfl) rfl
theorem q1702 : (Jvm.Cond.privateMethod ({ cls := "RoadHousesModel", name := "hasBeds", desc := "(II)Z" } : Jvm.MethodName)) ∈ lw_tbl := lw_at lw_m7 181 rfl
theorem q1703 : (Jvm.Cond.instanceMethod ({ cls := "RoadHousesModel", name := "hasBeds", desc := "(II)Z" } : Jvm.MethodName)) ∈ lw_all := lw_g (lw_at lw_m7 182 rfl) rfl
theorem q1704 : (Jvm.Cond.code ({ cls := "RoadHousesModel", name := "hasBeds", desc := "(II)Z" } : Jvm.MethodName) prog_19_method_29_code (3 : Nat) (Option.some Jvm.ClassFile.FieldType.boolean)) ∈ lw_all := lw_g (lw_at lw_m7 183 rfl) rfl
theorem q1705 : (Jvm.Cond.methodLink "RoadHousesModel" (231 : Nat) ({ cls := "RoadHousesModel", name := "comes", desc := "(III)I" } : Jvm.MethodName)) ∈ lw_all := lw_g (lw_at lw_m7 184 rfl) rfl
theorem q1706 : (Jvm.Cond.privateMethod ({ cls := "RoadHousesModel", name := "comes", desc := "(III)I" } : Jvm.MethodName)) ∈ lw_tbl := lw_at lw_m7 185 rfl
theorem q1707 : (Jvm.Cond.instanceMethod ({ cls := "RoadHousesModel", name := "comes", desc := "(III)I" } : Jvm.MethodName)) ∈ lw_all := lw_g (lw_at lw_m7 186 rfl) rfl
theorem q1708 : (Jvm.Cond.code ({ cls := "RoadHousesModel", name := "comes", desc := "(III)I" } : Jvm.MethodName) prog_19_method_32_code (4 : Nat) (Option.some Jvm.ClassFile.FieldType.int)) ∈ lw_all := lw_g (lw_at lw_m7 187 rfl) rfl
theorem q1710 : (Jvm.Cond.instanceMethod ({ cls := "RoadHousesModel", name := "child", desc := "(II)I" } : Jvm.MethodName)) ∈ lw_all := lw_g (lw_at lw_m7 189 rfl) rfl
theorem q1711 : (Jvm.Cond.selects "RoadHousesModel" ({ cls := "RoadHousesModel", name := "child", desc := "(II)I" } : Jvm.MethodName) ({ cls := "RoadHousesModel", name := "child", desc := "(II)I" } : Jvm.MethodName)) ∈ lw_all := lw_g (lw_at lw_m7 190 rfl) rfl
theorem q1712 : (Jvm.Cond.code ({ cls := "RoadHousesModel", name := "child", desc := "(II)I" } : Jvm.MethodName) prog_19_method_35_code (3 : Nat) (Option.some Jvm.ClassFile.FieldType.int)) ∈ lw_all := lw_g (lw_at lw_m7 191 rfl) rfl
theorem q1713 : (Jvm.Cond.methodLink "RoadHousesModel" (235 : Nat) ({ cls := "RoadHousesModel", name := "isPerson", desc := "(I)Z" } : Jvm.MethodName)) ∈ lw_all := lw_g (lw_at lw_m7 192 rfl) rfl
theorem q1714 : (Jvm.Cond.privateMethod ({ cls := "RoadHousesModel", name := "isPerson", desc := "(I)Z" } : Jvm.MethodName)) ∈ lw_tbl := lw_at lw_m7 193 rfl
theorem q1715 : (Jvm.Cond.instanceMethod ({ cls := "RoadHousesModel", name := "isPerson", desc := "(I)Z" } : Jvm.MethodName)) ∈ lw_all := lw_g (lw_at lw_m7 194 rfl) rfl
theorem q1716 : (Jvm.Cond.code ({ cls := "RoadHousesModel", name := "isPerson", desc := "(I)Z" } : Jvm.MethodName) prog_19_method_25_code (2 : Nat) (Option.some Jvm.ClassFile.FieldType.boolean)) ∈ lw_all := lw_g (lw_at lw_m7 195 rfl) rfl
theorem q1717 : (Jvm.Cond.methodLink "RoadHousesModel" (238 : Nat) ({ cls := "RoadHousesModel", name := "isAt", desc := "(I)Z" } : Jvm.MethodName)) ∈ lw_all := lw_g (lw_at lw_m7 196 rfl) rfl
theorem q1718 : (Jvm.Cond.privateMethod ({ cls := "RoadHousesModel", name := "isAt", desc := "(I)Z" } : Jvm.MethodName)) ∈ lw_tbl := lw_at lw_m7 197 rfl
theorem q1719 : (Jvm.Cond.instanceMethod ({ cls := "RoadHousesModel", name := "isAt", desc := "(I)Z" } : Jvm.MethodName)) ∈ lw_all := lw_g (lw_at lw_m7 198 rfl) rfl
theorem q1720 : (Jvm.Cond.code ({ cls := "RoadHousesModel", name := "isAt", desc := "(I)Z" } : Jvm.MethodName) prog_19_method_34_code (2 : Nat) (Option.some Jvm.ClassFile.FieldType.boolean)) ∈ lw_all := lw_g (lw_at lw_m7 199 rfl) rfl
theorem q1722 : (Jvm.Cond.instanceMethod ({ cls := "RoadHousesModel", name := "where", desc := "(I)I" } : Jvm.MethodName)) ∈ lw_all := lw_g (lw_at lw_m7 201 rfl) rfl
theorem q1723 : (Jvm.Cond.selects "RoadHousesModel" ({ cls := "RoadHousesModel", name := "where", desc := "(I)I" } : Jvm.MethodName) ({ cls := "RoadHousesModel", name := "where", desc := "(I)I" } : Jvm.MethodName)) ∈ lw_all := lw_g (lw_at lw_m7 202 rfl) rfl
theorem q1724 : (Jvm.Cond.code ({ cls := "RoadHousesModel", name := "where", desc := "(I)I" } : Jvm.MethodName) prog_19_method_36_code (2 : Nat) (Option.some Jvm.ClassFile.FieldType.int)) ∈ lw_all := lw_g (lw_at lw_m7 203 rfl) rfl
theorem q1726 : (Jvm.Cond.instanceMethod ({ cls := "RoadHousesModel", name := "told", desc := "(II)I" } : Jvm.MethodName)) ∈ lw_all := lw_g (lw_at lw_m7 205 rfl) rfl
theorem q1727 : (Jvm.Cond.selects "RoadHousesModel" ({ cls := "RoadHousesModel", name := "told", desc := "(II)I" } : Jvm.MethodName) ({ cls := "RoadHousesModel", name := "told", desc := "(II)I" } : Jvm.MethodName)) ∈ lw_all := lw_g (lw_at lw_m7 206 rfl) rfl
theorem q1728 : (Jvm.Cond.code ({ cls := "RoadHousesModel", name := "told", desc := "(II)I" } : Jvm.MethodName) prog_19_method_38_code (3 : Nat) (Option.some Jvm.ClassFile.FieldType.int)) ∈ lw_all := lw_g (lw_at lw_m7 207 rfl) rfl
theorem q1729 : (Jvm.Cond.methodLink "RoadHousesModel" (241 : Nat) ({ cls := "RoadHousesModel", name := "childrenOf", desc := "(I)I" } : Jvm.MethodName)) ∈ lw_all := lw_g (lw_at lw_m7 208 rfl) rfl
theorem q1730 : (Jvm.Cond.privateMethod ({ cls := "RoadHousesModel", name := "childrenOf", desc := "(I)I" } : Jvm.MethodName)) ∈ lw_tbl := lw_at lw_m7 209 rfl
theorem q1731 : (Jvm.Cond.instanceMethod ({ cls := "RoadHousesModel", name := "childrenOf", desc := "(I)I" } : Jvm.MethodName)) ∈ lw_all := lw_g (lw_at lw_m7 210 rfl) rfl
theorem q1732 : (Jvm.Cond.code ({ cls := "RoadHousesModel", name := "childrenOf", desc := "(I)I" } : Jvm.MethodName) prog_19_method_37_code (4 : Nat) (Option.some Jvm.ClassFile.FieldType.int)) ∈ lw_all := lw_g (lw_at lw_m7 211 rfl) rfl
theorem q1733 : (Jvm.Cond.constantLong "RoadHousesModel" (244 : Nat) (100 : Int64)) ∈ lw_all := lw_g (lw_at lw_m7 212 rfl) rfl
theorem q1734 : (Jvm.Cond.constantLong "RoadHousesModel" (246 : Nat) (115 : Int64)) ∈ lw_all := lw_g (lw_at lw_m7 213 rfl) rfl
theorem q1736 : (Jvm.Cond.instanceMethod ({ cls := "RoadHousesModel", name := "go", desc := "(II)I" } : Jvm.MethodName)) ∈ lw_all := lw_g (lw_at lw_m7 215 rfl) rfl
theorem q1737 : (Jvm.Cond.selects "RoadHousesModel" ({ cls := "RoadHousesModel", name := "go", desc := "(II)I" } : Jvm.MethodName) ({ cls := "RoadHousesModel", name := "go", desc := "(II)I" } : Jvm.MethodName)) ∈ lw_all := lw_g (lw_at lw_m7 216 rfl) rfl
theorem q1738 : (Jvm.Cond.code ({ cls := "RoadHousesModel", name := "go", desc := "(II)I" } : Jvm.MethodName) prog_19_method_43_code (7 : Nat) (Option.some Jvm.ClassFile.FieldType.int)) ∈ lw_all := lw_g (lw_at lw_m7 217 rfl) rfl
theorem q1739 : (Jvm.Cond.methodLink "RoadHousesModel" (254 : Nat) ({ cls := "RoadHousesModel", name := "arrives", desc := "(II)I" } : Jvm.MethodName)) ∈ lw_all := lw_g (lw_at lw_m7 218 rfl) rfl
theorem q1740 : (Jvm.Cond.privateMethod ({ cls := "RoadHousesModel", name := "arrives", desc := "(II)I" } : Jvm.MethodName)) ∈ lw_tbl := lw_at lw_m7 219 rfl
theorem q1741 : (Jvm.Cond.instanceMethod ({ cls := "RoadHousesModel", name := "arrives", desc := "(II)I" } : Jvm.MethodName)) ∈ lw_all := lw_g (lw_at lw_m7 220 rfl) rfl
theorem q1742 : (Jvm.Cond.code ({ cls := "RoadHousesModel", name := "arrives", desc := "(II)I" } : Jvm.MethodName) prog_19_method_42_code (5 : Nat) (Option.some Jvm.ClassFile.FieldType.int)) ∈ lw_all := lw_g (lw_at lw_m7 221 rfl) rfl
theorem q1743 : (Jvm.Cond.methodLink "RoadHousesModel" (251 : Nat) ({ cls := "RoadHousesModel", name := "slow", desc := "(I)I" } : Jvm.MethodName)) ∈ lw_all := lw_g (lw_at lw_m7 222 rfl) rfl
theorem q1744 : (Jvm.Cond.privateMethod ({ cls := "RoadHousesModel", name := "slow", desc := "(I)I" } : Jvm.MethodName)) ∈ lw_tbl := lw_at lw_m7 223 rfl
theorem q1745 : (Jvm.Cond.instanceMethod ({ cls := "RoadHousesModel", name := "slow", desc := "(I)I" } : Jvm.MethodName)) ∈ lw_all := lw_g (lw_at lw_m7 224 rfl) rfl
theorem q1746 : (Jvm.Cond.code ({ cls := "RoadHousesModel", name := "slow", desc := "(I)I" } : Jvm.MethodName) prog_19_method_41_code (4 : Nat) (Option.some Jvm.ClassFile.FieldType.int)) ∈ lw_all := lw_g (lw_at lw_m7 225 rfl) rfl
theorem q1747 : (Jvm.Cond.methodLink "RoadHousesModel" (248 : Nat) ({ cls := "RoadHousesModel", name := "party", desc := "(I)I" } : Jvm.MethodName)) ∈ lw_all := lw_g (lw_at lw_m7 226 rfl) rfl
theorem q1748 : (Jvm.Cond.privateMethod ({ cls := "RoadHousesModel", name := "party", desc := "(I)I" } : Jvm.MethodName)) ∈ lw_tbl := lw_at lw_m7 227 rfl
theorem q1749 : (Jvm.Cond.instanceMethod ({ cls := "RoadHousesModel", name := "party", desc := "(I)I" } : Jvm.MethodName)) ∈ lw_all := lw_g (lw_at lw_m7 228 rfl) rfl
theorem q1750 : (Jvm.Cond.code ({ cls := "RoadHousesModel", name := "party", desc := "(I)I" } : Jvm.MethodName) prog_19_method_39_code (4 : Nat) (Option.some Jvm.ClassFile.FieldType.int)) ∈ lw_all := lw_g (lw_at lw_m7 229 rfl) rfl
theorem q1751 : (Jvm.Cond.methodLink "RoadHousesModel" (257 : Nat) ({ cls := "RoadHousesModel", name := "many", desc := "(I)I" } : Jvm.MethodName)) ∈ lw_all := lw_g (lw_at lw_m7 230 rfl) rfl
theorem q1752 : (Jvm.Cond.static ({ cls := "RoadHousesModel", name := "many", desc := "(I)I" } : Jvm.MethodName)) ∈ lw_all := lw_g (lw_at lw_m7 231 rfl) rfl
theorem q1753 : (Jvm.Cond.code ({ cls := "RoadHousesModel", name := "many", desc := "(I)I" } : Jvm.MethodName) prog_19_method_40_code (3 : Nat) (Option.some Jvm.ClassFile.FieldType.int)) ∈ lw_all := lw_g (lw_at lw_m7 232 rfl) rfl
theorem q1755 : (Jvm.Cond.instanceMethod ({ cls := "RoadHousesModel", name := "hide", desc := "(IZ)I" } : Jvm.MethodName)) ∈ lw_all := lw_g (lw_at lw_m7 234 rfl) rfl
theorem q1756 : (Jvm.Cond.selects "RoadHousesModel" ({ cls := "RoadHousesModel", name := "hide", desc := "(IZ)I" } : Jvm.MethodName) ({ cls := "RoadHousesModel", name := "hide", desc := "(IZ)I" } : Jvm.MethodName)) ∈ lw_all := lw_g (lw_at lw_m7 235 rfl) rfl
theorem q1757 : (Jvm.Cond.code ({ cls := "RoadHousesModel", name := "hide", desc := "(IZ)I" } : Jvm.MethodName) prog_19_method_44_code (5 : Nat) (Option.some Jvm.ClassFile.FieldType.int)) ∈ lw_all := lw_g (lw_at lw_m7 236 rfl) rfl
theorem q1759 : (Jvm.Cond.instanceMethod ({ cls := "RoadHousesModel", name := "over", desc := "(I)I" } : Jvm.MethodName)) ∈ lw_all := lw_g (lw_at lw_m7 238 rfl) rfl
theorem q1760 : (Jvm.Cond.selects "RoadHousesModel" ({ cls := "RoadHousesModel", name := "over", desc := "(I)I" } : Jvm.MethodName) ({ cls := "RoadHousesModel", name := "over", desc := "(I)I" } : Jvm.MethodName)) ∈ lw_all := lw_g (lw_at lw_m7 239 rfl) rfl
theorem q1761 : (Jvm.Cond.code ({ cls := "RoadHousesModel", name := "over", desc := "(I)I" } : Jvm.MethodName) prog_19_method_45_code (4 : Nat) (Option.some Jvm.ClassFile.FieldType.int)) ∈ lw_all := lw_g (lw_at lw_m8 0 rfl) rfl
theorem q1763 : (Jvm.Cond.instanceMethod ({ cls := "RoadHousesModel", name := "hour", desc := "(I)I" } : Jvm.MethodName)) ∈ lw_all := lw_g (lw_at lw_m8 2 rfl) rfl
theorem q1764 : (Jvm.Cond.selects "RoadHousesModel" ({ cls := "RoadHousesModel", name := "hour", desc := "(I)I" } : Jvm.MethodName) ({ cls := "RoadHousesModel", name := "hour", desc := "(I)I" } : Jvm.MethodName)) ∈ lw_all := lw_g (lw_at lw_m8 3 rfl) rfl
theorem q1765 : (Jvm.Cond.code ({ cls := "RoadHousesModel", name := "hour", desc := "(I)I" } : Jvm.MethodName) prog_19_method_46_code (3 : Nat) (Option.some Jvm.ClassFile.FieldType.int)) ∈ lw_all := lw_g (lw_at lw_m8 4 rfl) rfl
theorem q1766 : (Jvm.Cond.constantLong "RoadHousesModel" (260 : Nat) (200 : Int64)) ∈ lw_all := lw_g (lw_at lw_m8 5 rfl) rfl
theorem q1768 : (Jvm.Cond.instanceMethod ({ cls := "RoadHousesModel", name := "rain", desc := "()I" } : Jvm.MethodName)) ∈ lw_all := lw_g (lw_at lw_m8 7 rfl) rfl
theorem q1769 : (Jvm.Cond.selects "RoadHousesModel" ({ cls := "RoadHousesModel", name := "rain", desc := "()I" } : Jvm.MethodName) ({ cls := "RoadHousesModel", name := "rain", desc := "()I" } : Jvm.MethodName)) ∈ lw_all := lw_g (lw_at lw_m8 8 rfl) rfl
theorem q1770 : (Jvm.Cond.code ({ cls := "RoadHousesModel", name := "rain", desc := "()I" } : Jvm.MethodName) prog_19_method_48_code (3 : Nat) (Option.some Jvm.ClassFile.FieldType.int)) ∈ lw_all := lw_g (lw_at lw_m8 9 rfl) rfl
theorem q1771 : (Jvm.Cond.methodLink "RoadHousesModel" (262 : Nat) ({ cls := "RoadHousesModel", name := "hasScent", desc := "(I)Z" } : Jvm.MethodName)) ∈ lw_all := lw_g (lw_at lw_m8 10 rfl) rfl
theorem q1772 : (Jvm.Cond.privateMethod ({ cls := "RoadHousesModel", name := "hasScent", desc := "(I)Z" } : Jvm.MethodName)) ∈ lw_tbl := lw_at lw_m8 11 rfl
theorem q1773 : (Jvm.Cond.instanceMethod ({ cls := "RoadHousesModel", name := "hasScent", desc := "(I)Z" } : Jvm.MethodName)) ∈ lw_all := lw_g (lw_at lw_m8 12 rfl) rfl
theorem q1774 : (Jvm.Cond.code ({ cls := "RoadHousesModel", name := "hasScent", desc := "(I)Z" } : Jvm.MethodName) prog_19_method_47_code (2 : Nat) (Option.some Jvm.ClassFile.FieldType.boolean)) ∈ lw_all := lw_g (lw_at lw_m8 13 rfl) rfl
theorem q1776 : (Jvm.Cond.instanceMethod ({ cls := "RoadHousesModel", name := "hunter", desc := "(I)I" } : Jvm.MethodName)) ∈ lw_all := lw_g (lw_at lw_m8 15 rfl) rfl
theorem q1777 : (Jvm.Cond.selects "RoadHousesModel" ({ cls := "RoadHousesModel", name := "hunter", desc := "(I)I" } : Jvm.MethodName) ({ cls := "RoadHousesModel", name := "hunter", desc := "(I)I" } : Jvm.MethodName)) ∈ lw_all := lw_g (lw_at lw_m8 16 rfl) rfl
theorem q1778 : (Jvm.Cond.code ({ cls := "RoadHousesModel", name := "hunter", desc := "(I)I" } : Jvm.MethodName) prog_19_method_49_code (2 : Nat) (Option.some Jvm.ClassFile.FieldType.int)) ∈ lw_all := lw_g (lw_at lw_m8 17 rfl) rfl
theorem q1780 : (Jvm.Cond.instanceMethod ({ cls := "RoadHousesModel", name := "ride", desc := "(II)I" } : Jvm.MethodName)) ∈ lw_all := lw_g (lw_at lw_m8 19 rfl) rfl
theorem q1781 : (Jvm.Cond.selects "RoadHousesModel" ({ cls := "RoadHousesModel", name := "ride", desc := "(II)I" } : Jvm.MethodName) ({ cls := "RoadHousesModel", name := "ride", desc := "(II)I" } : Jvm.MethodName)) ∈ lw_all := lw_g (lw_at lw_m8 20 rfl) rfl
theorem q1782 : (Jvm.Cond.code ({ cls := "RoadHousesModel", name := "ride", desc := "(II)I" } : Jvm.MethodName) prog_19_method_51_code (4 : Nat) (Option.some Jvm.ClassFile.FieldType.int)) ∈ lw_all := lw_g (lw_at lw_m8 21 rfl) rfl
theorem q1783 : (Jvm.Cond.methodLink "RoadHousesModel" (268 : Nat) ({ cls := "RoadHousesModel", name := "isHunter", desc := "(I)Z" } : Jvm.MethodName)) ∈ lw_all := lw_g (lw_at lw_m8 22 rfl) rfl
theorem q1784 : (Jvm.Cond.privateMethod ({ cls := "RoadHousesModel", name := "isHunter", desc := "(I)Z" } : Jvm.MethodName)) ∈ lw_tbl := lw_at lw_m8 23 rfl
theorem q1785 : (Jvm.Cond.instanceMethod ({ cls := "RoadHousesModel", name := "isHunter", desc := "(I)Z" } : Jvm.MethodName)) ∈ lw_all := lw_g (lw_at lw_m8 24 rfl) rfl
theorem q1786 : (Jvm.Cond.code ({ cls := "RoadHousesModel", name := "isHunter", desc := "(I)Z" } : Jvm.MethodName) prog_19_method_50_code (2 : Nat) (Option.some Jvm.ClassFile.FieldType.boolean)) ∈ lw_all := lw_g (lw_at lw_m8 25 rfl) rfl
theorem q1788 : (Jvm.Cond.instanceMethod ({ cls := "RoadHousesModel", name := "warrant", desc := "(II)I" } : Jvm.MethodName)) ∈ lw_all := lw_g (lw_at lw_m8 27 rfl) rfl
theorem q1789 : (Jvm.Cond.selects "RoadHousesModel" ({ cls := "RoadHousesModel", name := "warrant", desc := "(II)I" } : Jvm.MethodName) ({ cls := "RoadHousesModel", name := "warrant", desc := "(II)I" } : Jvm.MethodName)) ∈ lw_all := lw_g (lw_at lw_m8 28 rfl) rfl
theorem q1790 : (Jvm.Cond.code ({ cls := "RoadHousesModel", name := "warrant", desc := "(II)I" } : Jvm.MethodName) prog_19_method_53_code (4 : Nat) (Option.some Jvm.ClassFile.FieldType.int)) ∈ lw_all := lw_g (lw_at lw_m8 29 rfl) rfl
theorem q1791 : (Jvm.Cond.methodLink "RoadHousesModel" (271 : Nat) ({ cls := "RoadHousesModel", name := "arePersons", desc := "(I)Z" } : Jvm.MethodName)) ∈ lw_all := lw_g (lw_at lw_m8 30 rfl) rfl
theorem q1792 : (Jvm.Cond.privateMethod ({ cls := "RoadHousesModel", name := "arePersons", desc := "(I)Z" } : Jvm.MethodName)) ∈ lw_tbl := lw_at lw_m8 31 rfl
theorem q1793 : (Jvm.Cond.instanceMethod ({ cls := "RoadHousesModel", name := "arePersons", desc := "(I)Z" } : Jvm.MethodName)) ∈ lw_all := lw_g (lw_at lw_m8 32 rfl) rfl
theorem q1794 : (Jvm.Cond.code ({ cls := "RoadHousesModel", name := "arePersons", desc := "(I)Z" } : Jvm.MethodName) prog_19_method_52_code (2 : Nat) (Option.some Jvm.ClassFile.FieldType.boolean)) ∈ lw_all := lw_g (lw_at lw_m8 33 rfl) rfl
theorem q1796 : (Jvm.Cond.instanceMethod ({ cls := "RoadHousesModel", name := "search", desc := "(II)I" } : Jvm.MethodName)) ∈ lw_all := lw_g (lw_at lw_m8 35 rfl) rfl
theorem q1797 : (Jvm.Cond.selects "RoadHousesModel" ({ cls := "RoadHousesModel", name := "search", desc := "(II)I" } : Jvm.MethodName) ({ cls := "RoadHousesModel", name := "search", desc := "(II)I" } : Jvm.MethodName)) ∈ lw_all := lw_g (lw_at lw_m8 36 rfl) rfl
theorem q1798 : (Jvm.Cond.code ({ cls := "RoadHousesModel", name := "search", desc := "(II)I" } : Jvm.MethodName) prog_19_method_54_code (8 : Nat) (Option.some Jvm.ClassFile.FieldType.int)) ∈ lw_all := lw_g (lw_at lw_m8 37 rfl) rfl
theorem q1799 : (Jvm.Cond.methodLink "RoadHousesModel" (277 : Nat) ({ cls := "RoadHousesModel", name := "whyOf", desc := "(IIII)I" } : Jvm.MethodName)) ∈ lw_all := lw_g (lw_at lw_m8 38 rfl) rfl
theorem q1800 : (Jvm.Cond.privateMethod ({ cls := "RoadHousesModel", name := "whyOf", desc := "(IIII)I" } : Jvm.MethodName)) ∈ lw_tbl := lw_at lw_m8 39 rfl
theorem q1801 : (Jvm.Cond.instanceMethod ({ cls := "RoadHousesModel", name := "whyOf", desc := "(IIII)I" } : Jvm.MethodName)) ∈ lw_all := lw_g (lw_at lw_m8 40 rfl) rfl
theorem q1802 : (Jvm.Cond.code ({ cls := "RoadHousesModel", name := "whyOf", desc := "(IIII)I" } : Jvm.MethodName) prog_19_method_73_code (7 : Nat) (Option.some Jvm.ClassFile.FieldType.int)) ∈ lw_all := lw_g (lw_at lw_m8 41 rfl) rfl
theorem q1803 : (Jvm.Cond.methodLink "RoadHousesModel" (351 : Nat) ({ cls := "RoadHousesModel", name := "holds", desc := "(IIII)Z" } : Jvm.MethodName)) ∈ lw_all := lw_g (lw_at lw_m8 42 rfl) rfl
theorem q1804 : (Jvm.Cond.privateMethod ({ cls := "RoadHousesModel", name := "holds", desc := "(IIII)Z" } : Jvm.MethodName)) ∈ lw_tbl := lw_at lw_m8 43 rfl
theorem q1805 : (Jvm.Cond.instanceMethod ({ cls := "RoadHousesModel", name := "holds", desc := "(IIII)Z" } : Jvm.MethodName)) ∈ lw_all := lw_g (lw_at lw_m8 44 rfl) rfl
theorem q1806 : (Jvm.Cond.code ({ cls := "RoadHousesModel", name := "holds", desc := "(IIII)Z" } : Jvm.MethodName) prog_19_method_72_code (9 : Nat) (Option.some Jvm.ClassFile.FieldType.boolean)) ∈ lw_all := lw_g (lw_at lw_m8 45 rfl) rfl
theorem q1807 : (Jvm.Cond.methodLink "RoadHousesModel" (345 : Nat) ({ cls := "RoadHousesModel", name := "nameOf", desc := "(IIII)I" } : Jvm.MethodName)) ∈ lw_all := lw_g (lw_at lw_m8 46 rfl) rfl
theorem q1808 : (Jvm.Cond.privateMethod ({ cls := "RoadHousesModel", name := "nameOf", desc := "(IIII)I" } : Jvm.MethodName)) ∈ lw_tbl := lw_at lw_m8 47 rfl
theorem q1809 : (Jvm.Cond.instanceMethod ({ cls := "RoadHousesModel", name := "nameOf", desc := "(IIII)I" } : Jvm.MethodName)) ∈ lw_all := lw_g (lw_at lw_m8 48 rfl) rfl
theorem q1810 : (Jvm.Cond.code ({ cls := "RoadHousesModel", name := "nameOf", desc := "(IIII)I" } : Jvm.MethodName) prog_19_method_71_code (5 : Nat) (Option.some Jvm.ClassFile.FieldType.int)) ∈ lw_all := lw_g (lw_at lw_m8 49 rfl) rfl
theorem q1811 : (Jvm.Cond.methodLink "RoadHousesModel" (348 : Nat) ({ cls := "RoadHousesModel", name := "done", desc := "(III)I" } : Jvm.MethodName)) ∈ lw_all := lw_g (lw_at lw_m8 50 rfl) rfl
theorem q1812 : (Jvm.Cond.static ({ cls := "RoadHousesModel", name := "done", desc := "(III)I" } : Jvm.MethodName)) ∈ lw_all := lw_g (lw_at lw_m8 51 rfl) rfl
theorem q1813 : (Jvm.Cond.code ({ cls := "RoadHousesModel", name := "done", desc := "(III)I" } : Jvm.MethodName) prog_19_method_70_code (3 : Nat) (Option.some Jvm.ClassFile.FieldType.int)) ∈ lw_all := lw_g (lw_at lw_m8 52 rfl) rfl
theorem q1815 : (Jvm.Cond.instanceMethod ({ cls := "RoadHousesModel", name := "follow", desc := "(I)I" } : Jvm.MethodName)) ∈ lw_all := lw_g (lw_at lw_m8 54 rfl) rfl
theorem q1816 : (Jvm.Cond.selects "RoadHousesModel" ({ cls := "RoadHousesModel", name := "follow", desc := "(I)I" } : Jvm.MethodName) ({ cls := "RoadHousesModel", name := "follow", desc := "(I)I" } : Jvm.MethodName)) ∈ lw_all := lw_g (lw_at lw_m8 55 rfl) rfl
theorem q1817 : (Jvm.Cond.code ({ cls := "RoadHousesModel", name := "follow", desc := "(I)I" } : Jvm.MethodName) prog_19_method_55_code (5 : Nat) (Option.some Jvm.ClassFile.FieldType.int)) ∈ lw_all := lw_g (lw_at lw_m8 56 rfl) rfl
theorem q1819 : (Jvm.Cond.instanceMethod ({ cls := "RoadHousesModel", name := "type", desc := "(JI)I" } : Jvm.MethodName)) ∈ lw_all := lw_g (lw_at lw_m8 58 rfl) rfl
theorem q1820 : (Jvm.Cond.selects "RoadHousesModel" ({ cls := "RoadHousesModel", name := "type", desc := "(JI)I" } : Jvm.MethodName) ({ cls := "RoadHousesModel", name := "type", desc := "(JI)I" } : Jvm.MethodName)) ∈ lw_all := lw_g (lw_at lw_m8 59 rfl) rfl
theorem q1821 : (Jvm.Cond.code ({ cls := "RoadHousesModel", name := "type", desc := "(JI)I" } : Jvm.MethodName) prog_19_method_56_code (5 : Nat) (Option.some Jvm.ClassFile.FieldType.int)) ∈ lw_all := lw_g (lw_at lw_m8 60 rfl) rfl
theorem q1822 : (Jvm.Cond.constantLong "RoadHousesModel" (280 : Nat) (8 : Int64)) ∈ lw_all := lw_g (lw_at lw_m8 61 rfl) rfl
theorem q1823 : (Jvm.Cond.constantLong "RoadHousesModel" (282 : Nat) (255 : Int64)) ∈ lw_all := lw_g (lw_at lw_m8 62 rfl) rfl
theorem q1824 : (Jvm.Cond.constantLong "RoadHousesModel" (284 : Nat) (32 : Int64)) ∈ lw_all := lw_g (lw_at lw_m8 63 rfl) rfl
theorem q1825 : (Jvm.Cond.constantLong "RoadHousesModel" (286 : Nat) (126 : Int64)) ∈ lw_all := lw_g (lw_at lw_m8 64 rfl) rfl
theorem q1827 : (Jvm.Cond.instanceMethod ({ cls := "RoadHousesModel", name := "law", desc := "()I" } : Jvm.MethodName)) ∈ lw_all := lw_g (lw_at lw_m8 66 rfl) rfl
theorem q1828 : (Jvm.Cond.selects "RoadHousesModel" ({ cls := "RoadHousesModel", name := "law", desc := "()I" } : Jvm.MethodName) ({ cls := "RoadHousesModel", name := "law", desc := "()I" } : Jvm.MethodName)) ∈ lw_all := lw_g (lw_at lw_m8 67 rfl) rfl
theorem q1829 : (Jvm.Cond.code ({ cls := "RoadHousesModel", name := "law", desc := "()I" } : Jvm.MethodName) prog_19_method_65_code (4 : Nat) (Option.some Jvm.ClassFile.FieldType.int)) ∈ lw_all := lw_g (lw_at lw_m8 68 rfl) rfl
theorem q1830 : (Jvm.Cond.methodLink "RoadHousesModel" (298 : Nat) ({ cls := "RoadHousesModel", name := "next", desc := "()I" } : Jvm.MethodName)) ∈ lw_all := lw_g (lw_at lw_m8 69 rfl) rfl
theorem q1831 : (Jvm.Cond.privateMethod ({ cls := "RoadHousesModel", name := "next", desc := "()I" } : Jvm.MethodName)) ∈ lw_tbl := lw_at lw_m8 70 rfl
theorem q1832 : (Jvm.Cond.instanceMethod ({ cls := "RoadHousesModel", name := "next", desc := "()I" } : Jvm.MethodName)) ∈ lw_all := lw_g (lw_at lw_m8 71 rfl) rfl
theorem q1833 : (Jvm.Cond.code ({ cls := "RoadHousesModel", name := "next", desc := "()I" } : Jvm.MethodName) prog_19_method_57_code (1 : Nat) (Option.some Jvm.ClassFile.FieldType.int)) ∈ lw_all := lw_g (lw_at lw_m8 72 rfl) rfl
theorem q1834 : (Jvm.Cond.constantLong "RoadHousesModel" (308 : Nat) (48 : Int64)) ∈ lw_all := lw_g (lw_at lw_m8 73 rfl) rfl
theorem q1835 : (Jvm.Cond.constantLong "RoadHousesModel" (332 : Nat) (51 : Int64)) ∈ lw_all := lw_g (lw_at lw_m8 74 rfl) rfl
theorem q1836 : (Jvm.Cond.methodLink "RoadHousesModel" (328 : Nat) ({ cls := "RoadHousesModel", name := "needs", desc := "(I)V" } : Jvm.MethodName)) ∈ lw_all := lw_g (lw_at lw_m8 75 rfl) rfl
theorem q1837 : (Jvm.Cond.privateMethod ({ cls := "RoadHousesModel", name := "needs", desc := "(I)V" } : Jvm.MethodName)) ∈ lw_tbl := lw_at lw_m8 76 rfl
theorem q1838 : (Jvm.Cond.instanceMethod ({ cls := "RoadHousesModel", name := "needs", desc := "(I)V" } : Jvm.MethodName)) ∈ lw_all := lw_g (lw_at lw_m8 77 rfl) rfl
theorem q1839 : (Jvm.Cond.code ({ cls := "RoadHousesModel", name := "needs", desc := "(I)V" } : Jvm.MethodName) prog_19_method_58_code (2 : Nat) (Option.none : Option Jvm.ClassFile.FieldType)) ∈ lw_all := lw_g (lw_at lw_m8 78 rfl) rfl
theorem q1840 : (Jvm.Cond.methodLink "RoadHousesModel" (334 : Nat) ({ cls := "RoadHousesModel", name := "test", desc := "()V" } : Jvm.MethodName)) ∈ lw_all := lw_g (lw_at lw_m8 79 rfl) rfl
theorem q1841 : (Jvm.Cond.privateMethod ({ cls := "RoadHousesModel", name := "test", desc := "()V" } : Jvm.MethodName)) ∈ lw_tbl := lw_at lw_m8 80 rfl
theorem q1842 : (Jvm.Cond.instanceMethod ({ cls := "RoadHousesModel", name := "test", desc := "()V" } : Jvm.MethodName)) ∈ lw_all := lw_g (lw_at lw_m8 81 rfl) rfl
theorem q1843 : (Jvm.Cond.code ({ cls := "RoadHousesModel", name := "test", desc := "()V" } : Jvm.MethodName) prog_19_method_64_code (4 : Nat) (Option.none : Option Jvm.ClassFile.FieldType)) ∈ lw_all := lw_g (lw_at lw_m8 82 rfl) rfl
theorem q1844 : (Jvm.Cond.methodLink "RoadHousesModel" (319 : Nat) ({ cls := "RoadHousesModel", name := "passes", desc := "(I)Z" } : Jvm.MethodName)) ∈ lw_all := lw_g (lw_at lw_m8 83 rfl) rfl
theorem q1845 : (Jvm.Cond.privateMethod ({ cls := "RoadHousesModel", name := "passes", desc := "(I)Z" } : Jvm.MethodName)) ∈ lw_tbl := lw_at lw_m8 84 rfl
theorem q1846 : (Jvm.Cond.instanceMethod ({ cls := "RoadHousesModel", name := "passes", desc := "(I)Z" } : Jvm.MethodName)) ∈ lw_all := lw_g (lw_at lw_m8 85 rfl) rfl
theorem q1847 : (Jvm.Cond.code ({ cls := "RoadHousesModel", name := "passes", desc := "(I)Z" } : Jvm.MethodName) prog_19_method_59_code (3 : Nat) (Option.some Jvm.ClassFile.FieldType.boolean)) ∈ lw_all := lw_g (lw_at lw_m8 86 rfl) rfl
theorem q1848 : (Jvm.Cond.methodLink "RoadHousesModel" (322 : Nat) ({ cls := "RoadHousesModel", name := "claim", desc := "()V" } : Jvm.MethodName)) ∈ lw_all := lw_g (lw_at lw_m8 87 rfl) rfl
theorem q1849 : (Jvm.Cond.privateMethod ({ cls := "RoadHousesModel", name := "claim", desc := "()V" } : Jvm.MethodName)) ∈ lw_tbl := lw_at lw_m8 88 rfl
theorem q1850 : (Jvm.Cond.instanceMethod ({ cls := "RoadHousesModel", name := "claim", desc := "()V" } : Jvm.MethodName)) ∈ lw_all := lw_g (lw_at lw_m8 89 rfl) rfl
theorem q1851 : (Jvm.Cond.code ({ cls := "RoadHousesModel", name := "claim", desc := "()V" } : Jvm.MethodName) prog_19_method_62_code (3 : Nat) (Option.none : Option Jvm.ClassFile.FieldType)) ∈ lw_all := lw_g (lw_at lw_m8 90 rfl) rfl
theorem q1852 : (Jvm.Cond.methodLink "RoadHousesModel" (316 : Nat) ({ cls := "RoadHousesModel", name := "word", desc := "()V" } : Jvm.MethodName)) ∈ lw_all := lw_g (lw_at lw_m8 91 rfl) rfl
theorem q1853 : (Jvm.Cond.privateMethod ({ cls := "RoadHousesModel", name := "word", desc := "()V" } : Jvm.MethodName)) ∈ lw_tbl := lw_at lw_m8 92 rfl
theorem q1854 : (Jvm.Cond.instanceMethod ({ cls := "RoadHousesModel", name := "word", desc := "()V" } : Jvm.MethodName)) ∈ lw_all := lw_g (lw_at lw_m8 93 rfl) rfl
theorem q1855 : (Jvm.Cond.code ({ cls := "RoadHousesModel", name := "word", desc := "()V" } : Jvm.MethodName) prog_19_method_61_code (4 : Nat) (Option.none : Option Jvm.ClassFile.FieldType)) ∈ lw_all := lw_g (lw_at lw_m8 94 rfl) rfl
theorem q1856 : (Jvm.Cond.constantLong "RoadHousesModel" (310 : Nat) (57 : Int64)) ∈ lw_all := lw_g (lw_at lw_m8 95 rfl) rfl
theorem q1857 : (Jvm.Cond.methodLink "RoadHousesModel" (312 : Nat) ({ cls := "RoadHousesModel", name := "emits", desc := "(II)V" } : Jvm.MethodName)) ∈ lw_all := lw_g (lw_at lw_m8 96 rfl) rfl
theorem q1858 : (Jvm.Cond.privateMethod ({ cls := "RoadHousesModel", name := "emits", desc := "(II)V" } : Jvm.MethodName)) ∈ lw_tbl := lw_at lw_m8 97 rfl
theorem q1859 : (Jvm.Cond.instanceMethod ({ cls := "RoadHousesModel", name := "emits", desc := "(II)V" } : Jvm.MethodName)) ∈ lw_all := lw_g (lw_at lw_m8 98 rfl) rfl
theorem q1860 : (Jvm.Cond.code ({ cls := "RoadHousesModel", name := "emits", desc := "(II)V" } : Jvm.MethodName) prog_19_method_60_code (3 : Nat) (Option.none : Option Jvm.ClassFile.FieldType)) ∈ lw_all := lw_g (lw_at lw_m8 99 rfl) rfl
theorem q1861 : (Jvm.Cond.methodLink "RoadHousesModel" (325 : Nat) ({ cls := "RoadHousesModel", name := "goesOn", desc := "(I)Z" } : Jvm.MethodName)) ∈ lw_all := lw_g (lw_at lw_m8 100 rfl) rfl
theorem q1862 : (Jvm.Cond.privateMethod ({ cls := "RoadHousesModel", name := "goesOn", desc := "(I)Z" } : Jvm.MethodName)) ∈ lw_tbl := lw_at lw_m8 101 rfl
theorem q1863 : (Jvm.Cond.instanceMethod ({ cls := "RoadHousesModel", name := "goesOn", desc := "(I)Z" } : Jvm.MethodName)) ∈ lw_all := lw_g (lw_at lw_m8 102 rfl) rfl
theorem q1864 : (Jvm.Cond.code ({ cls := "RoadHousesModel", name := "goesOn", desc := "(I)Z" } : Jvm.MethodName) prog_19_method_63_code (3 : Nat) (Option.some Jvm.ClassFile.FieldType.boolean)) ∈ lw_all := lw_g (lw_at lw_m8 103 rfl) rfl
theorem q1866 : (Jvm.Cond.instanceMethod ({ cls := "RoadHousesModel", name := "force", desc := "(III)I" } : Jvm.MethodName)) ∈ lw_all := lw_g (lw_at lw_m8 105 rfl) rfl
theorem q1867 : (Jvm.Cond.selects "RoadHousesModel" ({ cls := "RoadHousesModel", name := "force", desc := "(III)I" } : Jvm.MethodName) ({ cls := "RoadHousesModel", name := "force", desc := "(III)I" } : Jvm.MethodName)) ∈ lw_all := lw_g (lw_at lw_m8 106 rfl) rfl
theorem q1868 : (Jvm.Cond.code ({ cls := "RoadHousesModel", name := "force", desc := "(III)I" } : Jvm.MethodName) prog_19_method_68_code (4 : Nat) (Option.some Jvm.ClassFile.FieldType.int)) ∈ lw_all := lw_g (lw_at lw_m8 107 rfl) rfl
theorem q1869 : (Jvm.Cond.methodLink "RoadHousesModel" (339 : Nat) ({ cls := "RoadHousesModel", name := "isLaw", desc := "(I)Z" } : Jvm.MethodName)) ∈ lw_all := lw_g (lw_at lw_m8 108 rfl) rfl
theorem q1870 : (Jvm.Cond.privateMethod ({ cls := "RoadHousesModel", name := "isLaw", desc := "(I)Z" } : Jvm.MethodName)) ∈ lw_tbl := lw_at lw_m8 109 rfl
theorem q1871 : (Jvm.Cond.instanceMethod ({ cls := "RoadHousesModel", name := "isLaw", desc := "(I)Z" } : Jvm.MethodName)) ∈ lw_all := lw_g (lw_at lw_m8 110 rfl) rfl
theorem q1872 : (Jvm.Cond.code ({ cls := "RoadHousesModel", name := "isLaw", desc := "(I)Z" } : Jvm.MethodName) prog_19_method_66_code (2 : Nat) (Option.some Jvm.ClassFile.FieldType.boolean)) ∈ lw_all := lw_g (lw_at lw_m8 111 rfl) rfl
theorem q1873 : (Jvm.Cond.methodLink "RoadHousesModel" (342 : Nat) ({ cls := "RoadHousesModel", name := "isDay", desc := "(I)Z" } : Jvm.MethodName)) ∈ lw_all := lw_g (lw_at lw_m8 112 rfl) rfl
theorem q1874 : (Jvm.Cond.static ({ cls := "RoadHousesModel", name := "isDay", desc := "(I)Z" } : Jvm.MethodName)) ∈ lw_all := lw_g (lw_at lw_m8 113 rfl) rfl
theorem q1875 : (Jvm.Cond.code ({ cls := "RoadHousesModel", name := "isDay", desc := "(I)Z" } : Jvm.MethodName) prog_19_method_67_code (1 : Nat) (Option.some Jvm.ClassFile.FieldType.boolean)) ∈ lw_all := lw_g (lw_at lw_m8 114 rfl) rfl
theorem q1876 : (Jvm.Cond.constantLong "RoadHousesModel" (337 : Nat) (416 : Int64)) ∈ lw_all := lw_g (lw_at lw_m8 115 rfl) rfl
theorem q1878 : (Jvm.Cond.instanceMethod ({ cls := "RoadHousesModel", name := "strike", desc := "(II)I" } : Jvm.MethodName)) ∈ lw_all := lw_g (lw_at lw_m8 117 rfl) rfl
theorem q1879 : (Jvm.Cond.selects "RoadHousesModel" ({ cls := "RoadHousesModel", name := "strike", desc := "(II)I" } : Jvm.MethodName) ({ cls := "RoadHousesModel", name := "strike", desc := "(II)I" } : Jvm.MethodName)) ∈ lw_all := lw_g (lw_at lw_m8 118 rfl) rfl
theorem q1880 : (Jvm.Cond.code ({ cls := "RoadHousesModel", name := "strike", desc := "(II)I" } : Jvm.MethodName) prog_19_method_69_code (3 : Nat) (Option.some Jvm.ClassFile.FieldType.int)) ∈ lw_all := lw_g (lw_at lw_m8 119 rfl) rfl
theorem q1882 : (Jvm.Cond.instanceMethod ({ cls := "RoadHousesModel", name := "why", desc := "(IIII)I" } : Jvm.MethodName)) ∈ lw_all := lw_g (lw_at lw_m8 121 rfl) rfl
theorem q1883 : (Jvm.Cond.selects "RoadHousesModel" ({ cls := "RoadHousesModel", name := "why", desc := "(IIII)I" } : Jvm.MethodName) ({ cls := "RoadHousesModel", name := "why", desc := "(IIII)I" } : Jvm.MethodName)) ∈ lw_all := lw_g (lw_at lw_m8 122 rfl) rfl
theorem q1884 : (Jvm.Cond.code ({ cls := "RoadHousesModel", name := "why", desc := "(IIII)I" } : Jvm.MethodName) prog_19_method_74_code (5 : Nat) (Option.some Jvm.ClassFile.FieldType.int)) ∈ lw_all := lw_g (lw_at lw_m8 123 rfl) rfl
theorem q1885 : (Jvm.Cond.constantLong "RoadHousesModel" (355 : Nat) (2 : Int64)) ∈ lw_all := lw_g (lw_at lw_m8 124 rfl) rfl
theorem q1887 : (Jvm.Cond.instanceMethod ({ cls := "RoadHousesModel", name := "tonight", desc := "(I)I" } : Jvm.MethodName)) ∈ lw_all := lw_g (lw_at lw_m8 126 rfl) rfl
theorem q1888 : (Jvm.Cond.selects "RoadHousesModel" ({ cls := "RoadHousesModel", name := "tonight", desc := "(I)I" } : Jvm.MethodName) ({ cls := "RoadHousesModel", name := "tonight", desc := "(I)I" } : Jvm.MethodName)) ∈ lw_all := lw_g (lw_at lw_m8 127 rfl) rfl
theorem q1889 : (Jvm.Cond.code ({ cls := "RoadHousesModel", name := "tonight", desc := "(I)I" } : Jvm.MethodName) prog_19_method_77_code (7 : Nat) (Option.some Jvm.ClassFile.FieldType.int)) ∈ lw_all := lw_g (lw_at lw_m8 128 rfl) rfl
theorem q1890 : (Jvm.Cond.methodLink "RoadHousesModel" (360 : Nat) ({ cls := "RoadHousesModel", name := "areWhole", desc := "(I)Z" } : Jvm.MethodName)) ∈ lw_all := lw_g (lw_at lw_m8 129 rfl) rfl
theorem q1891 : (Jvm.Cond.privateMethod ({ cls := "RoadHousesModel", name := "areWhole", desc := "(I)Z" } : Jvm.MethodName)) ∈ lw_tbl := lw_at lw_m8 130 rfl
theorem q1892 : (Jvm.Cond.instanceMethod ({ cls := "RoadHousesModel", name := "areWhole", desc := "(I)Z" } : Jvm.MethodName)) ∈ lw_all := lw_g (lw_at lw_m8 131 rfl) rfl
theorem q1893 : (Jvm.Cond.code ({ cls := "RoadHousesModel", name := "areWhole", desc := "(I)Z" } : Jvm.MethodName) prog_19_method_75_code (4 : Nat) (Option.some Jvm.ClassFile.FieldType.boolean)) ∈ lw_all := lw_g (lw_at lw_m8 132 rfl) rfl
theorem q1894 : (Jvm.Cond.methodLink "RoadHousesModel" (357 : Nat) ({ cls := "RoadHousesModel", name := "isDark", desc := "(I)Z" } : Jvm.MethodName)) ∈ lw_all := lw_g (lw_at lw_m8 133 rfl) rfl
theorem q1895 : (Jvm.Cond.static ({ cls := "RoadHousesModel", name := "isDark", desc := "(I)Z" } : Jvm.MethodName)) ∈ lw_all := lw_g (lw_at lw_m8 134 rfl) rfl
theorem q1896 : (Jvm.Cond.code ({ cls := "RoadHousesModel", name := "isDark", desc := "(I)Z" } : Jvm.MethodName) prog_19_method_4_code (1 : Nat) (Option.some Jvm.ClassFile.FieldType.boolean)) ∈ lw_all := lw_g (lw_at lw_m8 135 rfl) rfl
theorem q1897 : (Jvm.Cond.methodLink "RoadHousesModel" (363 : Nat) ({ cls := "RoadHousesModel", name := "isRoad", desc := "(III)Z" } : Jvm.MethodName)) ∈ lw_all := lw_g (lw_at lw_m8 136 rfl) rfl
theorem q1898 : (Jvm.Cond.privateMethod ({ cls := "RoadHousesModel", name := "isRoad", desc := "(III)Z" } : Jvm.MethodName)) ∈ lw_tbl := lw_at lw_m8 137 rfl
theorem q1899 : (Jvm.Cond.instanceMethod ({ cls := "RoadHousesModel", name := "isRoad", desc := "(III)Z" } : Jvm.MethodName)) ∈ lw_all := lw_g (lw_at lw_m8 138 rfl) rfl
theorem q1900 : (Jvm.Cond.code ({ cls := "RoadHousesModel", name := "isRoad", desc := "(III)Z" } : Jvm.MethodName) prog_19_method_76_code (8 : Nat) (Option.some Jvm.ClassFile.FieldType.boolean)) ∈ lw_all := lw_g (lw_at lw_m8 139 rfl) rfl
theorem q1902 : (Jvm.Cond.instanceMethod ({ cls := "RoadHousesModel", name := "split", desc := "(II)I" } : Jvm.MethodName)) ∈ lw_all := lw_g (lw_at lw_m8 141 rfl) rfl
theorem q1903 : (Jvm.Cond.selects "RoadHousesModel" ({ cls := "RoadHousesModel", name := "split", desc := "(II)I" } : Jvm.MethodName) ({ cls := "RoadHousesModel", name := "split", desc := "(II)I" } : Jvm.MethodName)) ∈ lw_all := lw_g (lw_at lw_m8 142 rfl) rfl
theorem q1904 : (Jvm.Cond.code ({ cls := "RoadHousesModel", name := "split", desc := "(II)I" } : Jvm.MethodName) prog_19_method_81_code (12 : Nat) (Option.some Jvm.ClassFile.FieldType.int)) ∈ lw_all := lw_g (lw_at lw_m8 143 rfl) rfl
theorem q1905 : (Jvm.Cond.constantLong "RoadHousesModel" (370 : Nat) (16 : Int64)) ∈ lw_all := lw_g (lw_at lw_m8 144 rfl) rfl
theorem q1906 : (Jvm.Cond.methodLink "RoadHousesModel" (372 : Nat) ({ cls := "RoadHousesModel", name := "families", desc := "(I)I" } : Jvm.MethodName)) ∈ lw_all := lw_g (lw_at lw_m8 145 rfl) rfl
theorem q1907 : (Jvm.Cond.privateMethod ({ cls := "RoadHousesModel", name := "families", desc := "(I)I" } : Jvm.MethodName)) ∈ lw_tbl := lw_at lw_m8 146 rfl
theorem q1908 : (Jvm.Cond.instanceMethod ({ cls := "RoadHousesModel", name := "families", desc := "(I)I" } : Jvm.MethodName)) ∈ lw_all := lw_g (lw_at lw_m8 147 rfl) rfl
theorem q1909 : (Jvm.Cond.code ({ cls := "RoadHousesModel", name := "families", desc := "(I)I" } : Jvm.MethodName) prog_19_method_78_code (5 : Nat) (Option.some Jvm.ClassFile.FieldType.int)) ∈ lw_all := lw_g (lw_at lw_m8 148 rfl) rfl
theorem q1910 : (Jvm.Cond.methodLink "RoadHousesModel" (375 : Nat) ({ cls := "RoadHousesModel", name := "strengthOf", desc := "(I)I" } : Jvm.MethodName)) ∈ lw_all := lw_g (lw_at lw_m8 149 rfl) rfl
theorem q1911 : (Jvm.Cond.privateMethod ({ cls := "RoadHousesModel", name := "strengthOf", desc := "(I)I" } : Jvm.MethodName)) ∈ lw_tbl := lw_at lw_m8 150 rfl
theorem q1912 : (Jvm.Cond.instanceMethod ({ cls := "RoadHousesModel", name := "strengthOf", desc := "(I)I" } : Jvm.MethodName)) ∈ lw_all := lw_g (lw_at lw_m8 151 rfl) rfl
theorem q1913 : (Jvm.Cond.code ({ cls := "RoadHousesModel", name := "strengthOf", desc := "(I)I" } : Jvm.MethodName) prog_19_method_79_code (4 : Nat) (Option.some Jvm.ClassFile.FieldType.int)) ∈ lw_all := lw_g (lw_at lw_m8 152 rfl) rfl
theorem q1914 : (Jvm.Cond.methodLink "RoadHousesModel" (378 : Nat) ({ cls := "RoadHousesModel", name := "isAhead", desc := "(II)Z" } : Jvm.MethodName)) ∈ lw_all := lw_g (lw_at lw_m8 153 rfl) rfl
theorem q1915 : (Jvm.Cond.static ({ cls := "RoadHousesModel", name := "isAhead", desc := "(II)Z" } : Jvm.MethodName)) ∈ lw_all := lw_g (lw_at lw_m8 154 rfl) rfl
theorem q1916 : (Jvm.Cond.code ({ cls := "RoadHousesModel", name := "isAhead", desc := "(II)Z" } : Jvm.MethodName) prog_19_method_80_code (3 : Nat) (Option.some Jvm.ClassFile.FieldType.boolean)) ∈ lw_all := lw_g (lw_at lw_m8 155 rfl) rfl
theorem q1918 : (Jvm.Cond.instanceMethod ({ cls := "RoadHousesModel", name := "turned", desc := "(I)I" } : Jvm.MethodName)) ∈ lw_all := lw_g (lw_at lw_m8 157 rfl) rfl
theorem q1919 : (Jvm.Cond.selects "RoadHousesModel" ({ cls := "RoadHousesModel", name := "turned", desc := "(I)I" } : Jvm.MethodName) ({ cls := "RoadHousesModel", name := "turned", desc := "(I)I" } : Jvm.MethodName)) ∈ lw_all := lw_g (lw_at lw_m8 158 rfl) rfl
theorem q1920 : (Jvm.Cond.code ({ cls := "RoadHousesModel", name := "turned", desc := "(I)I" } : Jvm.MethodName) prog_19_method_83_code (2 : Nat) (Option.some Jvm.ClassFile.FieldType.int)) ∈ lw_all := lw_g (lw_at lw_m8 159 rfl) rfl
theorem q1921 : (Jvm.Cond.constantLong "RoadHousesModel" (381 : Nat) (9999 : Int64)) ∈ lw_all := lw_g (lw_at lw_m8 160 rfl) rfl
theorem q1922 : (Jvm.Cond.methodLink "RoadHousesModel" (383 : Nat) ({ cls := "RoadHousesModel", name := "turnedFrom", desc := "(I)I" } : Jvm.MethodName)) ∈ lw_all := lw_g (lw_at lw_m8 161 rfl) rfl
theorem q1923 : (Jvm.Cond.privateMethod ({ cls := "RoadHousesModel", name := "turnedFrom", desc := "(I)I" } : Jvm.MethodName)) ∈ lw_tbl := lw_at lw_m8 162 rfl
theorem q1924 : (Jvm.Cond.instanceMethod ({ cls := "RoadHousesModel", name := "turnedFrom", desc := "(I)I" } : Jvm.MethodName)) ∈ lw_all := lw_g (lw_at lw_m8 163 rfl) rfl
theorem q1925 : (Jvm.Cond.code ({ cls := "RoadHousesModel", name := "turnedFrom", desc := "(I)I" } : Jvm.MethodName) prog_19_method_82_code (7 : Nat) (Option.some Jvm.ClassFile.FieldType.int)) ∈ lw_all := lw_g (lw_at lw_m8 164 rfl) rfl
theorem q1927 : (Jvm.Cond.instanceMethod ({ cls := "RoadHousesModel", name := "sure", desc := "(I)I" } : Jvm.MethodName)) ∈ lw_all := lw_g (lw_at lw_m8 166 rfl) rfl
theorem q1928 : (Jvm.Cond.selects "RoadHousesModel" ({ cls := "RoadHousesModel", name := "sure", desc := "(I)I" } : Jvm.MethodName) ({ cls := "RoadHousesModel", name := "sure", desc := "(I)I" } : Jvm.MethodName)) ∈ lw_all := lw_g (lw_at lw_m8 167 rfl) rfl
theorem q1929 : (Jvm.Cond.code ({ cls := "RoadHousesModel", name := "sure", desc := "(I)I" } : Jvm.MethodName) prog_19_method_84_code (4 : Nat) (Option.some Jvm.ClassFile.FieldType.int)) ∈ lw_all := lw_g (lw_at lw_m8 168 rfl) rfl
theorem q1931 : (Jvm.Cond.instanceMethod ({ cls := "RoadHousesModel", name := "talk", desc := "(III)I" } : Jvm.MethodName)) ∈ lw_all := lw_g (lw_at lw_m8 170 rfl) rfl
theorem q1932 : (Jvm.Cond.selects "RoadHousesModel" ({ cls := "RoadHousesModel", name := "talk", desc := "(III)I" } : Jvm.MethodName) ({ cls := "RoadHousesModel", name := "talk", desc := "(III)I" } : Jvm.MethodName)) ∈ lw_all := lw_g (lw_at lw_m8 171 rfl) rfl
theorem q1933 : (Jvm.Cond.code ({ cls := "RoadHousesModel", name := "talk", desc := "(III)I" } : Jvm.MethodName) prog_19_method_86_code (4 : Nat) (Option.some Jvm.ClassFile.FieldType.int)) ∈ lw_all := lw_g (lw_at lw_m8 172 rfl) rfl
theorem q1934 : (Jvm.Cond.methodLink "RoadHousesModel" (389 : Nat) ({ cls := "RoadHousesModel", name := "talks", desc := "(II)V" } : Jvm.MethodName)) ∈ lw_all := lw_g (lw_at lw_m8 173 rfl) rfl
theorem q1935 : (Jvm.Cond.privateMethod ({ cls := "RoadHousesModel", name := "talks", desc := "(II)V" } : Jvm.MethodName)) ∈ lw_tbl := lw_at lw_m8 174 rfl
theorem q1936 : (Jvm.Cond.instanceMethod ({ cls := "RoadHousesModel", name := "talks", desc := "(II)V" } : Jvm.MethodName)) ∈ lw_all := lw_g (lw_at lw_m8 175 rfl) rfl
theorem q1937 : (Jvm.Cond.code ({ cls := "RoadHousesModel", name := "talks", desc := "(II)V" } : Jvm.MethodName) prog_19_method_85_code (7 : Nat) (Option.none : Option Jvm.ClassFile.FieldType)) ∈ lw_all := lw_g (lw_at lw_m8 176 rfl) rfl
theorem q1938 : (Jvm.Cond.methodLink "RoadHousesModel" (386 : Nat) ({ cls := "RoadHousesModel", name := "isCut", desc := "(III)Z" } : Jvm.MethodName)) ∈ lw_all := lw_g (lw_at lw_m8 177 rfl) rfl
theorem q1939 : (Jvm.Cond.privateMethod ({ cls := "RoadHousesModel", name := "isCut", desc := "(III)Z" } : Jvm.MethodName)) ∈ lw_tbl := lw_at lw_m8 178 rfl
theorem q1940 : (Jvm.Cond.instanceMethod ({ cls := "RoadHousesModel", name := "isCut", desc := "(III)Z" } : Jvm.MethodName)) ∈ lw_all := lw_g (lw_at lw_m8 179 rfl) rfl
theorem q1941 : (Jvm.Cond.code ({ cls := "RoadHousesModel", name := "isCut", desc := "(III)Z" } : Jvm.MethodName) prog_19_method_88_code (6 : Nat) (Option.some Jvm.ClassFile.FieldType.boolean)) ∈ lw_all := lw_g (lw_at lw_m8 180 rfl) rfl
theorem q1943 : (Jvm.Cond.instanceMethod ({ cls := "RoadHousesModel", name := "lost", desc := "(III)I" } : Jvm.MethodName)) ∈ lw_all := lw_g (lw_at lw_m8 182 rfl) rfl
theorem q1944 : (Jvm.Cond.selects "RoadHousesModel" ({ cls := "RoadHousesModel", name := "lost", desc := "(III)I" } : Jvm.MethodName) ({ cls := "RoadHousesModel", name := "lost", desc := "(III)I" } : Jvm.MethodName)) ∈ lw_all := lw_g (lw_at lw_m8 183 rfl) rfl
theorem q1945 : (Jvm.Cond.code ({ cls := "RoadHousesModel", name := "lost", desc := "(III)I" } : Jvm.MethodName) prog_19_method_87_code (11 : Nat) (Option.some Jvm.ClassFile.FieldType.int)) ∈ lw_all := lw_g (lw_at lw_m8 184 rfl) rfl
theorem q1947 : (Jvm.Cond.instanceMethod ({ cls := "RoadHousesModel", name := "tie", desc := "(II)I" } : Jvm.MethodName)) ∈ lw_all := lw_g (lw_at lw_m8 186 rfl) rfl
theorem q1948 : (Jvm.Cond.selects "RoadHousesModel" ({ cls := "RoadHousesModel", name := "tie", desc := "(II)I" } : Jvm.MethodName) ({ cls := "RoadHousesModel", name := "tie", desc := "(II)I" } : Jvm.MethodName)) ∈ lw_all := lw_g (lw_at lw_m8 187 rfl) rfl
theorem q1949 : (Jvm.Cond.code ({ cls := "RoadHousesModel", name := "tie", desc := "(II)I" } : Jvm.MethodName) prog_19_method_89_code (3 : Nat) (Option.some Jvm.ClassFile.FieldType.int)) ∈ lw_all := lw_g (lw_at lw_m8 188 rfl) rfl
theorem q1951 : (Jvm.Cond.instanceMethod ({ cls := "RoadHousesModel", name := "safe", desc := "(I)I" } : Jvm.MethodName)) ∈ lw_all := lw_g (lw_at lw_m8 190 rfl) rfl
theorem q1952 : (Jvm.Cond.selects "RoadHousesModel" ({ cls := "RoadHousesModel", name := "safe", desc := "(I)I" } : Jvm.MethodName) ({ cls := "RoadHousesModel", name := "safe", desc := "(I)I" } : Jvm.MethodName)) ∈ lw_all := lw_g (lw_at lw_m8 191 rfl) rfl
theorem q1953 : (Jvm.Cond.code ({ cls := "RoadHousesModel", name := "safe", desc := "(I)I" } : Jvm.MethodName) prog_19_method_91_code (5 : Nat) (Option.some Jvm.ClassFile.FieldType.int)) ∈ lw_all := lw_g (lw_at lw_m8 192 rfl) rfl
theorem q1954 : (Jvm.Cond.constantLong "RoadHousesModel" (395 : Nat) (15 : Int64)) ∈ lw_all := lw_g (lw_at lw_m8 193 rfl) rfl
theorem q1955 : (Jvm.Cond.methodLink "RoadHousesModel" (397 : Nat) ({ cls := "RoadHousesModel", name := "isSafe", desc := "(II)Z" } : Jvm.MethodName)) ∈ lw_all := lw_g (lw_at lw_m8 194 rfl) rfl
theorem q1956 : (Jvm.Cond.privateMethod ({ cls := "RoadHousesModel", name := "isSafe", desc := "(II)Z" } : Jvm.MethodName)) ∈ lw_tbl := lw_at lw_m8 195 rfl
theorem q1957 : (Jvm.Cond.instanceMethod ({ cls := "RoadHousesModel", name := "isSafe", desc := "(II)Z" } : Jvm.MethodName)) ∈ lw_all := lw_g (lw_at lw_m8 196 rfl) rfl
theorem q1958 : (Jvm.Cond.code ({ cls := "RoadHousesModel", name := "isSafe", desc := "(II)Z" } : Jvm.MethodName) prog_19_method_90_code (6 : Nat) (Option.some Jvm.ClassFile.FieldType.boolean)) ∈ lw_all := lw_g (lw_at lw_m8 197 rfl) rfl
theorem q1960 : (Jvm.Cond.instanceMethod ({ cls := "RoadHousesModel", name := "thinks", desc := "(III)I" } : Jvm.MethodName)) ∈ lw_all := lw_g (lw_at lw_m8 199 rfl) rfl
theorem q1961 : (Jvm.Cond.selects "RoadHousesModel" ({ cls := "RoadHousesModel", name := "thinks", desc := "(III)I" } : Jvm.MethodName) ({ cls := "RoadHousesModel", name := "thinks", desc := "(III)I" } : Jvm.MethodName)) ∈ lw_all := lw_g (lw_at lw_m8 200 rfl) rfl
theorem q1962 : (Jvm.Cond.code ({ cls := "RoadHousesModel", name := "thinks", desc := "(III)I" } : Jvm.MethodName) prog_19_method_92_code (5 : Nat) (Option.some Jvm.ClassFile.FieldType.int)) ∈ lw_all := lw_g (lw_at lw_m8 201 rfl) rfl
theorem q1964 : (Jvm.Cond.instanceMethod ({ cls := "RoadHousesModel", name := "count", desc := "(I)I" } : Jvm.MethodName)) ∈ lw_all := lw_g (lw_at lw_m8 203 rfl) rfl
theorem q1965 : (Jvm.Cond.selects "RoadHousesModel" ({ cls := "RoadHousesModel", name := "count", desc := "(I)I" } : Jvm.MethodName) ({ cls := "RoadHousesModel", name := "count", desc := "(I)I" } : Jvm.MethodName)) ∈ lw_all := lw_g (lw_at lw_m8 204 rfl) rfl
theorem q1966 : (Jvm.Cond.code ({ cls := "RoadHousesModel", name := "count", desc := "(I)I" } : Jvm.MethodName) prog_19_method_93_code (5 : Nat) (Option.some Jvm.ClassFile.FieldType.int)) ∈ lw_all := lw_g (lw_at lw_m8 205 rfl) rfl
theorem q1968 : (Jvm.Cond.instanceMethod ({ cls := "RoadHousesModel", name := "sheet", desc := "(III)I" } : Jvm.MethodName)) ∈ lw_all := lw_g (lw_at lw_m8 207 rfl) rfl
theorem q1969 : (Jvm.Cond.selects "RoadHousesModel" ({ cls := "RoadHousesModel", name := "sheet", desc := "(III)I" } : Jvm.MethodName) ({ cls := "RoadHousesModel", name := "sheet", desc := "(III)I" } : Jvm.MethodName)) ∈ lw_all := lw_g (lw_at lw_m8 208 rfl) rfl
theorem q1970 : (Jvm.Cond.code ({ cls := "RoadHousesModel", name := "sheet", desc := "(III)I" } : Jvm.MethodName) prog_19_method_97_code (5 : Nat) (Option.some Jvm.ClassFile.FieldType.int)) ∈ lw_all := lw_g (lw_at lw_m8 209 rfl) rfl
theorem q1971 : (Jvm.Cond.methodLink "RoadHousesModel" (400 : Nat) ({ cls := "RoadHousesModel", name := "isLane", desc := "(I)Z" } : Jvm.MethodName)) ∈ lw_all := lw_g (lw_at lw_m8 210 rfl) rfl
theorem q1972 : (Jvm.Cond.static ({ cls := "RoadHousesModel", name := "isLane", desc := "(I)Z" } : Jvm.MethodName)) ∈ lw_all := lw_g (lw_at lw_m8 211 rfl) rfl
theorem q1973 : (Jvm.Cond.code ({ cls := "RoadHousesModel", name := "isLane", desc := "(I)Z" } : Jvm.MethodName) prog_19_method_95_code (1 : Nat) (Option.some Jvm.ClassFile.FieldType.boolean)) ∈ lw_all := lw_g (lw_at lw_m8 212 rfl) rfl
theorem q1975 : (Jvm.Cond.instanceMethod ({ cls := "RoadHousesModel", name := "drop", desc := "(I)I" } : Jvm.MethodName)) ∈ lw_all := lw_g (lw_at lw_m8 214 rfl) rfl
theorem q1976 : (Jvm.Cond.selects "RoadHousesModel" ({ cls := "RoadHousesModel", name := "drop", desc := "(I)I" } : Jvm.MethodName) ({ cls := "RoadHousesModel", name := "drop", desc := "(I)I" } : Jvm.MethodName)) ∈ lw_all := lw_g (lw_at lw_m8 215 rfl) rfl
theorem q1977 : (Jvm.Cond.code ({ cls := "RoadHousesModel", name := "drop", desc := "(I)I" } : Jvm.MethodName) prog_19_method_98_code (2 : Nat) (Option.some Jvm.ClassFile.FieldType.int)) ∈ lw_all := lw_g (lw_at lw_m8 216 rfl) rfl
theorem q1979 : (Jvm.Cond.instanceMethod ({ cls := "RoadHousesModel", name := "item", desc := "(IIII)I" } : Jvm.MethodName)) ∈ lw_all := lw_g (lw_at lw_m8 218 rfl) rfl
theorem q1980 : (Jvm.Cond.selects "RoadHousesModel" ({ cls := "RoadHousesModel", name := "item", desc := "(IIII)I" } : Jvm.MethodName) ({ cls := "RoadHousesModel", name := "item", desc := "(IIII)I" } : Jvm.MethodName)) ∈ lw_all := lw_g (lw_at lw_m8 219 rfl) rfl
theorem q1981 : (Jvm.Cond.code ({ cls := "RoadHousesModel", name := "item", desc := "(IIII)I" } : Jvm.MethodName) prog_19_method_99_code (6 : Nat) (Option.some Jvm.ClassFile.FieldType.int)) ∈ lw_all := lw_g (lw_at lw_m8 220 rfl) rfl
theorem q1983 : (Jvm.Cond.instanceMethod ({ cls := "RoadHousesModel", name := "copy", desc := "(IIIII)I" } : Jvm.MethodName)) ∈ lw_all := lw_g (lw_at lw_m8 222 rfl) rfl
theorem q1984 : (Jvm.Cond.selects "RoadHousesModel" ({ cls := "RoadHousesModel", name := "copy", desc := "(IIIII)I" } : Jvm.MethodName) ({ cls := "RoadHousesModel", name := "copy", desc := "(IIIII)I" } : Jvm.MethodName)) ∈ lw_all := lw_g (lw_at lw_m8 223 rfl) rfl
theorem q1985 : (Jvm.Cond.code ({ cls := "RoadHousesModel", name := "copy", desc := "(IIIII)I" } : Jvm.MethodName) prog_19_method_100_code (7 : Nat) (Option.some Jvm.ClassFile.FieldType.int)) ∈ lw_all := lw_g (lw_at lw_m8 224 rfl) rfl
theorem q2007 : (Jvm.Cond.castable "RoadHousesModel" "java/lang/Object") ∈ lw_tbl := lw_at lw_m9 6 rfl
theorem in_X3 : ∀ w ∈ wsX30, w ∈ lw_all := lw_in wsX30 [1459, 1461, 1463, 1465, 1467, 1469, 1471, 1473, 1475, 1477, 1479, 1481, 1483, 1485, 1487, 1489, 1491, 1493, 1495, 1497, 1499, 1501, 1503, 1505, 1507, 1509, 1511, 1513, 1515, 1517, 1519, 1521, 1523, 1525, 1527, 1529, 1531, 1533, 1535, 1537, 1539, 1541, 1543, 1545, 1547, 1549, 1551, 1553, 1555, 1557, 1559, 1561, 1563, 1565, 1567, 1569, 1571, 1573, 1575, 1577, 1579, 1581] (by decide +kernel) (by decide +kernel)
