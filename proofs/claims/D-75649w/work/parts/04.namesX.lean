/-! CounterDesk -/
set_option maxRecDepth 100000
def RX0 : String := "CounterDesk"
def TX0 : u_T := fun k => match k with
  | 0 => ("CounterDesk", "desk", "LCounterDesk$Desk;", false)
  | 1 => ("CounterDesk", "images", "[LCounterDesk$Desk;", true)
  | 2 => ("CounterDesk", "undos", "LCounterDesk$Steps;", true)
  | 3 => ("CounterDesk", "before", "LCounterDesk$Steps;", true)
  | 4 => ("CounterDesk", "ahead", "LCounterDesk$Books;", true)
  | 5 => ("CounterDesk", "real", "LCounterDesk$Books;", true)
  | 6 => ("CounterDesk", "asked", "LCounterDesk$Asked;", true)
  | 7 => ("CounterDesk", "inOrders", "LCounterDesk$Asked;", true)
  | 8 => ("CounterDesk", "nothingTold", "LCounterDesk$Text;", true)
  | 9 => ("CounterDesk", "refused", "[I", true)
  | 10 => ("CounterDesk", "status", "I", false)
  | 11 => ("CounterDesk", "fault", "I", false)
  | 12 => ("CounterDesk", "blots", "I", false)
  | 13 => ("CounterDesk", "stopped", "I", false)
  | 14 => ("CounterDesk", "tape", "[B", true)
  | 15 => ("CounterDesk", "taped", "I", false)
  | 16 => ("CounterDesk", "goes", "[[[Z", true)
  | 17 => ("CounterDesk", "price", "[[[I", true)
  | 18 => ("CounterDesk", "gain", "[[[I", true)
  | 19 => ("CounterDesk", "least", "[[I", true)
  | 20 => ("CounterDesk", "most", "[[I", true)
  | 21 => ("CounterDesk", "fewest", "[[I", true)
  | 22 => ("CounterDesk", "many", "[[J", true)
  | 23 => ("CounterDesk", "alike", "[I", true)
  | 24 => ("CounterDesk", "done", "I", false)
  | 25 => ("CounterDesk", "latest", "I", false)
  | 26 => ("CounterDesk", "drawn", "LCounterDesk$Books;", true)
  | _ => ("CounterDesk", "drawnNotes", "I", false)
def tyX0 : Nat → FieldType := fun k => match k with
  | 0 => .object "CounterDesk$Desk"
  | 1 => .array (.object "CounterDesk$Desk")
  | 2 => .object "CounterDesk$Steps"
  | 3 => .object "CounterDesk$Steps"
  | 4 => .object "CounterDesk$Books"
  | 5 => .object "CounterDesk$Books"
  | 6 => .object "CounterDesk$Asked"
  | 7 => .object "CounterDesk$Asked"
  | 8 => .object "CounterDesk$Text"
  | 9 => .array .int
  | 10 => .int
  | 11 => .int
  | 12 => .int
  | 13 => .int
  | 14 => .array .byte
  | 15 => .int
  | 16 => .array (.array (.array .boolean))
  | 17 => .array (.array (.array .int))
  | 18 => .array (.array (.array .int))
  | 19 => .array (.array .int)
  | 20 => .array (.array .int)
  | 21 => .array (.array .int)
  | 22 => .array (.array .long)
  | 23 => .array .int
  | 24 => .int
  | 25 => .int
  | 26 => .object "CounterDesk$Books"
  | _ => .int
abbrev wsX00 : List Cond := u_ws RX0 TX0 28
set_option maxRecDepth 100000 in
theorem nmX0 : ∀ a, a < 28 → ∀ b, b < 28 → a ≠ b → (TX0 a).2.1 ≠ (TX0 b).2.1 := by decide +kernel
set_option maxRecDepth 100000 in
theorem tyX0_ok : ∀ k, k < 28 → parseFieldDescriptor (TX0 k).2.2.1 = some (tyX0 k) := by decide +kernel
abbrev cX0_init : ByteArray := prog_1_method_4_code
def yX0_init : MethodName := ⟨RX0, "<init>", "()V"⟩
def dkwX0_init_10 : List UInt8 := [183, 0, 38, 181, 0, 114, 42, 2, 181, 0, 117, 177]
abbrev dktX0_init_10 : List UInt8 := dkwX0_init_10 ++ []
def dkwX0_init_9 : List UInt8 := [16, 13, 16, 26, 197, 0, 106, 2, 181, 0, 108, 42, 16, 12, 188, 10, 181, 0, 111, 42, 187, 0, 36, 89]
abbrev dktX0_init_9 : List UInt8 := dkwX0_init_9 ++ dktX0_init_10
def dkwX0_init_8 : List UInt8 := [16, 13, 16, 26, 197, 0, 95, 2, 181, 0, 100, 42, 16, 13, 16, 26, 197, 0, 95, 2, 181, 0, 103, 42]
abbrev dktX0_init_8 : List UInt8 := dkwX0_init_8 ++ dktX0_init_9
def dkwX0_init_7 : List UInt8 := [16, 26, 16, 25, 197, 0, 87, 3, 181, 0, 92, 42, 16, 13, 16, 26, 197, 0, 95, 2, 181, 0, 97, 42]
abbrev dktX0_init_7 : List UInt8 := dkwX0_init_7 ++ dktX0_init_8
def dkwX0_init_6 : List UInt8 := [197, 0, 82, 3, 181, 0, 84, 42, 16, 12, 16, 26, 16, 25, 197, 0, 87, 3, 181, 0, 89, 42, 16, 12]
abbrev dktX0_init_6 : List UInt8 := dkwX0_init_6 ++ dktX0_init_7
def dkwX0_init_5 : List UInt8 := [181, 0, 71, 42, 2, 181, 0, 75, 42, 17, 1, 144, 188, 8, 181, 0, 78, 42, 16, 12, 16, 26, 16, 25]
abbrev dktX0_init_5 : List UInt8 := dkwX0_init_5 ++ dktX0_init_6
def dkwX0_init_4 : List UInt8 := [187, 0, 56, 89, 3, 189, 0, 58, 183, 0, 60, 181, 0, 63, 42, 16, 7, 188, 10, 181, 0, 67, 42, 2]
abbrev dktX0_init_4 : List UInt8 := dkwX0_init_4 ++ dktX0_init_5
def dkwX0_init_3 : List UInt8 := [187, 0, 46, 89, 183, 0, 48, 181, 0, 49, 42, 187, 0, 46, 89, 183, 0, 48, 181, 0, 53, 42]
abbrev dktX0_init_3 : List UInt8 := dkwX0_init_3 ++ dktX0_init_4
def dkwX0_init_2 : List UInt8 := [187, 0, 36, 89, 183, 0, 38, 181, 0, 39, 42, 187, 0, 36, 89, 183, 0, 38, 181, 0, 43, 42]
abbrev dktX0_init_2 : List UInt8 := dkwX0_init_2 ++ dktX0_init_3
def dkwX0_init_1 : List UInt8 := [187, 0, 26, 89, 183, 0, 28, 181, 0, 29, 42, 187, 0, 26, 89, 183, 0, 28, 181, 0, 33, 42]
abbrev dktX0_init_1 : List UInt8 := dkwX0_init_1 ++ dktX0_init_2
def dkwX0_init_0 : List UInt8 := [42, 183, 0, 9, 42, 187, 0, 15, 89, 183, 0, 17, 181, 0, 18, 42, 5, 189, 0, 15, 181, 0, 22, 42]
abbrev dktX0_init_0 : List UInt8 := dkwX0_init_0 ++ dktX0_init_1
theorem dksX0_init_0 : cX0_init.data.toList.drop 0 = dktX0_init_0 := by decide +kernel
theorem dksX0_init_1 : cX0_init.data.toList.drop 24 = dktX0_init_1 := dk_seg dksX0_init_0 24 rfl rfl
theorem dksX0_init_2 : cX0_init.data.toList.drop 46 = dktX0_init_2 := dk_seg dksX0_init_1 22 rfl rfl
theorem dksX0_init_3 : cX0_init.data.toList.drop 68 = dktX0_init_3 := dk_seg dksX0_init_2 22 rfl rfl
theorem dksX0_init_4 : cX0_init.data.toList.drop 90 = dktX0_init_4 := dk_seg dksX0_init_3 22 rfl rfl
theorem dksX0_init_5 : cX0_init.data.toList.drop 114 = dktX0_init_5 := dk_seg dksX0_init_4 24 rfl rfl
theorem dksX0_init_6 : cX0_init.data.toList.drop 138 = dktX0_init_6 := dk_seg dksX0_init_5 24 rfl rfl
theorem dksX0_init_7 : cX0_init.data.toList.drop 162 = dktX0_init_7 := dk_seg dksX0_init_6 24 rfl rfl
theorem dksX0_init_8 : cX0_init.data.toList.drop 186 = dktX0_init_8 := dk_seg dksX0_init_7 24 rfl rfl
theorem dksX0_init_9 : cX0_init.data.toList.drop 210 = dktX0_init_9 := dk_seg dksX0_init_8 24 rfl rfl
theorem dksX0_init_10 : cX0_init.data.toList.drop 234 = dktX0_init_10 := dk_seg dksX0_init_9 24 rfl rfl
theorem dX0_init_0 : decode cX0_init 0 = .ok (.aload_n 0, 1) := dk_42 (dk_at dksX0_init_0 0 rfl rfl)
theorem dX0_init_1 : decode cX0_init 1 = .ok (.invokespecial 9, 3) := dk_183 0 9 (dk_at dksX0_init_0 1 rfl rfl)
theorem dX0_init_4 : decode cX0_init 4 = .ok (.aload_n 0, 1) := dk_42 (dk_at dksX0_init_0 4 rfl rfl)
theorem dX0_init_5 : decode cX0_init 5 = .ok (.new 15, 3) := dk_187 0 15 (dk_at dksX0_init_0 5 rfl rfl)
theorem dX0_init_8 : decode cX0_init 8 = .ok (.dup, 1) := dk_89 (dk_at dksX0_init_0 8 rfl rfl)
theorem dX0_init_9 : decode cX0_init 9 = .ok (.invokespecial 17, 3) := dk_183 0 17 (dk_at dksX0_init_0 9 rfl rfl)
theorem dX0_init_12 : decode cX0_init 12 = .ok (.putfield 18, 3) := dk_181 0 18 (dk_at dksX0_init_0 12 rfl rfl)
theorem dX0_init_15 : decode cX0_init 15 = .ok (.aload_n 0, 1) := dk_42 (dk_at dksX0_init_0 15 rfl rfl)
theorem dX0_init_16 : decode cX0_init 16 = .ok (.iconst 2, 1) := dk_5 (dk_at dksX0_init_0 16 rfl rfl)
theorem dX0_init_17 : decode cX0_init 17 = .ok (.anewarray 15, 3) := dk_189 0 15 (dk_at dksX0_init_0 17 rfl rfl)
theorem dX0_init_20 : decode cX0_init 20 = .ok (.putfield 22, 3) := dk_181 0 22 (dk_at dksX0_init_0 20 rfl rfl)
theorem dX0_init_23 : decode cX0_init 23 = .ok (.aload_n 0, 1) := dk_42 (dk_at dksX0_init_0 23 rfl rfl)
theorem dX0_init_24 : decode cX0_init 24 = .ok (.new 26, 3) := dk_187 0 26 (dk_at dksX0_init_1 0 rfl rfl)
theorem dX0_init_27 : decode cX0_init 27 = .ok (.dup, 1) := dk_89 (dk_at dksX0_init_1 3 rfl rfl)
theorem dX0_init_28 : decode cX0_init 28 = .ok (.invokespecial 28, 3) := dk_183 0 28 (dk_at dksX0_init_1 4 rfl rfl)
theorem dX0_init_31 : decode cX0_init 31 = .ok (.putfield 29, 3) := dk_181 0 29 (dk_at dksX0_init_1 7 rfl rfl)
theorem dX0_init_34 : decode cX0_init 34 = .ok (.aload_n 0, 1) := dk_42 (dk_at dksX0_init_1 10 rfl rfl)
theorem dX0_init_35 : decode cX0_init 35 = .ok (.new 26, 3) := dk_187 0 26 (dk_at dksX0_init_1 11 rfl rfl)
theorem dX0_init_38 : decode cX0_init 38 = .ok (.dup, 1) := dk_89 (dk_at dksX0_init_1 14 rfl rfl)
theorem dX0_init_39 : decode cX0_init 39 = .ok (.invokespecial 28, 3) := dk_183 0 28 (dk_at dksX0_init_1 15 rfl rfl)
theorem dX0_init_42 : decode cX0_init 42 = .ok (.putfield 33, 3) := dk_181 0 33 (dk_at dksX0_init_1 18 rfl rfl)
theorem dX0_init_45 : decode cX0_init 45 = .ok (.aload_n 0, 1) := dk_42 (dk_at dksX0_init_1 21 rfl rfl)
theorem dX0_init_46 : decode cX0_init 46 = .ok (.new 36, 3) := dk_187 0 36 (dk_at dksX0_init_2 0 rfl rfl)
theorem dX0_init_49 : decode cX0_init 49 = .ok (.dup, 1) := dk_89 (dk_at dksX0_init_2 3 rfl rfl)
theorem dX0_init_50 : decode cX0_init 50 = .ok (.invokespecial 38, 3) := dk_183 0 38 (dk_at dksX0_init_2 4 rfl rfl)
theorem dX0_init_53 : decode cX0_init 53 = .ok (.putfield 39, 3) := dk_181 0 39 (dk_at dksX0_init_2 7 rfl rfl)
theorem dX0_init_56 : decode cX0_init 56 = .ok (.aload_n 0, 1) := dk_42 (dk_at dksX0_init_2 10 rfl rfl)
theorem dX0_init_57 : decode cX0_init 57 = .ok (.new 36, 3) := dk_187 0 36 (dk_at dksX0_init_2 11 rfl rfl)
theorem dX0_init_60 : decode cX0_init 60 = .ok (.dup, 1) := dk_89 (dk_at dksX0_init_2 14 rfl rfl)
theorem dX0_init_61 : decode cX0_init 61 = .ok (.invokespecial 38, 3) := dk_183 0 38 (dk_at dksX0_init_2 15 rfl rfl)
theorem dX0_init_64 : decode cX0_init 64 = .ok (.putfield 43, 3) := dk_181 0 43 (dk_at dksX0_init_2 18 rfl rfl)
theorem dX0_init_67 : decode cX0_init 67 = .ok (.aload_n 0, 1) := dk_42 (dk_at dksX0_init_2 21 rfl rfl)
theorem dX0_init_68 : decode cX0_init 68 = .ok (.new 46, 3) := dk_187 0 46 (dk_at dksX0_init_3 0 rfl rfl)
theorem dX0_init_71 : decode cX0_init 71 = .ok (.dup, 1) := dk_89 (dk_at dksX0_init_3 3 rfl rfl)
theorem dX0_init_72 : decode cX0_init 72 = .ok (.invokespecial 48, 3) := dk_183 0 48 (dk_at dksX0_init_3 4 rfl rfl)
theorem dX0_init_75 : decode cX0_init 75 = .ok (.putfield 49, 3) := dk_181 0 49 (dk_at dksX0_init_3 7 rfl rfl)
theorem dX0_init_78 : decode cX0_init 78 = .ok (.aload_n 0, 1) := dk_42 (dk_at dksX0_init_3 10 rfl rfl)
theorem dX0_init_79 : decode cX0_init 79 = .ok (.new 46, 3) := dk_187 0 46 (dk_at dksX0_init_3 11 rfl rfl)
theorem dX0_init_82 : decode cX0_init 82 = .ok (.dup, 1) := dk_89 (dk_at dksX0_init_3 14 rfl rfl)
theorem dX0_init_83 : decode cX0_init 83 = .ok (.invokespecial 48, 3) := dk_183 0 48 (dk_at dksX0_init_3 15 rfl rfl)
theorem dX0_init_86 : decode cX0_init 86 = .ok (.putfield 53, 3) := dk_181 0 53 (dk_at dksX0_init_3 18 rfl rfl)
theorem dX0_init_89 : decode cX0_init 89 = .ok (.aload_n 0, 1) := dk_42 (dk_at dksX0_init_3 21 rfl rfl)
theorem dX0_init_90 : decode cX0_init 90 = .ok (.new 56, 3) := dk_187 0 56 (dk_at dksX0_init_4 0 rfl rfl)
theorem dX0_init_93 : decode cX0_init 93 = .ok (.dup, 1) := dk_89 (dk_at dksX0_init_4 3 rfl rfl)
theorem dX0_init_94 : decode cX0_init 94 = .ok (.iconst 0, 1) := dk_3 (dk_at dksX0_init_4 4 rfl rfl)
theorem dX0_init_95 : decode cX0_init 95 = .ok (.anewarray 58, 3) := dk_189 0 58 (dk_at dksX0_init_4 5 rfl rfl)
theorem dX0_init_98 : decode cX0_init 98 = .ok (.invokespecial 60, 3) := dk_183 0 60 (dk_at dksX0_init_4 8 rfl rfl)
theorem dX0_init_101 : decode cX0_init 101 = .ok (.putfield 63, 3) := dk_181 0 63 (dk_at dksX0_init_4 11 rfl rfl)
theorem dX0_init_104 : decode cX0_init 104 = .ok (.aload_n 0, 1) := dk_42 (dk_at dksX0_init_4 14 rfl rfl)
theorem dX0_init_105 : decode cX0_init 105 = .ok (.bipush 7, 2) := dk_16 7 (dk_at dksX0_init_4 15 rfl rfl)
theorem dX0_init_107 : decode cX0_init 107 = .ok (.newarray .int, 2) := dk_188_10 (dk_at dksX0_init_4 17 rfl rfl)
theorem dX0_init_109 : decode cX0_init 109 = .ok (.putfield 67, 3) := dk_181 0 67 (dk_at dksX0_init_4 19 rfl rfl)
theorem dX0_init_112 : decode cX0_init 112 = .ok (.aload_n 0, 1) := dk_42 (dk_at dksX0_init_4 22 rfl rfl)
theorem dX0_init_113 : decode cX0_init 113 = .ok (.iconst (-1), 1) := dk_2 (dk_at dksX0_init_4 23 rfl rfl)
theorem dX0_init_114 : decode cX0_init 114 = .ok (.putfield 71, 3) := dk_181 0 71 (dk_at dksX0_init_5 0 rfl rfl)
theorem dX0_init_117 : decode cX0_init 117 = .ok (.aload_n 0, 1) := dk_42 (dk_at dksX0_init_5 3 rfl rfl)
theorem dX0_init_118 : decode cX0_init 118 = .ok (.iconst (-1), 1) := dk_2 (dk_at dksX0_init_5 4 rfl rfl)
theorem dX0_init_119 : decode cX0_init 119 = .ok (.putfield 75, 3) := dk_181 0 75 (dk_at dksX0_init_5 5 rfl rfl)
theorem dX0_init_122 : decode cX0_init 122 = .ok (.aload_n 0, 1) := dk_42 (dk_at dksX0_init_5 8 rfl rfl)
theorem dX0_init_123 : decode cX0_init 123 = .ok (.sipush 400, 3) := dk_17 1 144 (dk_at dksX0_init_5 9 rfl rfl)
theorem dX0_init_126 : decode cX0_init 126 = .ok (.newarray .byte, 2) := dk_188_8 (dk_at dksX0_init_5 12 rfl rfl)
theorem dX0_init_128 : decode cX0_init 128 = .ok (.putfield 78, 3) := dk_181 0 78 (dk_at dksX0_init_5 14 rfl rfl)
theorem dX0_init_131 : decode cX0_init 131 = .ok (.aload_n 0, 1) := dk_42 (dk_at dksX0_init_5 17 rfl rfl)
theorem dX0_init_132 : decode cX0_init 132 = .ok (.bipush 12, 2) := dk_16 12 (dk_at dksX0_init_5 18 rfl rfl)
theorem dX0_init_134 : decode cX0_init 134 = .ok (.bipush 26, 2) := dk_16 26 (dk_at dksX0_init_5 20 rfl rfl)
theorem dX0_init_136 : decode cX0_init 136 = .ok (.bipush 25, 2) := dk_16 25 (dk_at dksX0_init_5 22 rfl rfl)
theorem dX0_init_138 : decode cX0_init 138 = .ok (.multianewarray 82 3, 4) := by decide +kernel
theorem dX0_init_142 : decode cX0_init 142 = .ok (.putfield 84, 3) := dk_181 0 84 (dk_at dksX0_init_6 4 rfl rfl)
theorem dX0_init_145 : decode cX0_init 145 = .ok (.aload_n 0, 1) := dk_42 (dk_at dksX0_init_6 7 rfl rfl)
theorem dX0_init_146 : decode cX0_init 146 = .ok (.bipush 12, 2) := dk_16 12 (dk_at dksX0_init_6 8 rfl rfl)
theorem dX0_init_148 : decode cX0_init 148 = .ok (.bipush 26, 2) := dk_16 26 (dk_at dksX0_init_6 10 rfl rfl)
theorem dX0_init_150 : decode cX0_init 150 = .ok (.bipush 25, 2) := dk_16 25 (dk_at dksX0_init_6 12 rfl rfl)
theorem dX0_init_152 : decode cX0_init 152 = .ok (.multianewarray 87 3, 4) := by decide +kernel
theorem dX0_init_156 : decode cX0_init 156 = .ok (.putfield 89, 3) := dk_181 0 89 (dk_at dksX0_init_6 18 rfl rfl)
theorem dX0_init_159 : decode cX0_init 159 = .ok (.aload_n 0, 1) := dk_42 (dk_at dksX0_init_6 21 rfl rfl)
theorem dX0_init_160 : decode cX0_init 160 = .ok (.bipush 12, 2) := dk_16 12 (dk_at dksX0_init_6 22 rfl rfl)
theorem dX0_init_162 : decode cX0_init 162 = .ok (.bipush 26, 2) := dk_16 26 (dk_at dksX0_init_7 0 rfl rfl)
theorem dX0_init_164 : decode cX0_init 164 = .ok (.bipush 25, 2) := dk_16 25 (dk_at dksX0_init_7 2 rfl rfl)
theorem dX0_init_166 : decode cX0_init 166 = .ok (.multianewarray 87 3, 4) := by decide +kernel
theorem dX0_init_170 : decode cX0_init 170 = .ok (.putfield 92, 3) := dk_181 0 92 (dk_at dksX0_init_7 8 rfl rfl)
theorem dX0_init_173 : decode cX0_init 173 = .ok (.aload_n 0, 1) := dk_42 (dk_at dksX0_init_7 11 rfl rfl)
theorem dX0_init_174 : decode cX0_init 174 = .ok (.bipush 13, 2) := dk_16 13 (dk_at dksX0_init_7 12 rfl rfl)
theorem dX0_init_176 : decode cX0_init 176 = .ok (.bipush 26, 2) := dk_16 26 (dk_at dksX0_init_7 14 rfl rfl)
theorem dX0_init_178 : decode cX0_init 178 = .ok (.multianewarray 95 2, 4) := by decide +kernel
theorem dX0_init_182 : decode cX0_init 182 = .ok (.putfield 97, 3) := dk_181 0 97 (dk_at dksX0_init_7 20 rfl rfl)
theorem dX0_init_185 : decode cX0_init 185 = .ok (.aload_n 0, 1) := dk_42 (dk_at dksX0_init_7 23 rfl rfl)
theorem dX0_init_186 : decode cX0_init 186 = .ok (.bipush 13, 2) := dk_16 13 (dk_at dksX0_init_8 0 rfl rfl)
theorem dX0_init_188 : decode cX0_init 188 = .ok (.bipush 26, 2) := dk_16 26 (dk_at dksX0_init_8 2 rfl rfl)
theorem dX0_init_190 : decode cX0_init 190 = .ok (.multianewarray 95 2, 4) := by decide +kernel
theorem dX0_init_194 : decode cX0_init 194 = .ok (.putfield 100, 3) := dk_181 0 100 (dk_at dksX0_init_8 8 rfl rfl)
theorem dX0_init_197 : decode cX0_init 197 = .ok (.aload_n 0, 1) := dk_42 (dk_at dksX0_init_8 11 rfl rfl)
theorem dX0_init_198 : decode cX0_init 198 = .ok (.bipush 13, 2) := dk_16 13 (dk_at dksX0_init_8 12 rfl rfl)
theorem dX0_init_200 : decode cX0_init 200 = .ok (.bipush 26, 2) := dk_16 26 (dk_at dksX0_init_8 14 rfl rfl)
theorem dX0_init_202 : decode cX0_init 202 = .ok (.multianewarray 95 2, 4) := by decide +kernel
theorem dX0_init_206 : decode cX0_init 206 = .ok (.putfield 103, 3) := dk_181 0 103 (dk_at dksX0_init_8 20 rfl rfl)
theorem dX0_init_209 : decode cX0_init 209 = .ok (.aload_n 0, 1) := dk_42 (dk_at dksX0_init_8 23 rfl rfl)
theorem dX0_init_210 : decode cX0_init 210 = .ok (.bipush 13, 2) := dk_16 13 (dk_at dksX0_init_9 0 rfl rfl)
theorem dX0_init_212 : decode cX0_init 212 = .ok (.bipush 26, 2) := dk_16 26 (dk_at dksX0_init_9 2 rfl rfl)
theorem dX0_init_214 : decode cX0_init 214 = .ok (.multianewarray 106 2, 4) := by decide +kernel
theorem dX0_init_218 : decode cX0_init 218 = .ok (.putfield 108, 3) := dk_181 0 108 (dk_at dksX0_init_9 8 rfl rfl)
theorem dX0_init_221 : decode cX0_init 221 = .ok (.aload_n 0, 1) := dk_42 (dk_at dksX0_init_9 11 rfl rfl)
theorem dX0_init_222 : decode cX0_init 222 = .ok (.bipush 12, 2) := dk_16 12 (dk_at dksX0_init_9 12 rfl rfl)
theorem dX0_init_224 : decode cX0_init 224 = .ok (.newarray .int, 2) := dk_188_10 (dk_at dksX0_init_9 14 rfl rfl)
theorem dX0_init_226 : decode cX0_init 226 = .ok (.putfield 111, 3) := dk_181 0 111 (dk_at dksX0_init_9 16 rfl rfl)
theorem dX0_init_229 : decode cX0_init 229 = .ok (.aload_n 0, 1) := dk_42 (dk_at dksX0_init_9 19 rfl rfl)
theorem dX0_init_230 : decode cX0_init 230 = .ok (.new 36, 3) := dk_187 0 36 (dk_at dksX0_init_9 20 rfl rfl)
theorem dX0_init_233 : decode cX0_init 233 = .ok (.dup, 1) := dk_89 (dk_at dksX0_init_9 23 rfl rfl)
theorem dX0_init_234 : decode cX0_init 234 = .ok (.invokespecial 38, 3) := dk_183 0 38 (dk_at dksX0_init_10 0 rfl rfl)
theorem dX0_init_237 : decode cX0_init 237 = .ok (.putfield 114, 3) := dk_181 0 114 (dk_at dksX0_init_10 3 rfl rfl)
theorem dX0_init_240 : decode cX0_init 240 = .ok (.aload_n 0, 1) := dk_42 (dk_at dksX0_init_10 6 rfl rfl)
theorem dX0_init_241 : decode cX0_init 241 = .ok (.iconst (-1), 1) := dk_2 (dk_at dksX0_init_10 7 rfl rfl)
theorem dX0_init_242 : decode cX0_init 242 = .ok (.putfield 117, 3) := dk_181 0 117 (dk_at dksX0_init_10 8 rfl rfl)
theorem dX0_init_245 : decode cX0_init 245 = .ok (.return_, 1) := dk_177 (dk_at dksX0_init_10 11 rfl rfl)
abbrev cX0_feed : ByteArray := prog_1_method_12_code
def yX0_feed : MethodName := ⟨RX0, "feed", "(IIIII)I"⟩
def dkwX0_feed_2 : List UInt8 := [172]
abbrev dktX0_feed_2 : List UInt8 := dkwX0_feed_2 ++ []
def dkwX0_feed_1 : List UInt8 := [182, 0, 149, 42, 29, 182, 0, 149, 42, 21, 4, 182, 0, 149, 42, 21, 5, 182, 0, 149, 42, 180, 0, 146]
abbrev dktX0_feed_1 : List UInt8 := dkwX0_feed_1 ++ dktX0_feed_2
def dkwX0_feed_0 : List UInt8 := [42, 180, 0, 146, 16, 20, 96, 17, 1, 144, 164, 0, 5, 2, 172, 42, 27, 182, 0, 149, 42, 28]
abbrev dktX0_feed_0 : List UInt8 := dkwX0_feed_0 ++ dktX0_feed_1
theorem dksX0_feed_0 : cX0_feed.data.toList.drop 0 = dktX0_feed_0 := by decide +kernel
theorem dksX0_feed_1 : cX0_feed.data.toList.drop 22 = dktX0_feed_1 := dk_seg dksX0_feed_0 22 rfl rfl
theorem dksX0_feed_2 : cX0_feed.data.toList.drop 46 = dktX0_feed_2 := dk_seg dksX0_feed_1 24 rfl rfl
theorem dX0_feed_0 : decode cX0_feed 0 = .ok (.aload_n 0, 1) := dk_42 (dk_at dksX0_feed_0 0 rfl rfl)
theorem dX0_feed_1 : decode cX0_feed 1 = .ok (.getfield 146, 3) := dk_180 0 146 (dk_at dksX0_feed_0 1 rfl rfl)
theorem dX0_feed_4 : decode cX0_feed 4 = .ok (.bipush 20, 2) := dk_16 20 (dk_at dksX0_feed_0 4 rfl rfl)
theorem dX0_feed_6 : decode cX0_feed 6 = .ok (.iadd, 1) := dk_96 (dk_at dksX0_feed_0 6 rfl rfl)
theorem dX0_feed_7 : decode cX0_feed 7 = .ok (.sipush 400, 3) := dk_17 1 144 (dk_at dksX0_feed_0 7 rfl rfl)
theorem dX0_feed_10 : decode cX0_feed 10 = .ok (.if_icmp .le 5, 3) := dk_164 0 5 (dk_at dksX0_feed_0 10 rfl rfl)
theorem dX0_feed_13 : decode cX0_feed 13 = .ok (.iconst (-1), 1) := dk_2 (dk_at dksX0_feed_0 13 rfl rfl)
theorem dX0_feed_14 : decode cX0_feed 14 = .ok (.ireturn, 1) := dk_172 (dk_at dksX0_feed_0 14 rfl rfl)
theorem dX0_feed_15 : decode cX0_feed 15 = .ok (.aload_n 0, 1) := dk_42 (dk_at dksX0_feed_0 15 rfl rfl)
theorem dX0_feed_16 : decode cX0_feed 16 = .ok (.iload_n 1, 1) := dk_27 (dk_at dksX0_feed_0 16 rfl rfl)
theorem dX0_feed_17 : decode cX0_feed 17 = .ok (.invokevirtual 149, 3) := dk_182 0 149 (dk_at dksX0_feed_0 17 rfl rfl)
theorem dX0_feed_20 : decode cX0_feed 20 = .ok (.aload_n 0, 1) := dk_42 (dk_at dksX0_feed_0 20 rfl rfl)
theorem dX0_feed_21 : decode cX0_feed 21 = .ok (.iload_n 2, 1) := dk_28 (dk_at dksX0_feed_0 21 rfl rfl)
theorem dX0_feed_22 : decode cX0_feed 22 = .ok (.invokevirtual 149, 3) := dk_182 0 149 (dk_at dksX0_feed_1 0 rfl rfl)
theorem dX0_feed_25 : decode cX0_feed 25 = .ok (.aload_n 0, 1) := dk_42 (dk_at dksX0_feed_1 3 rfl rfl)
theorem dX0_feed_26 : decode cX0_feed 26 = .ok (.iload_n 3, 1) := dk_29 (dk_at dksX0_feed_1 4 rfl rfl)
theorem dX0_feed_27 : decode cX0_feed 27 = .ok (.invokevirtual 149, 3) := dk_182 0 149 (dk_at dksX0_feed_1 5 rfl rfl)
theorem dX0_feed_30 : decode cX0_feed 30 = .ok (.aload_n 0, 1) := dk_42 (dk_at dksX0_feed_1 8 rfl rfl)
theorem dX0_feed_31 : decode cX0_feed 31 = .ok (.iload 4, 2) := dk_21 4 (dk_at dksX0_feed_1 9 rfl rfl)
theorem dX0_feed_33 : decode cX0_feed 33 = .ok (.invokevirtual 149, 3) := dk_182 0 149 (dk_at dksX0_feed_1 11 rfl rfl)
theorem dX0_feed_36 : decode cX0_feed 36 = .ok (.aload_n 0, 1) := dk_42 (dk_at dksX0_feed_1 14 rfl rfl)
theorem dX0_feed_37 : decode cX0_feed 37 = .ok (.iload 5, 2) := dk_21 5 (dk_at dksX0_feed_1 15 rfl rfl)
theorem dX0_feed_39 : decode cX0_feed 39 = .ok (.invokevirtual 149, 3) := dk_182 0 149 (dk_at dksX0_feed_1 17 rfl rfl)
theorem dX0_feed_42 : decode cX0_feed 42 = .ok (.aload_n 0, 1) := dk_42 (dk_at dksX0_feed_1 20 rfl rfl)
theorem dX0_feed_43 : decode cX0_feed 43 = .ok (.getfield 146, 3) := dk_180 0 146 (dk_at dksX0_feed_1 21 rfl rfl)
theorem dX0_feed_46 : decode cX0_feed 46 = .ok (.ireturn, 1) := dk_172 (dk_at dksX0_feed_2 0 rfl rfl)
abbrev cX0_four : ByteArray := prog_1_method_11_code
def yX0_four : MethodName := ⟨RX0, "four", "(I)V"⟩
def dkwX0_four_1 : List UInt8 := [180, 0, 146, 4, 96, 181, 0, 146, 132, 2, 248, 167, 255, 226, 177]
abbrev dktX0_four_1 : List UInt8 := dkwX0_four_1 ++ []
def dkwX0_four_0 : List UInt8 := [16, 24, 61, 28, 155, 0, 32, 42, 180, 0, 78, 42, 180, 0, 146, 27, 28, 122, 145, 84, 42, 89]
abbrev dktX0_four_0 : List UInt8 := dkwX0_four_0 ++ dktX0_four_1
theorem dksX0_four_0 : cX0_four.data.toList.drop 0 = dktX0_four_0 := by decide +kernel
theorem dksX0_four_1 : cX0_four.data.toList.drop 22 = dktX0_four_1 := dk_seg dksX0_four_0 22 rfl rfl
theorem dX0_four_0 : decode cX0_four 0 = .ok (.bipush 24, 2) := dk_16 24 (dk_at dksX0_four_0 0 rfl rfl)
theorem dX0_four_2 : decode cX0_four 2 = .ok (.istore_n 2, 1) := dk_61 (dk_at dksX0_four_0 2 rfl rfl)
theorem dX0_four_3 : decode cX0_four 3 = .ok (.iload_n 2, 1) := dk_28 (dk_at dksX0_four_0 3 rfl rfl)
theorem dX0_four_4 : decode cX0_four 4 = .ok (.ifCond .lt 32, 3) := dk_155 0 32 (dk_at dksX0_four_0 4 rfl rfl)
theorem dX0_four_7 : decode cX0_four 7 = .ok (.aload_n 0, 1) := dk_42 (dk_at dksX0_four_0 7 rfl rfl)
theorem dX0_four_8 : decode cX0_four 8 = .ok (.getfield 78, 3) := dk_180 0 78 (dk_at dksX0_four_0 8 rfl rfl)
theorem dX0_four_11 : decode cX0_four 11 = .ok (.aload_n 0, 1) := dk_42 (dk_at dksX0_four_0 11 rfl rfl)
theorem dX0_four_12 : decode cX0_four 12 = .ok (.getfield 146, 3) := dk_180 0 146 (dk_at dksX0_four_0 12 rfl rfl)
theorem dX0_four_15 : decode cX0_four 15 = .ok (.iload_n 1, 1) := dk_27 (dk_at dksX0_four_0 15 rfl rfl)
theorem dX0_four_16 : decode cX0_four 16 = .ok (.iload_n 2, 1) := dk_28 (dk_at dksX0_four_0 16 rfl rfl)
theorem dX0_four_17 : decode cX0_four 17 = .ok (.ishr, 1) := dk_122 (dk_at dksX0_four_0 17 rfl rfl)
theorem dX0_four_18 : decode cX0_four 18 = .ok (.i2b, 1) := dk_145 (dk_at dksX0_four_0 18 rfl rfl)
theorem dX0_four_19 : decode cX0_four 19 = .ok (.bastore, 1) := dk_84 (dk_at dksX0_four_0 19 rfl rfl)
theorem dX0_four_20 : decode cX0_four 20 = .ok (.aload_n 0, 1) := dk_42 (dk_at dksX0_four_0 20 rfl rfl)
theorem dX0_four_21 : decode cX0_four 21 = .ok (.dup, 1) := dk_89 (dk_at dksX0_four_0 21 rfl rfl)
theorem dX0_four_22 : decode cX0_four 22 = .ok (.getfield 146, 3) := dk_180 0 146 (dk_at dksX0_four_1 0 rfl rfl)
theorem dX0_four_25 : decode cX0_four 25 = .ok (.iconst 1, 1) := dk_4 (dk_at dksX0_four_1 3 rfl rfl)
theorem dX0_four_26 : decode cX0_four 26 = .ok (.iadd, 1) := dk_96 (dk_at dksX0_four_1 4 rfl rfl)
theorem dX0_four_27 : decode cX0_four 27 = .ok (.putfield 146, 3) := dk_181 0 146 (dk_at dksX0_four_1 5 rfl rfl)
theorem dX0_four_30 : decode cX0_four 30 = .ok (.iinc 2 (-8), 3) := dk_132 2 248 (dk_at dksX0_four_1 8 rfl rfl)
theorem dX0_four_33 : decode cX0_four 33 = .ok (.goto (-30), 3) := dk_167 255 226 (dk_at dksX0_four_1 11 rfl rfl)
theorem dX0_four_36 : decode cX0_four 36 = .ok (.return_, 1) := dk_177 (dk_at dksX0_four_1 14 rfl rfl)
abbrev cX0_end : ByteArray := prog_1_method_13_code
def yX0_end : MethodName := ⟨RX0, "end", "(I)I"⟩
def dkwX0_end_0 : List UInt8 := [27, 133, 9, 42, 180, 0, 146, 133, 184, 0, 5, 154, 0, 5, 2, 172, 42, 27, 181, 0, 146, 27, 172]
abbrev dktX0_end_0 : List UInt8 := dkwX0_end_0 ++ []
theorem dksX0_end_0 : cX0_end.data.toList.drop 0 = dktX0_end_0 := by decide +kernel
theorem dX0_end_0 : decode cX0_end 0 = .ok (.iload_n 1, 1) := dk_27 (dk_at dksX0_end_0 0 rfl rfl)
theorem dX0_end_1 : decode cX0_end 1 = .ok (.i2l, 1) := dk_133 (dk_at dksX0_end_0 1 rfl rfl)
theorem dX0_end_2 : decode cX0_end 2 = .ok (.lconst 0, 1) := dk_9 (dk_at dksX0_end_0 2 rfl rfl)
theorem dX0_end_3 : decode cX0_end 3 = .ok (.aload_n 0, 1) := dk_42 (dk_at dksX0_end_0 3 rfl rfl)
theorem dX0_end_4 : decode cX0_end 4 = .ok (.getfield 146, 3) := dk_180 0 146 (dk_at dksX0_end_0 4 rfl rfl)
theorem dX0_end_7 : decode cX0_end 7 = .ok (.i2l, 1) := dk_133 (dk_at dksX0_end_0 7 rfl rfl)
theorem dX0_end_8 : decode cX0_end 8 = .ok (.invokestatic 5, 3) := dk_184 0 5 (dk_at dksX0_end_0 8 rfl rfl)
theorem dX0_end_11 : decode cX0_end 11 = .ok (.ifCond .ne 5, 3) := dk_154 0 5 (dk_at dksX0_end_0 11 rfl rfl)
theorem dX0_end_14 : decode cX0_end 14 = .ok (.iconst (-1), 1) := dk_2 (dk_at dksX0_end_0 14 rfl rfl)
theorem dX0_end_15 : decode cX0_end 15 = .ok (.ireturn, 1) := dk_172 (dk_at dksX0_end_0 15 rfl rfl)
theorem dX0_end_16 : decode cX0_end 16 = .ok (.aload_n 0, 1) := dk_42 (dk_at dksX0_end_0 16 rfl rfl)
theorem dX0_end_17 : decode cX0_end 17 = .ok (.iload_n 1, 1) := dk_27 (dk_at dksX0_end_0 17 rfl rfl)
theorem dX0_end_18 : decode cX0_end 18 = .ok (.putfield 146, 3) := dk_181 0 146 (dk_at dksX0_end_0 18 rfl rfl)
theorem dX0_end_21 : decode cX0_end 21 = .ok (.iload_n 1, 1) := dk_27 (dk_at dksX0_end_0 21 rfl rfl)
theorem dX0_end_22 : decode cX0_end 22 = .ok (.ireturn, 1) := dk_172 (dk_at dksX0_end_0 22 rfl rfl)
abbrev cX0_in : ByteArray := prog_1_method_1_code
def yX0_in : MethodName := ⟨RX0, "in", "(JJJ)Z"⟩
def dkwX0_in_0 : List UInt8 := [30, 32, 148, 155, 0, 14, 30, 22, 4, 148, 157, 0, 7, 4, 167, 0, 4, 3, 172]
abbrev dktX0_in_0 : List UInt8 := dkwX0_in_0 ++ []
theorem dksX0_in_0 : cX0_in.data.toList.drop 0 = dktX0_in_0 := by decide +kernel
theorem dX0_in_0 : decode cX0_in 0 = .ok (.lload_n 0, 1) := dk_30 (dk_at dksX0_in_0 0 rfl rfl)
theorem dX0_in_1 : decode cX0_in 1 = .ok (.lload_n 2, 1) := dk_32 (dk_at dksX0_in_0 1 rfl rfl)
theorem dX0_in_2 : decode cX0_in 2 = .ok (.lcmp, 1) := dk_148 (dk_at dksX0_in_0 2 rfl rfl)
theorem dX0_in_3 : decode cX0_in 3 = .ok (.ifCond .lt 14, 3) := dk_155 0 14 (dk_at dksX0_in_0 3 rfl rfl)
theorem dX0_in_6 : decode cX0_in 6 = .ok (.lload_n 0, 1) := dk_30 (dk_at dksX0_in_0 6 rfl rfl)
theorem dX0_in_7 : decode cX0_in 7 = .ok (.lload 4, 2) := dk_22 4 (dk_at dksX0_in_0 7 rfl rfl)
theorem dX0_in_9 : decode cX0_in 9 = .ok (.lcmp, 1) := dk_148 (dk_at dksX0_in_0 9 rfl rfl)
theorem dX0_in_10 : decode cX0_in 10 = .ok (.ifCond .gt 7, 3) := dk_157 0 7 (dk_at dksX0_in_0 10 rfl rfl)
theorem dX0_in_13 : decode cX0_in 13 = .ok (.iconst 1, 1) := dk_4 (dk_at dksX0_in_0 13 rfl rfl)
theorem dX0_in_14 : decode cX0_in 14 = .ok (.goto 4, 3) := dk_167 0 4 (dk_at dksX0_in_0 14 rfl rfl)
theorem dX0_in_17 : decode cX0_in 17 = .ok (.iconst 0, 1) := dk_3 (dk_at dksX0_in_0 17 rfl rfl)
theorem dX0_in_18 : decode cX0_in 18 = .ok (.ireturn, 1) := dk_172 (dk_at dksX0_in_0 18 rfl rfl)
abbrev cX0_note : ByteArray := prog_1_method_17_code
def yX0_note : MethodName := ⟨RX0, "note", "(II)I"⟩
def dkwX0_note_0 : List UInt8 := [42, 42, 27, 28, 182, 0, 166, 182, 0, 169, 172]
abbrev dktX0_note_0 : List UInt8 := dkwX0_note_0 ++ []
theorem dksX0_note_0 : cX0_note.data.toList.drop 0 = dktX0_note_0 := by decide +kernel
theorem dX0_note_0 : decode cX0_note 0 = .ok (.aload_n 0, 1) := dk_42 (dk_at dksX0_note_0 0 rfl rfl)
theorem dX0_note_1 : decode cX0_note 1 = .ok (.aload_n 0, 1) := dk_42 (dk_at dksX0_note_0 1 rfl rfl)
theorem dX0_note_2 : decode cX0_note 2 = .ok (.iload_n 1, 1) := dk_27 (dk_at dksX0_note_0 2 rfl rfl)
theorem dX0_note_3 : decode cX0_note 3 = .ok (.iload_n 2, 1) := dk_28 (dk_at dksX0_note_0 3 rfl rfl)
theorem dX0_note_4 : decode cX0_note 4 = .ok (.invokevirtual 166, 3) := dk_182 0 166 (dk_at dksX0_note_0 4 rfl rfl)
theorem dX0_note_7 : decode cX0_note 7 = .ok (.invokevirtual 169, 3) := dk_182 0 169 (dk_at dksX0_note_0 7 rfl rfl)
theorem dX0_note_10 : decode cX0_note 10 = .ok (.ireturn, 1) := dk_172 (dk_at dksX0_note_0 10 rfl rfl)
abbrev cX0_come : ByteArray := prog_1_method_16_code
def yX0_come : MethodName := ⟨RX0, "come", "(II)I"⟩
def dkwX0_come_2 : List UInt8 := [28, 79, 42, 180, 0, 18, 89, 180, 0, 139, 90, 4, 96, 181, 0, 139, 172]
abbrev dktX0_come_2 : List UInt8 := dkwX0_come_2 ++ []
def dkwX0_come_1 : List UInt8 := [160, 0, 6, 16, 251, 172, 42, 182, 0, 157, 180, 0, 160, 29, 27, 79, 42, 182, 0, 157, 180, 0, 163, 29]
abbrev dktX0_come_1 : List UInt8 := dkwX0_come_1 ++ dktX0_come_2
def dkwX0_come_0 : List UInt8 := [27, 184, 0, 153, 153, 0, 10, 28, 184, 0, 153, 154, 0, 5, 2, 172, 42, 182, 0, 142, 62, 29, 16, 12]
abbrev dktX0_come_0 : List UInt8 := dkwX0_come_0 ++ dktX0_come_1
theorem dksX0_come_0 : cX0_come.data.toList.drop 0 = dktX0_come_0 := by decide +kernel
theorem dksX0_come_1 : cX0_come.data.toList.drop 24 = dktX0_come_1 := dk_seg dksX0_come_0 24 rfl rfl
theorem dksX0_come_2 : cX0_come.data.toList.drop 48 = dktX0_come_2 := dk_seg dksX0_come_1 24 rfl rfl
theorem dX0_come_0 : decode cX0_come 0 = .ok (.iload_n 1, 1) := dk_27 (dk_at dksX0_come_0 0 rfl rfl)
theorem dX0_come_1 : decode cX0_come 1 = .ok (.invokestatic 153, 3) := dk_184 0 153 (dk_at dksX0_come_0 1 rfl rfl)
theorem dX0_come_4 : decode cX0_come 4 = .ok (.ifCond .eq 10, 3) := dk_153 0 10 (dk_at dksX0_come_0 4 rfl rfl)
theorem dX0_come_7 : decode cX0_come 7 = .ok (.iload_n 2, 1) := dk_28 (dk_at dksX0_come_0 7 rfl rfl)
theorem dX0_come_8 : decode cX0_come 8 = .ok (.invokestatic 153, 3) := dk_184 0 153 (dk_at dksX0_come_0 8 rfl rfl)
theorem dX0_come_11 : decode cX0_come 11 = .ok (.ifCond .ne 5, 3) := dk_154 0 5 (dk_at dksX0_come_0 11 rfl rfl)
theorem dX0_come_14 : decode cX0_come 14 = .ok (.iconst (-1), 1) := dk_2 (dk_at dksX0_come_0 14 rfl rfl)
theorem dX0_come_15 : decode cX0_come 15 = .ok (.ireturn, 1) := dk_172 (dk_at dksX0_come_0 15 rfl rfl)
theorem dX0_come_16 : decode cX0_come 16 = .ok (.aload_n 0, 1) := dk_42 (dk_at dksX0_come_0 16 rfl rfl)
theorem dX0_come_17 : decode cX0_come 17 = .ok (.invokevirtual 142, 3) := dk_182 0 142 (dk_at dksX0_come_0 17 rfl rfl)
theorem dX0_come_20 : decode cX0_come 20 = .ok (.istore_n 3, 1) := dk_62 (dk_at dksX0_come_0 20 rfl rfl)
theorem dX0_come_21 : decode cX0_come 21 = .ok (.iload_n 3, 1) := dk_29 (dk_at dksX0_come_0 21 rfl rfl)
theorem dX0_come_22 : decode cX0_come 22 = .ok (.bipush 12, 2) := dk_16 12 (dk_at dksX0_come_0 22 rfl rfl)
theorem dX0_come_24 : decode cX0_come 24 = .ok (.if_icmp .ne 6, 3) := dk_160 0 6 (dk_at dksX0_come_1 0 rfl rfl)
theorem dX0_come_27 : decode cX0_come 27 = .ok (.bipush (-5), 2) := dk_16 251 (dk_at dksX0_come_1 3 rfl rfl)
theorem dX0_come_29 : decode cX0_come 29 = .ok (.ireturn, 1) := dk_172 (dk_at dksX0_come_1 5 rfl rfl)
theorem dX0_come_30 : decode cX0_come 30 = .ok (.aload_n 0, 1) := dk_42 (dk_at dksX0_come_1 6 rfl rfl)
theorem dX0_come_31 : decode cX0_come 31 = .ok (.invokevirtual 157, 3) := dk_182 0 157 (dk_at dksX0_come_1 7 rfl rfl)
theorem dX0_come_34 : decode cX0_come 34 = .ok (.getfield 160, 3) := dk_180 0 160 (dk_at dksX0_come_1 10 rfl rfl)
theorem dX0_come_37 : decode cX0_come 37 = .ok (.iload_n 3, 1) := dk_29 (dk_at dksX0_come_1 13 rfl rfl)
theorem dX0_come_38 : decode cX0_come 38 = .ok (.iload_n 1, 1) := dk_27 (dk_at dksX0_come_1 14 rfl rfl)
theorem dX0_come_39 : decode cX0_come 39 = .ok (.iastore, 1) := dk_79 (dk_at dksX0_come_1 15 rfl rfl)
theorem dX0_come_40 : decode cX0_come 40 = .ok (.aload_n 0, 1) := dk_42 (dk_at dksX0_come_1 16 rfl rfl)
theorem dX0_come_41 : decode cX0_come 41 = .ok (.invokevirtual 157, 3) := dk_182 0 157 (dk_at dksX0_come_1 17 rfl rfl)
theorem dX0_come_44 : decode cX0_come 44 = .ok (.getfield 163, 3) := dk_180 0 163 (dk_at dksX0_come_1 20 rfl rfl)
theorem dX0_come_47 : decode cX0_come 47 = .ok (.iload_n 3, 1) := dk_29 (dk_at dksX0_come_1 23 rfl rfl)
theorem dX0_come_48 : decode cX0_come 48 = .ok (.iload_n 2, 1) := dk_28 (dk_at dksX0_come_2 0 rfl rfl)
theorem dX0_come_49 : decode cX0_come 49 = .ok (.iastore, 1) := dk_79 (dk_at dksX0_come_2 1 rfl rfl)
theorem dX0_come_50 : decode cX0_come 50 = .ok (.aload_n 0, 1) := dk_42 (dk_at dksX0_come_2 2 rfl rfl)
theorem dX0_come_51 : decode cX0_come 51 = .ok (.getfield 18, 3) := dk_180 0 18 (dk_at dksX0_come_2 3 rfl rfl)
theorem dX0_come_54 : decode cX0_come 54 = .ok (.dup, 1) := dk_89 (dk_at dksX0_come_2 6 rfl rfl)
theorem dX0_come_55 : decode cX0_come 55 = .ok (.getfield 139, 3) := dk_180 0 139 (dk_at dksX0_come_2 7 rfl rfl)
theorem dX0_come_58 : decode cX0_come 58 = .ok (.dup_x1, 1) := dk_90 (dk_at dksX0_come_2 10 rfl rfl)
theorem dX0_come_59 : decode cX0_come 59 = .ok (.iconst 1, 1) := dk_4 (dk_at dksX0_come_2 11 rfl rfl)
theorem dX0_come_60 : decode cX0_come 60 = .ok (.iadd, 1) := dk_96 (dk_at dksX0_come_2 12 rfl rfl)
theorem dX0_come_61 : decode cX0_come 61 = .ok (.putfield 139, 3) := dk_181 0 139 (dk_at dksX0_come_2 13 rfl rfl)
theorem dX0_come_64 : decode cX0_come 64 = .ok (.ireturn, 1) := dk_172 (dk_at dksX0_come_2 16 rfl rfl)
abbrev cX0_isPitch : ByteArray := prog_1_method_3_code
def yX0_isPitch : MethodName := ⟨RX0, "isPitch", "(I)Z"⟩
def dkwX0_isPitch_0 : List UInt8 := [26, 133, 9, 20, 0, 3, 184, 0, 5, 172]
abbrev dktX0_isPitch_0 : List UInt8 := dkwX0_isPitch_0 ++ []
theorem dksX0_isPitch_0 : cX0_isPitch.data.toList.drop 0 = dktX0_isPitch_0 := by decide +kernel
theorem dX0_isPitch_0 : decode cX0_isPitch 0 = .ok (.iload_n 0, 1) := dk_26 (dk_at dksX0_isPitch_0 0 rfl rfl)
theorem dX0_isPitch_1 : decode cX0_isPitch 1 = .ok (.i2l, 1) := dk_133 (dk_at dksX0_isPitch_0 1 rfl rfl)
theorem dX0_isPitch_2 : decode cX0_isPitch 2 = .ok (.lconst 0, 1) := dk_9 (dk_at dksX0_isPitch_0 2 rfl rfl)
theorem dX0_isPitch_3 : decode cX0_isPitch 3 = .ok (.ldc2_w 3, 3) := dk_20 0 3 (dk_at dksX0_isPitch_0 3 rfl rfl)
theorem dX0_isPitch_6 : decode cX0_isPitch 6 = .ok (.invokestatic 5, 3) := dk_184 0 5 (dk_at dksX0_isPitch_0 6 rfl rfl)
theorem dX0_isPitch_9 : decode cX0_isPitch 9 = .ok (.ireturn, 1) := dk_172 (dk_at dksX0_isPitch_0 9 rfl rfl)
abbrev cX0_nNotes : ByteArray := prog_1_method_9_code
def yX0_nNotes : MethodName := ⟨RX0, "nNotes", "()I"⟩
def dkwX0_nNotes_0 : List UInt8 := [42, 180, 0, 18, 180, 0, 139, 172]
abbrev dktX0_nNotes_0 : List UInt8 := dkwX0_nNotes_0 ++ []
theorem dksX0_nNotes_0 : cX0_nNotes.data.toList.drop 0 = dktX0_nNotes_0 := by decide +kernel
theorem dX0_nNotes_0 : decode cX0_nNotes 0 = .ok (.aload_n 0, 1) := dk_42 (dk_at dksX0_nNotes_0 0 rfl rfl)
theorem dX0_nNotes_1 : decode cX0_nNotes 1 = .ok (.getfield 18, 3) := dk_180 0 18 (dk_at dksX0_nNotes_0 1 rfl rfl)
theorem dX0_nNotes_4 : decode cX0_nNotes 4 = .ok (.getfield 139, 3) := dk_180 0 139 (dk_at dksX0_nNotes_0 4 rfl rfl)
theorem dX0_nNotes_7 : decode cX0_nNotes 7 = .ok (.ireturn, 1) := dk_172 (dk_at dksX0_nNotes_0 7 rfl rfl)
abbrev cX0_books : ByteArray := prog_1_method_8_code
def yX0_books : MethodName := ⟨RX0, "books", "()LCounterDesk$Books;"⟩
def dkwX0_books_0 : List UInt8 := [42, 180, 0, 18, 180, 0, 136, 176]
abbrev dktX0_books_0 : List UInt8 := dkwX0_books_0 ++ []
theorem dksX0_books_0 : cX0_books.data.toList.drop 0 = dktX0_books_0 := by decide +kernel
theorem dX0_books_0 : decode cX0_books 0 = .ok (.aload_n 0, 1) := dk_42 (dk_at dksX0_books_0 0 rfl rfl)
theorem dX0_books_1 : decode cX0_books 1 = .ok (.getfield 18, 3) := dk_180 0 18 (dk_at dksX0_books_0 1 rfl rfl)
theorem dX0_books_4 : decode cX0_books 4 = .ok (.getfield 136, 3) := dk_180 0 136 (dk_at dksX0_books_0 4 rfl rfl)
theorem dX0_books_7 : decode cX0_books 7 = .ok (.areturn, 1) := dk_176 (dk_at dksX0_books_0 7 rfl rfl)
abbrev cX0_settled : ByteArray := prog_1_method_6_code
def yX0_settled : MethodName := ⟨RX0, "settled", "(I)I"⟩
def dkwX0_settled_0 : List UInt8 := [27, 155, 0, 11, 42, 180, 0, 29, 3, 181, 0, 129, 42, 27, 182, 0, 132, 172]
abbrev dktX0_settled_0 : List UInt8 := dkwX0_settled_0 ++ []
theorem dksX0_settled_0 : cX0_settled.data.toList.drop 0 = dktX0_settled_0 := by decide +kernel
theorem dX0_settled_0 : decode cX0_settled 0 = .ok (.iload_n 1, 1) := dk_27 (dk_at dksX0_settled_0 0 rfl rfl)
theorem dX0_settled_1 : decode cX0_settled 1 = .ok (.ifCond .lt 11, 3) := dk_155 0 11 (dk_at dksX0_settled_0 1 rfl rfl)
theorem dX0_settled_4 : decode cX0_settled 4 = .ok (.aload_n 0, 1) := dk_42 (dk_at dksX0_settled_0 4 rfl rfl)
theorem dX0_settled_5 : decode cX0_settled 5 = .ok (.getfield 29, 3) := dk_180 0 29 (dk_at dksX0_settled_0 5 rfl rfl)
theorem dX0_settled_8 : decode cX0_settled 8 = .ok (.iconst 0, 1) := dk_3 (dk_at dksX0_settled_0 8 rfl rfl)
theorem dX0_settled_9 : decode cX0_settled 9 = .ok (.putfield 129, 3) := dk_181 0 129 (dk_at dksX0_settled_0 9 rfl rfl)
theorem dX0_settled_12 : decode cX0_settled 12 = .ok (.aload_n 0, 1) := dk_42 (dk_at dksX0_settled_0 12 rfl rfl)
theorem dX0_settled_13 : decode cX0_settled 13 = .ok (.iload_n 1, 1) := dk_27 (dk_at dksX0_settled_0 13 rfl rfl)
theorem dX0_settled_14 : decode cX0_settled 14 = .ok (.invokevirtual 132, 3) := dk_182 0 132 (dk_at dksX0_settled_0 14 rfl rfl)
theorem dX0_settled_17 : decode cX0_settled 17 = .ok (.ireturn, 1) := dk_172 (dk_at dksX0_settled_0 17 rfl rfl)
abbrev cX0_tell : ByteArray := prog_1_method_5_code
def yX0_tell : MethodName := ⟨RX0, "tell", "(I)I"⟩
def dkwX0_tell_1 : List UInt8 := [27, 172]
abbrev dktX0_tell_1 : List UInt8 := dkwX0_tell_1 ++ []
def dkwX0_tell_0 : List UInt8 := [42, 27, 3, 184, 0, 120, 181, 0, 126, 27, 156, 0, 14, 42, 180, 0, 67, 27, 116, 92, 46, 4, 96, 79]
abbrev dktX0_tell_0 : List UInt8 := dkwX0_tell_0 ++ dktX0_tell_1
theorem dksX0_tell_0 : cX0_tell.data.toList.drop 0 = dktX0_tell_0 := by decide +kernel
theorem dksX0_tell_1 : cX0_tell.data.toList.drop 24 = dktX0_tell_1 := dk_seg dksX0_tell_0 24 rfl rfl
theorem dX0_tell_0 : decode cX0_tell 0 = .ok (.aload_n 0, 1) := dk_42 (dk_at dksX0_tell_0 0 rfl rfl)
theorem dX0_tell_1 : decode cX0_tell 1 = .ok (.iload_n 1, 1) := dk_27 (dk_at dksX0_tell_0 1 rfl rfl)
theorem dX0_tell_2 : decode cX0_tell 2 = .ok (.iconst 0, 1) := dk_3 (dk_at dksX0_tell_0 2 rfl rfl)
theorem dX0_tell_3 : decode cX0_tell 3 = .ok (.invokestatic 120, 3) := dk_184 0 120 (dk_at dksX0_tell_0 3 rfl rfl)
theorem dX0_tell_6 : decode cX0_tell 6 = .ok (.putfield 126, 3) := dk_181 0 126 (dk_at dksX0_tell_0 6 rfl rfl)
theorem dX0_tell_9 : decode cX0_tell 9 = .ok (.iload_n 1, 1) := dk_27 (dk_at dksX0_tell_0 9 rfl rfl)
theorem dX0_tell_10 : decode cX0_tell 10 = .ok (.ifCond .ge 14, 3) := dk_156 0 14 (dk_at dksX0_tell_0 10 rfl rfl)
theorem dX0_tell_13 : decode cX0_tell 13 = .ok (.aload_n 0, 1) := dk_42 (dk_at dksX0_tell_0 13 rfl rfl)
theorem dX0_tell_14 : decode cX0_tell 14 = .ok (.getfield 67, 3) := dk_180 0 67 (dk_at dksX0_tell_0 14 rfl rfl)
theorem dX0_tell_17 : decode cX0_tell 17 = .ok (.iload_n 1, 1) := dk_27 (dk_at dksX0_tell_0 17 rfl rfl)
theorem dX0_tell_18 : decode cX0_tell 18 = .ok (.ineg, 1) := dk_116 (dk_at dksX0_tell_0 18 rfl rfl)
theorem dX0_tell_19 : decode cX0_tell 19 = .ok (.dup2, 1) := dk_92 (dk_at dksX0_tell_0 19 rfl rfl)
theorem dX0_tell_20 : decode cX0_tell 20 = .ok (.iaload, 1) := dk_46 (dk_at dksX0_tell_0 20 rfl rfl)
theorem dX0_tell_21 : decode cX0_tell 21 = .ok (.iconst 1, 1) := dk_4 (dk_at dksX0_tell_0 21 rfl rfl)
theorem dX0_tell_22 : decode cX0_tell 22 = .ok (.iadd, 1) := dk_96 (dk_at dksX0_tell_0 22 rfl rfl)
theorem dX0_tell_23 : decode cX0_tell 23 = .ok (.iastore, 1) := dk_79 (dk_at dksX0_tell_0 23 rfl rfl)
theorem dX0_tell_24 : decode cX0_tell 24 = .ok (.iload_n 1, 1) := dk_27 (dk_at dksX0_tell_1 0 rfl rfl)
theorem dX0_tell_25 : decode cX0_tell 25 = .ok (.ireturn, 1) := dk_172 (dk_at dksX0_tell_1 1 rfl rfl)
abbrev cX0_of : ByteArray := prog_1_method_18_code
def yX0_of : MethodName := ⟨RX0, "of", "(II)I"⟩
def dkwX0_of_4 : List UInt8 := [2, 172]
abbrev dktX0_of_4 : List UInt8 := dkwX0_of_4 ++ []
def dkwX0_of_3 : List UInt8 := [182, 0, 175, 172, 42, 27, 182, 0, 178, 172, 42, 27, 182, 0, 181, 153, 0, 7, 4, 167, 0, 4, 3, 172]
abbrev dktX0_of_3 : List UInt8 := dkwX0_of_3 ++ dktX0_of_4
def dkwX0_of_2 : List UInt8 := [42, 182, 0, 157, 180, 0, 160, 27, 46, 172, 42, 182, 0, 157, 180, 0, 163, 27, 46, 172, 42, 27]
abbrev dktX0_of_2 : List UInt8 := dkwX0_of_2 ++ dktX0_of_3
def dkwX0_of_1 : List UInt8 := [170, 0, 0, 0, 79, 0, 0, 0, 0, 0, 0, 0, 4, 0, 0, 0, 33, 0, 0, 0, 43, 0, 0, 0, 53, 0, 0, 0, 59, 0, 0, 0, 65]
abbrev dktX0_of_1 : List UInt8 := dkwX0_of_1 ++ dktX0_of_2
def dkwX0_of_0 : List UInt8 := [42, 27, 182, 0, 172, 154, 0, 5, 2, 172, 28]
abbrev dktX0_of_0 : List UInt8 := dkwX0_of_0 ++ dktX0_of_1
theorem dksX0_of_0 : cX0_of.data.toList.drop 0 = dktX0_of_0 := by decide +kernel
theorem dksX0_of_1 : cX0_of.data.toList.drop 11 = dktX0_of_1 := dk_seg dksX0_of_0 11 rfl rfl
theorem dksX0_of_2 : cX0_of.data.toList.drop 44 = dktX0_of_2 := dk_seg dksX0_of_1 33 rfl rfl
theorem dksX0_of_3 : cX0_of.data.toList.drop 66 = dktX0_of_3 := dk_seg dksX0_of_2 22 rfl rfl
theorem dksX0_of_4 : cX0_of.data.toList.drop 90 = dktX0_of_4 := dk_seg dksX0_of_3 24 rfl rfl
theorem dX0_of_0 : decode cX0_of 0 = .ok (.aload_n 0, 1) := dk_42 (dk_at dksX0_of_0 0 rfl rfl)
theorem dX0_of_1 : decode cX0_of 1 = .ok (.iload_n 1, 1) := dk_27 (dk_at dksX0_of_0 1 rfl rfl)
theorem dX0_of_2 : decode cX0_of 2 = .ok (.invokevirtual 172, 3) := dk_182 0 172 (dk_at dksX0_of_0 2 rfl rfl)
theorem dX0_of_5 : decode cX0_of 5 = .ok (.ifCond .ne 5, 3) := dk_154 0 5 (dk_at dksX0_of_0 5 rfl rfl)
theorem dX0_of_8 : decode cX0_of 8 = .ok (.iconst (-1), 1) := dk_2 (dk_at dksX0_of_0 8 rfl rfl)
theorem dX0_of_9 : decode cX0_of 9 = .ok (.ireturn, 1) := dk_172 (dk_at dksX0_of_0 9 rfl rfl)
theorem dX0_of_10 : decode cX0_of 10 = .ok (.iload_n 2, 1) := dk_28 (dk_at dksX0_of_0 10 rfl rfl)
theorem dX0_of_11 : decode cX0_of 11 = .ok (.tableswitch 79 0 4 #[33, 43, 53, 59, 65], 33) := by decide +kernel
theorem dX0_of_44 : decode cX0_of 44 = .ok (.aload_n 0, 1) := dk_42 (dk_at dksX0_of_2 0 rfl rfl)
theorem dX0_of_45 : decode cX0_of 45 = .ok (.invokevirtual 157, 3) := dk_182 0 157 (dk_at dksX0_of_2 1 rfl rfl)
theorem dX0_of_48 : decode cX0_of 48 = .ok (.getfield 160, 3) := dk_180 0 160 (dk_at dksX0_of_2 4 rfl rfl)
theorem dX0_of_51 : decode cX0_of 51 = .ok (.iload_n 1, 1) := dk_27 (dk_at dksX0_of_2 7 rfl rfl)
theorem dX0_of_52 : decode cX0_of 52 = .ok (.iaload, 1) := dk_46 (dk_at dksX0_of_2 8 rfl rfl)
theorem dX0_of_53 : decode cX0_of 53 = .ok (.ireturn, 1) := dk_172 (dk_at dksX0_of_2 9 rfl rfl)
theorem dX0_of_54 : decode cX0_of 54 = .ok (.aload_n 0, 1) := dk_42 (dk_at dksX0_of_2 10 rfl rfl)
theorem dX0_of_55 : decode cX0_of 55 = .ok (.invokevirtual 157, 3) := dk_182 0 157 (dk_at dksX0_of_2 11 rfl rfl)
theorem dX0_of_58 : decode cX0_of 58 = .ok (.getfield 163, 3) := dk_180 0 163 (dk_at dksX0_of_2 14 rfl rfl)
theorem dX0_of_61 : decode cX0_of 61 = .ok (.iload_n 1, 1) := dk_27 (dk_at dksX0_of_2 17 rfl rfl)
theorem dX0_of_62 : decode cX0_of 62 = .ok (.iaload, 1) := dk_46 (dk_at dksX0_of_2 18 rfl rfl)
theorem dX0_of_63 : decode cX0_of 63 = .ok (.ireturn, 1) := dk_172 (dk_at dksX0_of_2 19 rfl rfl)
theorem dX0_of_64 : decode cX0_of 64 = .ok (.aload_n 0, 1) := dk_42 (dk_at dksX0_of_2 20 rfl rfl)
theorem dX0_of_65 : decode cX0_of 65 = .ok (.iload_n 1, 1) := dk_27 (dk_at dksX0_of_2 21 rfl rfl)
theorem dX0_of_66 : decode cX0_of 66 = .ok (.invokevirtual 175, 3) := dk_182 0 175 (dk_at dksX0_of_3 0 rfl rfl)
theorem dX0_of_69 : decode cX0_of 69 = .ok (.ireturn, 1) := dk_172 (dk_at dksX0_of_3 3 rfl rfl)
theorem dX0_of_70 : decode cX0_of 70 = .ok (.aload_n 0, 1) := dk_42 (dk_at dksX0_of_3 4 rfl rfl)
theorem dX0_of_71 : decode cX0_of 71 = .ok (.iload_n 1, 1) := dk_27 (dk_at dksX0_of_3 5 rfl rfl)
theorem dX0_of_72 : decode cX0_of 72 = .ok (.invokevirtual 178, 3) := dk_182 0 178 (dk_at dksX0_of_3 6 rfl rfl)
theorem dX0_of_75 : decode cX0_of 75 = .ok (.ireturn, 1) := dk_172 (dk_at dksX0_of_3 9 rfl rfl)
theorem dX0_of_76 : decode cX0_of 76 = .ok (.aload_n 0, 1) := dk_42 (dk_at dksX0_of_3 10 rfl rfl)
theorem dX0_of_77 : decode cX0_of 77 = .ok (.iload_n 1, 1) := dk_27 (dk_at dksX0_of_3 11 rfl rfl)
theorem dX0_of_78 : decode cX0_of 78 = .ok (.invokevirtual 181, 3) := dk_182 0 181 (dk_at dksX0_of_3 12 rfl rfl)
theorem dX0_of_81 : decode cX0_of 81 = .ok (.ifCond .eq 7, 3) := dk_153 0 7 (dk_at dksX0_of_3 15 rfl rfl)
theorem dX0_of_84 : decode cX0_of 84 = .ok (.iconst 1, 1) := dk_4 (dk_at dksX0_of_3 18 rfl rfl)
theorem dX0_of_85 : decode cX0_of 85 = .ok (.goto 4, 3) := dk_167 0 4 (dk_at dksX0_of_3 19 rfl rfl)
theorem dX0_of_88 : decode cX0_of 88 = .ok (.iconst 0, 1) := dk_3 (dk_at dksX0_of_3 22 rfl rfl)
theorem dX0_of_89 : decode cX0_of 89 = .ok (.ireturn, 1) := dk_172 (dk_at dksX0_of_3 23 rfl rfl)
theorem dX0_of_90 : decode cX0_of 90 = .ok (.iconst (-1), 1) := dk_2 (dk_at dksX0_of_4 0 rfl rfl)
theorem dX0_of_91 : decode cX0_of 91 = .ok (.ireturn, 1) := dk_172 (dk_at dksX0_of_4 1 rfl rfl)
abbrev cX0_isNote : ByteArray := prog_1_method_10_code
def yX0_isNote : MethodName := ⟨RX0, "isNote", "(I)Z"⟩
def dkwX0_isNote_0 : List UInt8 := [27, 133, 9, 42, 182, 0, 142, 4, 100, 133, 184, 0, 5, 172]
abbrev dktX0_isNote_0 : List UInt8 := dkwX0_isNote_0 ++ []
theorem dksX0_isNote_0 : cX0_isNote.data.toList.drop 0 = dktX0_isNote_0 := by decide +kernel
theorem dX0_isNote_0 : decode cX0_isNote 0 = .ok (.iload_n 1, 1) := dk_27 (dk_at dksX0_isNote_0 0 rfl rfl)
theorem dX0_isNote_1 : decode cX0_isNote 1 = .ok (.i2l, 1) := dk_133 (dk_at dksX0_isNote_0 1 rfl rfl)
theorem dX0_isNote_2 : decode cX0_isNote 2 = .ok (.lconst 0, 1) := dk_9 (dk_at dksX0_isNote_0 2 rfl rfl)
theorem dX0_isNote_3 : decode cX0_isNote 3 = .ok (.aload_n 0, 1) := dk_42 (dk_at dksX0_isNote_0 3 rfl rfl)
theorem dX0_isNote_4 : decode cX0_isNote 4 = .ok (.invokevirtual 142, 3) := dk_182 0 142 (dk_at dksX0_isNote_0 4 rfl rfl)
theorem dX0_isNote_7 : decode cX0_isNote 7 = .ok (.iconst 1, 1) := dk_4 (dk_at dksX0_isNote_0 7 rfl rfl)
theorem dX0_isNote_8 : decode cX0_isNote 8 = .ok (.isub, 1) := dk_100 (dk_at dksX0_isNote_0 8 rfl rfl)
theorem dX0_isNote_9 : decode cX0_isNote 9 = .ok (.i2l, 1) := dk_133 (dk_at dksX0_isNote_0 9 rfl rfl)
theorem dX0_isNote_10 : decode cX0_isNote 10 = .ok (.invokestatic 5, 3) := dk_184 0 5 (dk_at dksX0_isNote_0 10 rfl rfl)
theorem dX0_isNote_13 : decode cX0_isNote 13 = .ok (.ireturn, 1) := dk_172 (dk_at dksX0_isNote_0 13 rfl rfl)
abbrev cX0_costsHere : ByteArray := prog_1_method_38_code
def yX0_costsHere : MethodName := ⟨RX0, "costsHere", "(I)I"⟩
def dkwX0_costsHere_0 : List UInt8 := [42, 27, 42, 182, 0, 157, 180, 0, 163, 27, 46, 42, 27, 182, 1, 30, 182, 1, 33, 172]
abbrev dktX0_costsHere_0 : List UInt8 := dkwX0_costsHere_0 ++ []
theorem dksX0_costsHere_0 : cX0_costsHere.data.toList.drop 0 = dktX0_costsHere_0 := by decide +kernel
theorem dX0_costsHere_0 : decode cX0_costsHere 0 = .ok (.aload_n 0, 1) := dk_42 (dk_at dksX0_costsHere_0 0 rfl rfl)
theorem dX0_costsHere_1 : decode cX0_costsHere 1 = .ok (.iload_n 1, 1) := dk_27 (dk_at dksX0_costsHere_0 1 rfl rfl)
theorem dX0_costsHere_2 : decode cX0_costsHere 2 = .ok (.aload_n 0, 1) := dk_42 (dk_at dksX0_costsHere_0 2 rfl rfl)
theorem dX0_costsHere_3 : decode cX0_costsHere 3 = .ok (.invokevirtual 157, 3) := dk_182 0 157 (dk_at dksX0_costsHere_0 3 rfl rfl)
theorem dX0_costsHere_6 : decode cX0_costsHere 6 = .ok (.getfield 163, 3) := dk_180 0 163 (dk_at dksX0_costsHere_0 6 rfl rfl)
theorem dX0_costsHere_9 : decode cX0_costsHere 9 = .ok (.iload_n 1, 1) := dk_27 (dk_at dksX0_costsHere_0 9 rfl rfl)
theorem dX0_costsHere_10 : decode cX0_costsHere 10 = .ok (.iaload, 1) := dk_46 (dk_at dksX0_costsHere_0 10 rfl rfl)
theorem dX0_costsHere_11 : decode cX0_costsHere 11 = .ok (.aload_n 0, 1) := dk_42 (dk_at dksX0_costsHere_0 11 rfl rfl)
theorem dX0_costsHere_12 : decode cX0_costsHere 12 = .ok (.iload_n 1, 1) := dk_27 (dk_at dksX0_costsHere_0 12 rfl rfl)
theorem dX0_costsHere_13 : decode cX0_costsHere 13 = .ok (.invokevirtual 286, 3) := dk_182 1 30 (dk_at dksX0_costsHere_0 13 rfl rfl)
theorem dX0_costsHere_16 : decode cX0_costsHere 16 = .ok (.invokevirtual 289, 3) := dk_182 1 33 (dk_at dksX0_costsHere_0 16 rfl rfl)
theorem dX0_costsHere_19 : decode cX0_costsHere 19 = .ok (.ireturn, 1) := dk_172 (dk_at dksX0_costsHere_0 19 rfl rfl)
abbrev cX0_beforeOf : ByteArray := prog_1_method_37_code
def yX0_beforeOf : MethodName := ⟨RX0, "beforeOf", "(I)I"⟩
def dkwX0_beforeOf_0 : List UInt8 := [27, 154, 0, 7, 2, 167, 0, 14, 42, 182, 0, 157, 180, 0, 163, 27, 4, 100, 46, 172]
abbrev dktX0_beforeOf_0 : List UInt8 := dkwX0_beforeOf_0 ++ []
theorem dksX0_beforeOf_0 : cX0_beforeOf.data.toList.drop 0 = dktX0_beforeOf_0 := by decide +kernel
theorem dX0_beforeOf_0 : decode cX0_beforeOf 0 = .ok (.iload_n 1, 1) := dk_27 (dk_at dksX0_beforeOf_0 0 rfl rfl)
theorem dX0_beforeOf_1 : decode cX0_beforeOf 1 = .ok (.ifCond .ne 7, 3) := dk_154 0 7 (dk_at dksX0_beforeOf_0 1 rfl rfl)
theorem dX0_beforeOf_4 : decode cX0_beforeOf 4 = .ok (.iconst (-1), 1) := dk_2 (dk_at dksX0_beforeOf_0 4 rfl rfl)
theorem dX0_beforeOf_5 : decode cX0_beforeOf 5 = .ok (.goto 14, 3) := dk_167 0 14 (dk_at dksX0_beforeOf_0 5 rfl rfl)
theorem dX0_beforeOf_8 : decode cX0_beforeOf 8 = .ok (.aload_n 0, 1) := dk_42 (dk_at dksX0_beforeOf_0 8 rfl rfl)
theorem dX0_beforeOf_9 : decode cX0_beforeOf 9 = .ok (.invokevirtual 157, 3) := dk_182 0 157 (dk_at dksX0_beforeOf_0 9 rfl rfl)
theorem dX0_beforeOf_12 : decode cX0_beforeOf 12 = .ok (.getfield 163, 3) := dk_180 0 163 (dk_at dksX0_beforeOf_0 12 rfl rfl)
theorem dX0_beforeOf_15 : decode cX0_beforeOf 15 = .ok (.iload_n 1, 1) := dk_27 (dk_at dksX0_beforeOf_0 15 rfl rfl)
theorem dX0_beforeOf_16 : decode cX0_beforeOf 16 = .ok (.iconst 1, 1) := dk_4 (dk_at dksX0_beforeOf_0 16 rfl rfl)
theorem dX0_beforeOf_17 : decode cX0_beforeOf 17 = .ok (.isub, 1) := dk_100 (dk_at dksX0_beforeOf_0 17 rfl rfl)
theorem dX0_beforeOf_18 : decode cX0_beforeOf 18 = .ok (.iaload, 1) := dk_46 (dk_at dksX0_beforeOf_0 18 rfl rfl)
theorem dX0_beforeOf_19 : decode cX0_beforeOf 19 = .ok (.ireturn, 1) := dk_172 (dk_at dksX0_beforeOf_0 19 rfl rfl)
abbrev cX0_costs : ByteArray := prog_1_method_34_code
def yX0_costs : MethodName := ⟨RX0, "costs", "(III)I"⟩
def dkwX0_costs_1 : List UInt8 := [167, 0, 9, 28, 29, 100, 184, 1, 19, 17, 3, 231, 182, 1, 22, 172]
abbrev dktX0_costs_1 : List UInt8 := dkwX0_costs_1 ++ []
def dkwX0_costs_0 : List UInt8 := [42, 27, 28, 29, 182, 1, 12, 42, 182, 1, 16, 3, 42, 180, 0, 49, 29, 2, 160, 0, 7, 3]
abbrev dktX0_costs_0 : List UInt8 := dkwX0_costs_0 ++ dktX0_costs_1
theorem dksX0_costs_0 : cX0_costs.data.toList.drop 0 = dktX0_costs_0 := by decide +kernel
theorem dksX0_costs_1 : cX0_costs.data.toList.drop 22 = dktX0_costs_1 := dk_seg dksX0_costs_0 22 rfl rfl
theorem dX0_costs_0 : decode cX0_costs 0 = .ok (.aload_n 0, 1) := dk_42 (dk_at dksX0_costs_0 0 rfl rfl)
theorem dX0_costs_1 : decode cX0_costs 1 = .ok (.iload_n 1, 1) := dk_27 (dk_at dksX0_costs_0 1 rfl rfl)
theorem dX0_costs_2 : decode cX0_costs 2 = .ok (.iload_n 2, 1) := dk_28 (dk_at dksX0_costs_0 2 rfl rfl)
theorem dX0_costs_3 : decode cX0_costs 3 = .ok (.iload_n 3, 1) := dk_29 (dk_at dksX0_costs_0 3 rfl rfl)
theorem dX0_costs_4 : decode cX0_costs 4 = .ok (.invokevirtual 268, 3) := dk_182 1 12 (dk_at dksX0_costs_0 4 rfl rfl)
theorem dX0_costs_7 : decode cX0_costs 7 = .ok (.aload_n 0, 1) := dk_42 (dk_at dksX0_costs_0 7 rfl rfl)
theorem dX0_costs_8 : decode cX0_costs 8 = .ok (.invokevirtual 272, 3) := dk_182 1 16 (dk_at dksX0_costs_0 8 rfl rfl)
theorem dX0_costs_11 : decode cX0_costs 11 = .ok (.iconst 0, 1) := dk_3 (dk_at dksX0_costs_0 11 rfl rfl)
theorem dX0_costs_12 : decode cX0_costs 12 = .ok (.aload_n 0, 1) := dk_42 (dk_at dksX0_costs_0 12 rfl rfl)
theorem dX0_costs_13 : decode cX0_costs 13 = .ok (.getfield 49, 3) := dk_180 0 49 (dk_at dksX0_costs_0 13 rfl rfl)
theorem dX0_costs_16 : decode cX0_costs 16 = .ok (.iload_n 3, 1) := dk_29 (dk_at dksX0_costs_0 16 rfl rfl)
theorem dX0_costs_17 : decode cX0_costs 17 = .ok (.iconst (-1), 1) := dk_2 (dk_at dksX0_costs_0 17 rfl rfl)
theorem dX0_costs_18 : decode cX0_costs 18 = .ok (.if_icmp .ne 7, 3) := dk_160 0 7 (dk_at dksX0_costs_0 18 rfl rfl)
theorem dX0_costs_21 : decode cX0_costs 21 = .ok (.iconst 0, 1) := dk_3 (dk_at dksX0_costs_0 21 rfl rfl)
theorem dX0_costs_22 : decode cX0_costs 22 = .ok (.goto 9, 3) := dk_167 0 9 (dk_at dksX0_costs_1 0 rfl rfl)
theorem dX0_costs_25 : decode cX0_costs 25 = .ok (.iload_n 2, 1) := dk_28 (dk_at dksX0_costs_1 3 rfl rfl)
theorem dX0_costs_26 : decode cX0_costs 26 = .ok (.iload_n 3, 1) := dk_29 (dk_at dksX0_costs_1 4 rfl rfl)
theorem dX0_costs_27 : decode cX0_costs 27 = .ok (.isub, 1) := dk_100 (dk_at dksX0_costs_1 5 rfl rfl)
theorem dX0_costs_28 : decode cX0_costs 28 = .ok (.invokestatic 275, 3) := dk_184 1 19 (dk_at dksX0_costs_1 6 rfl rfl)
theorem dX0_costs_31 : decode cX0_costs 31 = .ok (.sipush 999, 3) := dk_17 3 231 (dk_at dksX0_costs_1 9 rfl rfl)
theorem dX0_costs_34 : decode cX0_costs 34 = .ok (.invokevirtual 278, 3) := dk_182 1 22 (dk_at dksX0_costs_1 12 rfl rfl)
theorem dX0_costs_37 : decode cX0_costs 37 = .ok (.ireturn, 1) := dk_172 (dk_at dksX0_costs_1 15 rfl rfl)
abbrev cX0_about : ByteArray := prog_1_method_33_code
def yX0_about : MethodName := ⟨RX0, "about", "(III)V"⟩
def dkwX0_about_10 : List UInt8 := [80, 177]
abbrev dktX0_about_10 : List UInt8 := dkwX0_about_10 ++ []
def dkwX0_about_9 : List UInt8 := [180, 0, 196, 133, 80, 42, 180, 0, 49, 180, 1, 8, 16, 9, 42, 180, 0, 18, 180, 0, 199, 5, 46, 133]
abbrev dktX0_about_9 : List UInt8 := dkwX0_about_9 ++ dktX0_about_10
def dkwX0_about_8 : List UInt8 := [160, 0, 7, 10, 167, 0, 4, 9, 80, 42, 180, 0, 49, 180, 1, 8, 16, 8, 42, 182, 0, 157]
abbrev dktX0_about_8 : List UInt8 := dkwX0_about_8 ++ dktX0_about_9
def dkwX0_about_7 : List UInt8 := [4, 100, 46, 100, 133, 80, 42, 180, 0, 49, 180, 1, 8, 16, 7, 27, 42, 182, 0, 142, 4, 100]
abbrev dktX0_about_7 : List UInt8 := dkwX0_about_7 ++ dktX0_about_8
def dkwX0_about_6 : List UInt8 := [153, 0, 7, 9, 167, 0, 25, 42, 182, 0, 157, 180, 0, 160, 27, 46, 42, 182, 0, 157, 180, 0, 160, 27]
abbrev dktX0_about_6 : List UInt8 := dkwX0_about_6 ++ dktX0_about_7
def dkwX0_about_5 : List UInt8 := [153, 0, 7, 9, 167, 0, 7, 28, 29, 100, 133, 80, 42, 180, 0, 49, 180, 1, 8, 16, 6, 21, 4]
abbrev dktX0_about_5 : List UInt8 := dkwX0_about_5 ++ dktX0_about_6
def dkwX0_about_4 : List UInt8 := [182, 0, 157, 180, 0, 160, 27, 4, 100, 46, 100, 133, 80, 42, 180, 0, 49, 180, 1, 8, 8, 21, 4]
abbrev dktX0_about_4 : List UInt8 := dkwX0_about_4 ++ dktX0_about_5
def dkwX0_about_3 : List UInt8 := [46, 100, 133, 80, 42, 180, 0, 49, 180, 1, 8, 7, 21, 4, 153, 0, 7, 9, 167, 0, 17, 29, 42]
abbrev dktX0_about_3 : List UInt8 := dkwX0_about_3 ++ dktX0_about_4
def dkwX0_about_2 : List UInt8 := [180, 0, 160, 27, 46, 133, 80, 42, 180, 0, 49, 180, 1, 8, 6, 28, 42, 182, 0, 157, 180, 0, 160, 27]
abbrev dktX0_about_2 : List UInt8 := dkwX0_about_2 ++ dktX0_about_3
def dkwX0_about_1 : List UInt8 := [180, 0, 49, 180, 1, 8, 4, 28, 133, 80, 42, 180, 0, 49, 180, 1, 8, 5, 42, 182, 0, 157]
abbrev dktX0_about_1 : List UInt8 := dkwX0_about_1 ++ dktX0_about_2
def dkwX0_about_0 : List UInt8 := [29, 2, 160, 0, 7, 4, 167, 0, 4, 3, 54, 4, 42, 180, 0, 49, 180, 1, 8, 3, 27, 133, 80, 42]
abbrev dktX0_about_0 : List UInt8 := dkwX0_about_0 ++ dktX0_about_1
theorem dksX0_about_0 : cX0_about.data.toList.drop 0 = dktX0_about_0 := by decide +kernel
theorem dksX0_about_1 : cX0_about.data.toList.drop 24 = dktX0_about_1 := dk_seg dksX0_about_0 24 rfl rfl
theorem dksX0_about_2 : cX0_about.data.toList.drop 46 = dktX0_about_2 := dk_seg dksX0_about_1 22 rfl rfl
theorem dksX0_about_3 : cX0_about.data.toList.drop 70 = dktX0_about_3 := dk_seg dksX0_about_2 24 rfl rfl
theorem dksX0_about_4 : cX0_about.data.toList.drop 93 = dktX0_about_4 := dk_seg dksX0_about_3 23 rfl rfl
theorem dksX0_about_5 : cX0_about.data.toList.drop 116 = dktX0_about_5 := dk_seg dksX0_about_4 23 rfl rfl
theorem dksX0_about_6 : cX0_about.data.toList.drop 139 = dktX0_about_6 := dk_seg dksX0_about_5 23 rfl rfl
theorem dksX0_about_7 : cX0_about.data.toList.drop 163 = dktX0_about_7 := dk_seg dksX0_about_6 24 rfl rfl
theorem dksX0_about_8 : cX0_about.data.toList.drop 185 = dktX0_about_8 := dk_seg dksX0_about_7 22 rfl rfl
theorem dksX0_about_9 : cX0_about.data.toList.drop 207 = dktX0_about_9 := dk_seg dksX0_about_8 22 rfl rfl
theorem dksX0_about_10 : cX0_about.data.toList.drop 231 = dktX0_about_10 := dk_seg dksX0_about_9 24 rfl rfl
theorem dX0_about_0 : decode cX0_about 0 = .ok (.iload_n 3, 1) := dk_29 (dk_at dksX0_about_0 0 rfl rfl)
theorem dX0_about_1 : decode cX0_about 1 = .ok (.iconst (-1), 1) := dk_2 (dk_at dksX0_about_0 1 rfl rfl)
theorem dX0_about_2 : decode cX0_about 2 = .ok (.if_icmp .ne 7, 3) := dk_160 0 7 (dk_at dksX0_about_0 2 rfl rfl)
theorem dX0_about_5 : decode cX0_about 5 = .ok (.iconst 1, 1) := dk_4 (dk_at dksX0_about_0 5 rfl rfl)
theorem dX0_about_6 : decode cX0_about 6 = .ok (.goto 4, 3) := dk_167 0 4 (dk_at dksX0_about_0 6 rfl rfl)
theorem dX0_about_9 : decode cX0_about 9 = .ok (.iconst 0, 1) := dk_3 (dk_at dksX0_about_0 9 rfl rfl)
theorem dX0_about_10 : decode cX0_about 10 = .ok (.istore 4, 2) := dk_54 4 (dk_at dksX0_about_0 10 rfl rfl)
theorem dX0_about_12 : decode cX0_about 12 = .ok (.aload_n 0, 1) := dk_42 (dk_at dksX0_about_0 12 rfl rfl)
theorem dX0_about_13 : decode cX0_about 13 = .ok (.getfield 49, 3) := dk_180 0 49 (dk_at dksX0_about_0 13 rfl rfl)
theorem dX0_about_16 : decode cX0_about 16 = .ok (.getfield 264, 3) := dk_180 1 8 (dk_at dksX0_about_0 16 rfl rfl)
theorem dX0_about_19 : decode cX0_about 19 = .ok (.iconst 0, 1) := dk_3 (dk_at dksX0_about_0 19 rfl rfl)
theorem dX0_about_20 : decode cX0_about 20 = .ok (.iload_n 1, 1) := dk_27 (dk_at dksX0_about_0 20 rfl rfl)
theorem dX0_about_21 : decode cX0_about 21 = .ok (.i2l, 1) := dk_133 (dk_at dksX0_about_0 21 rfl rfl)
theorem dX0_about_22 : decode cX0_about 22 = .ok (.lastore, 1) := dk_80 (dk_at dksX0_about_0 22 rfl rfl)
theorem dX0_about_23 : decode cX0_about 23 = .ok (.aload_n 0, 1) := dk_42 (dk_at dksX0_about_0 23 rfl rfl)
theorem dX0_about_24 : decode cX0_about 24 = .ok (.getfield 49, 3) := dk_180 0 49 (dk_at dksX0_about_1 0 rfl rfl)
theorem dX0_about_27 : decode cX0_about 27 = .ok (.getfield 264, 3) := dk_180 1 8 (dk_at dksX0_about_1 3 rfl rfl)
theorem dX0_about_30 : decode cX0_about 30 = .ok (.iconst 1, 1) := dk_4 (dk_at dksX0_about_1 6 rfl rfl)
theorem dX0_about_31 : decode cX0_about 31 = .ok (.iload_n 2, 1) := dk_28 (dk_at dksX0_about_1 7 rfl rfl)
theorem dX0_about_32 : decode cX0_about 32 = .ok (.i2l, 1) := dk_133 (dk_at dksX0_about_1 8 rfl rfl)
theorem dX0_about_33 : decode cX0_about 33 = .ok (.lastore, 1) := dk_80 (dk_at dksX0_about_1 9 rfl rfl)
theorem dX0_about_34 : decode cX0_about 34 = .ok (.aload_n 0, 1) := dk_42 (dk_at dksX0_about_1 10 rfl rfl)
theorem dX0_about_35 : decode cX0_about 35 = .ok (.getfield 49, 3) := dk_180 0 49 (dk_at dksX0_about_1 11 rfl rfl)
theorem dX0_about_38 : decode cX0_about 38 = .ok (.getfield 264, 3) := dk_180 1 8 (dk_at dksX0_about_1 14 rfl rfl)
theorem dX0_about_41 : decode cX0_about 41 = .ok (.iconst 2, 1) := dk_5 (dk_at dksX0_about_1 17 rfl rfl)
theorem dX0_about_42 : decode cX0_about 42 = .ok (.aload_n 0, 1) := dk_42 (dk_at dksX0_about_1 18 rfl rfl)
theorem dX0_about_43 : decode cX0_about 43 = .ok (.invokevirtual 157, 3) := dk_182 0 157 (dk_at dksX0_about_1 19 rfl rfl)
theorem dX0_about_46 : decode cX0_about 46 = .ok (.getfield 160, 3) := dk_180 0 160 (dk_at dksX0_about_2 0 rfl rfl)
theorem dX0_about_49 : decode cX0_about 49 = .ok (.iload_n 1, 1) := dk_27 (dk_at dksX0_about_2 3 rfl rfl)
theorem dX0_about_50 : decode cX0_about 50 = .ok (.iaload, 1) := dk_46 (dk_at dksX0_about_2 4 rfl rfl)
theorem dX0_about_51 : decode cX0_about 51 = .ok (.i2l, 1) := dk_133 (dk_at dksX0_about_2 5 rfl rfl)
theorem dX0_about_52 : decode cX0_about 52 = .ok (.lastore, 1) := dk_80 (dk_at dksX0_about_2 6 rfl rfl)
theorem dX0_about_53 : decode cX0_about 53 = .ok (.aload_n 0, 1) := dk_42 (dk_at dksX0_about_2 7 rfl rfl)
theorem dX0_about_54 : decode cX0_about 54 = .ok (.getfield 49, 3) := dk_180 0 49 (dk_at dksX0_about_2 8 rfl rfl)
theorem dX0_about_57 : decode cX0_about 57 = .ok (.getfield 264, 3) := dk_180 1 8 (dk_at dksX0_about_2 11 rfl rfl)
theorem dX0_about_60 : decode cX0_about 60 = .ok (.iconst 3, 1) := dk_6 (dk_at dksX0_about_2 14 rfl rfl)
theorem dX0_about_61 : decode cX0_about 61 = .ok (.iload_n 2, 1) := dk_28 (dk_at dksX0_about_2 15 rfl rfl)
theorem dX0_about_62 : decode cX0_about 62 = .ok (.aload_n 0, 1) := dk_42 (dk_at dksX0_about_2 16 rfl rfl)
theorem dX0_about_63 : decode cX0_about 63 = .ok (.invokevirtual 157, 3) := dk_182 0 157 (dk_at dksX0_about_2 17 rfl rfl)
theorem dX0_about_66 : decode cX0_about 66 = .ok (.getfield 160, 3) := dk_180 0 160 (dk_at dksX0_about_2 20 rfl rfl)
theorem dX0_about_69 : decode cX0_about 69 = .ok (.iload_n 1, 1) := dk_27 (dk_at dksX0_about_2 23 rfl rfl)
theorem dX0_about_70 : decode cX0_about 70 = .ok (.iaload, 1) := dk_46 (dk_at dksX0_about_3 0 rfl rfl)
theorem dX0_about_71 : decode cX0_about 71 = .ok (.isub, 1) := dk_100 (dk_at dksX0_about_3 1 rfl rfl)
theorem dX0_about_72 : decode cX0_about 72 = .ok (.i2l, 1) := dk_133 (dk_at dksX0_about_3 2 rfl rfl)
theorem dX0_about_73 : decode cX0_about 73 = .ok (.lastore, 1) := dk_80 (dk_at dksX0_about_3 3 rfl rfl)
theorem dX0_about_74 : decode cX0_about 74 = .ok (.aload_n 0, 1) := dk_42 (dk_at dksX0_about_3 4 rfl rfl)
theorem dX0_about_75 : decode cX0_about 75 = .ok (.getfield 49, 3) := dk_180 0 49 (dk_at dksX0_about_3 5 rfl rfl)
theorem dX0_about_78 : decode cX0_about 78 = .ok (.getfield 264, 3) := dk_180 1 8 (dk_at dksX0_about_3 8 rfl rfl)
theorem dX0_about_81 : decode cX0_about 81 = .ok (.iconst 4, 1) := dk_7 (dk_at dksX0_about_3 11 rfl rfl)
theorem dX0_about_82 : decode cX0_about 82 = .ok (.iload 4, 2) := dk_21 4 (dk_at dksX0_about_3 12 rfl rfl)
theorem dX0_about_84 : decode cX0_about 84 = .ok (.ifCond .eq 7, 3) := dk_153 0 7 (dk_at dksX0_about_3 14 rfl rfl)
theorem dX0_about_87 : decode cX0_about 87 = .ok (.lconst 0, 1) := dk_9 (dk_at dksX0_about_3 17 rfl rfl)
theorem dX0_about_88 : decode cX0_about 88 = .ok (.goto 17, 3) := dk_167 0 17 (dk_at dksX0_about_3 18 rfl rfl)
theorem dX0_about_91 : decode cX0_about 91 = .ok (.iload_n 3, 1) := dk_29 (dk_at dksX0_about_3 21 rfl rfl)
theorem dX0_about_92 : decode cX0_about 92 = .ok (.aload_n 0, 1) := dk_42 (dk_at dksX0_about_3 22 rfl rfl)
theorem dX0_about_93 : decode cX0_about 93 = .ok (.invokevirtual 157, 3) := dk_182 0 157 (dk_at dksX0_about_4 0 rfl rfl)
theorem dX0_about_96 : decode cX0_about 96 = .ok (.getfield 160, 3) := dk_180 0 160 (dk_at dksX0_about_4 3 rfl rfl)
theorem dX0_about_99 : decode cX0_about 99 = .ok (.iload_n 1, 1) := dk_27 (dk_at dksX0_about_4 6 rfl rfl)
theorem dX0_about_100 : decode cX0_about 100 = .ok (.iconst 1, 1) := dk_4 (dk_at dksX0_about_4 7 rfl rfl)
theorem dX0_about_101 : decode cX0_about 101 = .ok (.isub, 1) := dk_100 (dk_at dksX0_about_4 8 rfl rfl)
theorem dX0_about_102 : decode cX0_about 102 = .ok (.iaload, 1) := dk_46 (dk_at dksX0_about_4 9 rfl rfl)
theorem dX0_about_103 : decode cX0_about 103 = .ok (.isub, 1) := dk_100 (dk_at dksX0_about_4 10 rfl rfl)
theorem dX0_about_104 : decode cX0_about 104 = .ok (.i2l, 1) := dk_133 (dk_at dksX0_about_4 11 rfl rfl)
theorem dX0_about_105 : decode cX0_about 105 = .ok (.lastore, 1) := dk_80 (dk_at dksX0_about_4 12 rfl rfl)
theorem dX0_about_106 : decode cX0_about 106 = .ok (.aload_n 0, 1) := dk_42 (dk_at dksX0_about_4 13 rfl rfl)
theorem dX0_about_107 : decode cX0_about 107 = .ok (.getfield 49, 3) := dk_180 0 49 (dk_at dksX0_about_4 14 rfl rfl)
theorem dX0_about_110 : decode cX0_about 110 = .ok (.getfield 264, 3) := dk_180 1 8 (dk_at dksX0_about_4 17 rfl rfl)
theorem dX0_about_113 : decode cX0_about 113 = .ok (.iconst 5, 1) := dk_8 (dk_at dksX0_about_4 20 rfl rfl)
theorem dX0_about_114 : decode cX0_about 114 = .ok (.iload 4, 2) := dk_21 4 (dk_at dksX0_about_4 21 rfl rfl)
theorem dX0_about_116 : decode cX0_about 116 = .ok (.ifCond .eq 7, 3) := dk_153 0 7 (dk_at dksX0_about_5 0 rfl rfl)
theorem dX0_about_119 : decode cX0_about 119 = .ok (.lconst 0, 1) := dk_9 (dk_at dksX0_about_5 3 rfl rfl)
theorem dX0_about_120 : decode cX0_about 120 = .ok (.goto 7, 3) := dk_167 0 7 (dk_at dksX0_about_5 4 rfl rfl)
theorem dX0_about_123 : decode cX0_about 123 = .ok (.iload_n 2, 1) := dk_28 (dk_at dksX0_about_5 7 rfl rfl)
theorem dX0_about_124 : decode cX0_about 124 = .ok (.iload_n 3, 1) := dk_29 (dk_at dksX0_about_5 8 rfl rfl)
theorem dX0_about_125 : decode cX0_about 125 = .ok (.isub, 1) := dk_100 (dk_at dksX0_about_5 9 rfl rfl)
theorem dX0_about_126 : decode cX0_about 126 = .ok (.i2l, 1) := dk_133 (dk_at dksX0_about_5 10 rfl rfl)
theorem dX0_about_127 : decode cX0_about 127 = .ok (.lastore, 1) := dk_80 (dk_at dksX0_about_5 11 rfl rfl)
theorem dX0_about_128 : decode cX0_about 128 = .ok (.aload_n 0, 1) := dk_42 (dk_at dksX0_about_5 12 rfl rfl)
theorem dX0_about_129 : decode cX0_about 129 = .ok (.getfield 49, 3) := dk_180 0 49 (dk_at dksX0_about_5 13 rfl rfl)
theorem dX0_about_132 : decode cX0_about 132 = .ok (.getfield 264, 3) := dk_180 1 8 (dk_at dksX0_about_5 16 rfl rfl)
theorem dX0_about_135 : decode cX0_about 135 = .ok (.bipush 6, 2) := dk_16 6 (dk_at dksX0_about_5 19 rfl rfl)
theorem dX0_about_137 : decode cX0_about 137 = .ok (.iload 4, 2) := dk_21 4 (dk_at dksX0_about_5 21 rfl rfl)
theorem dX0_about_139 : decode cX0_about 139 = .ok (.ifCond .eq 7, 3) := dk_153 0 7 (dk_at dksX0_about_6 0 rfl rfl)
theorem dX0_about_142 : decode cX0_about 142 = .ok (.lconst 0, 1) := dk_9 (dk_at dksX0_about_6 3 rfl rfl)
theorem dX0_about_143 : decode cX0_about 143 = .ok (.goto 25, 3) := dk_167 0 25 (dk_at dksX0_about_6 4 rfl rfl)
theorem dX0_about_146 : decode cX0_about 146 = .ok (.aload_n 0, 1) := dk_42 (dk_at dksX0_about_6 7 rfl rfl)
theorem dX0_about_147 : decode cX0_about 147 = .ok (.invokevirtual 157, 3) := dk_182 0 157 (dk_at dksX0_about_6 8 rfl rfl)
theorem dX0_about_150 : decode cX0_about 150 = .ok (.getfield 160, 3) := dk_180 0 160 (dk_at dksX0_about_6 11 rfl rfl)
theorem dX0_about_153 : decode cX0_about 153 = .ok (.iload_n 1, 1) := dk_27 (dk_at dksX0_about_6 14 rfl rfl)
theorem dX0_about_154 : decode cX0_about 154 = .ok (.iaload, 1) := dk_46 (dk_at dksX0_about_6 15 rfl rfl)
theorem dX0_about_155 : decode cX0_about 155 = .ok (.aload_n 0, 1) := dk_42 (dk_at dksX0_about_6 16 rfl rfl)
theorem dX0_about_156 : decode cX0_about 156 = .ok (.invokevirtual 157, 3) := dk_182 0 157 (dk_at dksX0_about_6 17 rfl rfl)
theorem dX0_about_159 : decode cX0_about 159 = .ok (.getfield 160, 3) := dk_180 0 160 (dk_at dksX0_about_6 20 rfl rfl)
theorem dX0_about_162 : decode cX0_about 162 = .ok (.iload_n 1, 1) := dk_27 (dk_at dksX0_about_6 23 rfl rfl)
theorem dX0_about_163 : decode cX0_about 163 = .ok (.iconst 1, 1) := dk_4 (dk_at dksX0_about_7 0 rfl rfl)
theorem dX0_about_164 : decode cX0_about 164 = .ok (.isub, 1) := dk_100 (dk_at dksX0_about_7 1 rfl rfl)
theorem dX0_about_165 : decode cX0_about 165 = .ok (.iaload, 1) := dk_46 (dk_at dksX0_about_7 2 rfl rfl)
theorem dX0_about_166 : decode cX0_about 166 = .ok (.isub, 1) := dk_100 (dk_at dksX0_about_7 3 rfl rfl)
theorem dX0_about_167 : decode cX0_about 167 = .ok (.i2l, 1) := dk_133 (dk_at dksX0_about_7 4 rfl rfl)
theorem dX0_about_168 : decode cX0_about 168 = .ok (.lastore, 1) := dk_80 (dk_at dksX0_about_7 5 rfl rfl)
theorem dX0_about_169 : decode cX0_about 169 = .ok (.aload_n 0, 1) := dk_42 (dk_at dksX0_about_7 6 rfl rfl)
theorem dX0_about_170 : decode cX0_about 170 = .ok (.getfield 49, 3) := dk_180 0 49 (dk_at dksX0_about_7 7 rfl rfl)
theorem dX0_about_173 : decode cX0_about 173 = .ok (.getfield 264, 3) := dk_180 1 8 (dk_at dksX0_about_7 10 rfl rfl)
theorem dX0_about_176 : decode cX0_about 176 = .ok (.bipush 7, 2) := dk_16 7 (dk_at dksX0_about_7 13 rfl rfl)
theorem dX0_about_178 : decode cX0_about 178 = .ok (.iload_n 1, 1) := dk_27 (dk_at dksX0_about_7 15 rfl rfl)
theorem dX0_about_179 : decode cX0_about 179 = .ok (.aload_n 0, 1) := dk_42 (dk_at dksX0_about_7 16 rfl rfl)
theorem dX0_about_180 : decode cX0_about 180 = .ok (.invokevirtual 142, 3) := dk_182 0 142 (dk_at dksX0_about_7 17 rfl rfl)
theorem dX0_about_183 : decode cX0_about 183 = .ok (.iconst 1, 1) := dk_4 (dk_at dksX0_about_7 20 rfl rfl)
theorem dX0_about_184 : decode cX0_about 184 = .ok (.isub, 1) := dk_100 (dk_at dksX0_about_7 21 rfl rfl)
theorem dX0_about_185 : decode cX0_about 185 = .ok (.if_icmp .ne 7, 3) := dk_160 0 7 (dk_at dksX0_about_8 0 rfl rfl)
theorem dX0_about_188 : decode cX0_about 188 = .ok (.lconst 1, 1) := dk_10 (dk_at dksX0_about_8 3 rfl rfl)
theorem dX0_about_189 : decode cX0_about 189 = .ok (.goto 4, 3) := dk_167 0 4 (dk_at dksX0_about_8 4 rfl rfl)
theorem dX0_about_192 : decode cX0_about 192 = .ok (.lconst 0, 1) := dk_9 (dk_at dksX0_about_8 7 rfl rfl)
theorem dX0_about_193 : decode cX0_about 193 = .ok (.lastore, 1) := dk_80 (dk_at dksX0_about_8 8 rfl rfl)
theorem dX0_about_194 : decode cX0_about 194 = .ok (.aload_n 0, 1) := dk_42 (dk_at dksX0_about_8 9 rfl rfl)
theorem dX0_about_195 : decode cX0_about 195 = .ok (.getfield 49, 3) := dk_180 0 49 (dk_at dksX0_about_8 10 rfl rfl)
theorem dX0_about_198 : decode cX0_about 198 = .ok (.getfield 264, 3) := dk_180 1 8 (dk_at dksX0_about_8 13 rfl rfl)
theorem dX0_about_201 : decode cX0_about 201 = .ok (.bipush 8, 2) := dk_16 8 (dk_at dksX0_about_8 16 rfl rfl)
theorem dX0_about_203 : decode cX0_about 203 = .ok (.aload_n 0, 1) := dk_42 (dk_at dksX0_about_8 18 rfl rfl)
theorem dX0_about_204 : decode cX0_about 204 = .ok (.invokevirtual 157, 3) := dk_182 0 157 (dk_at dksX0_about_8 19 rfl rfl)
theorem dX0_about_207 : decode cX0_about 207 = .ok (.getfield 196, 3) := dk_180 0 196 (dk_at dksX0_about_9 0 rfl rfl)
theorem dX0_about_210 : decode cX0_about 210 = .ok (.i2l, 1) := dk_133 (dk_at dksX0_about_9 3 rfl rfl)
theorem dX0_about_211 : decode cX0_about 211 = .ok (.lastore, 1) := dk_80 (dk_at dksX0_about_9 4 rfl rfl)
theorem dX0_about_212 : decode cX0_about 212 = .ok (.aload_n 0, 1) := dk_42 (dk_at dksX0_about_9 5 rfl rfl)
theorem dX0_about_213 : decode cX0_about 213 = .ok (.getfield 49, 3) := dk_180 0 49 (dk_at dksX0_about_9 6 rfl rfl)
theorem dX0_about_216 : decode cX0_about 216 = .ok (.getfield 264, 3) := dk_180 1 8 (dk_at dksX0_about_9 9 rfl rfl)
theorem dX0_about_219 : decode cX0_about 219 = .ok (.bipush 9, 2) := dk_16 9 (dk_at dksX0_about_9 12 rfl rfl)
theorem dX0_about_221 : decode cX0_about 221 = .ok (.aload_n 0, 1) := dk_42 (dk_at dksX0_about_9 14 rfl rfl)
theorem dX0_about_222 : decode cX0_about 222 = .ok (.getfield 18, 3) := dk_180 0 18 (dk_at dksX0_about_9 15 rfl rfl)
theorem dX0_about_225 : decode cX0_about 225 = .ok (.getfield 199, 3) := dk_180 0 199 (dk_at dksX0_about_9 18 rfl rfl)
theorem dX0_about_228 : decode cX0_about 228 = .ok (.iconst 2, 1) := dk_5 (dk_at dksX0_about_9 21 rfl rfl)
theorem dX0_about_229 : decode cX0_about 229 = .ok (.iaload, 1) := dk_46 (dk_at dksX0_about_9 22 rfl rfl)
theorem dX0_about_230 : decode cX0_about 230 = .ok (.i2l, 1) := dk_133 (dk_at dksX0_about_9 23 rfl rfl)
theorem dX0_about_231 : decode cX0_about 231 = .ok (.lastore, 1) := dk_80 (dk_at dksX0_about_10 0 rfl rfl)
theorem dX0_about_232 : decode cX0_about 232 = .ok (.return_, 1) := dk_177 (dk_at dksX0_about_10 1 rfl rfl)
abbrev cX0_law1 : ByteArray := prog_1_method_32_code
def yX0_law1 : MethodName := ⟨RX0, "law1", "()LCounterDesk$Text;"⟩
def dkwX0_law1_1 : List UInt8 := [180, 0, 227, 42, 180, 0, 18, 180, 1, 1, 182, 1, 4, 192, 0, 56, 176]
abbrev dktX0_law1_1 : List UInt8 := dkwX0_law1_1 ++ []
def dkwX0_law1_0 : List UInt8 := [42, 180, 0, 18, 180, 1, 1, 2, 160, 0, 10, 42, 180, 0, 63, 167, 0, 23, 42, 180, 0, 18]
abbrev dktX0_law1_0 : List UInt8 := dkwX0_law1_0 ++ dktX0_law1_1
theorem dksX0_law1_0 : cX0_law1.data.toList.drop 0 = dktX0_law1_0 := by decide +kernel
theorem dksX0_law1_1 : cX0_law1.data.toList.drop 22 = dktX0_law1_1 := dk_seg dksX0_law1_0 22 rfl rfl
theorem dX0_law1_0 : decode cX0_law1 0 = .ok (.aload_n 0, 1) := dk_42 (dk_at dksX0_law1_0 0 rfl rfl)
theorem dX0_law1_1 : decode cX0_law1 1 = .ok (.getfield 18, 3) := dk_180 0 18 (dk_at dksX0_law1_0 1 rfl rfl)
theorem dX0_law1_4 : decode cX0_law1 4 = .ok (.getfield 257, 3) := dk_180 1 1 (dk_at dksX0_law1_0 4 rfl rfl)
theorem dX0_law1_7 : decode cX0_law1 7 = .ok (.iconst (-1), 1) := dk_2 (dk_at dksX0_law1_0 7 rfl rfl)
theorem dX0_law1_8 : decode cX0_law1 8 = .ok (.if_icmp .ne 10, 3) := dk_160 0 10 (dk_at dksX0_law1_0 8 rfl rfl)
theorem dX0_law1_11 : decode cX0_law1 11 = .ok (.aload_n 0, 1) := dk_42 (dk_at dksX0_law1_0 11 rfl rfl)
theorem dX0_law1_12 : decode cX0_law1 12 = .ok (.getfield 63, 3) := dk_180 0 63 (dk_at dksX0_law1_0 12 rfl rfl)
theorem dX0_law1_15 : decode cX0_law1 15 = .ok (.goto 23, 3) := dk_167 0 23 (dk_at dksX0_law1_0 15 rfl rfl)
theorem dX0_law1_18 : decode cX0_law1 18 = .ok (.aload_n 0, 1) := dk_42 (dk_at dksX0_law1_0 18 rfl rfl)
theorem dX0_law1_19 : decode cX0_law1 19 = .ok (.getfield 18, 3) := dk_180 0 18 (dk_at dksX0_law1_0 19 rfl rfl)
theorem dX0_law1_22 : decode cX0_law1 22 = .ok (.getfield 227, 3) := dk_180 0 227 (dk_at dksX0_law1_1 0 rfl rfl)
theorem dX0_law1_25 : decode cX0_law1 25 = .ok (.aload_n 0, 1) := dk_42 (dk_at dksX0_law1_1 3 rfl rfl)
theorem dX0_law1_26 : decode cX0_law1 26 = .ok (.getfield 18, 3) := dk_180 0 18 (dk_at dksX0_law1_1 4 rfl rfl)
theorem dX0_law1_29 : decode cX0_law1 29 = .ok (.getfield 257, 3) := dk_180 1 1 (dk_at dksX0_law1_1 7 rfl rfl)
theorem dX0_law1_32 : decode cX0_law1 32 = .ok (.invokevirtual 260, 3) := dk_182 1 4 (dk_at dksX0_law1_1 10 rfl rfl)
theorem dX0_law1_35 : decode cX0_law1 35 = .ok (.checkcast 56, 3) := dk_192 0 56 (dk_at dksX0_law1_1 13 rfl rfl)
theorem dX0_law1_38 : decode cX0_law1 38 = .ok (.areturn, 1) := dk_176 (dk_at dksX0_law1_1 16 rfl rfl)
abbrev cX0_earnsHere : ByteArray := prog_1_method_39_code
def yX0_earnsHere : MethodName := ⟨RX0, "earnsHere", "(I)I"⟩
def dkwX0_earnsHere_0 : List UInt8 := [42, 27, 42, 182, 0, 157, 180, 0, 163, 27, 46, 42, 27, 182, 1, 30, 182, 1, 37, 172]
abbrev dktX0_earnsHere_0 : List UInt8 := dkwX0_earnsHere_0 ++ []
theorem dksX0_earnsHere_0 : cX0_earnsHere.data.toList.drop 0 = dktX0_earnsHere_0 := by decide +kernel
theorem dX0_earnsHere_0 : decode cX0_earnsHere 0 = .ok (.aload_n 0, 1) := dk_42 (dk_at dksX0_earnsHere_0 0 rfl rfl)
theorem dX0_earnsHere_1 : decode cX0_earnsHere 1 = .ok (.iload_n 1, 1) := dk_27 (dk_at dksX0_earnsHere_0 1 rfl rfl)
theorem dX0_earnsHere_2 : decode cX0_earnsHere 2 = .ok (.aload_n 0, 1) := dk_42 (dk_at dksX0_earnsHere_0 2 rfl rfl)
theorem dX0_earnsHere_3 : decode cX0_earnsHere 3 = .ok (.invokevirtual 157, 3) := dk_182 0 157 (dk_at dksX0_earnsHere_0 3 rfl rfl)
theorem dX0_earnsHere_6 : decode cX0_earnsHere 6 = .ok (.getfield 163, 3) := dk_180 0 163 (dk_at dksX0_earnsHere_0 6 rfl rfl)
theorem dX0_earnsHere_9 : decode cX0_earnsHere 9 = .ok (.iload_n 1, 1) := dk_27 (dk_at dksX0_earnsHere_0 9 rfl rfl)
theorem dX0_earnsHere_10 : decode cX0_earnsHere 10 = .ok (.iaload, 1) := dk_46 (dk_at dksX0_earnsHere_0 10 rfl rfl)
theorem dX0_earnsHere_11 : decode cX0_earnsHere 11 = .ok (.aload_n 0, 1) := dk_42 (dk_at dksX0_earnsHere_0 11 rfl rfl)
theorem dX0_earnsHere_12 : decode cX0_earnsHere 12 = .ok (.iload_n 1, 1) := dk_27 (dk_at dksX0_earnsHere_0 12 rfl rfl)
theorem dX0_earnsHere_13 : decode cX0_earnsHere 13 = .ok (.invokevirtual 286, 3) := dk_182 1 30 (dk_at dksX0_earnsHere_0 13 rfl rfl)
theorem dX0_earnsHere_16 : decode cX0_earnsHere 16 = .ok (.invokevirtual 293, 3) := dk_182 1 37 (dk_at dksX0_earnsHere_0 16 rfl rfl)
theorem dX0_earnsHere_19 : decode cX0_earnsHere 19 = .ok (.ireturn, 1) := dk_172 (dk_at dksX0_earnsHere_0 19 rfl rfl)
abbrev cX0_earns : ByteArray := prog_1_method_35_code
def yX0_earns : MethodName := ⟨RX0, "earns", "(III)I"⟩
def dkwX0_earns_0 : List UInt8 := [42, 27, 28, 29, 182, 1, 12, 42, 182, 1, 16, 4, 42, 180, 0, 49, 4, 16, 99, 182, 1, 22, 172]
abbrev dktX0_earns_0 : List UInt8 := dkwX0_earns_0 ++ []
theorem dksX0_earns_0 : cX0_earns.data.toList.drop 0 = dktX0_earns_0 := by decide +kernel
theorem dX0_earns_0 : decode cX0_earns 0 = .ok (.aload_n 0, 1) := dk_42 (dk_at dksX0_earns_0 0 rfl rfl)
theorem dX0_earns_1 : decode cX0_earns 1 = .ok (.iload_n 1, 1) := dk_27 (dk_at dksX0_earns_0 1 rfl rfl)
theorem dX0_earns_2 : decode cX0_earns 2 = .ok (.iload_n 2, 1) := dk_28 (dk_at dksX0_earns_0 2 rfl rfl)
theorem dX0_earns_3 : decode cX0_earns 3 = .ok (.iload_n 3, 1) := dk_29 (dk_at dksX0_earns_0 3 rfl rfl)
theorem dX0_earns_4 : decode cX0_earns 4 = .ok (.invokevirtual 268, 3) := dk_182 1 12 (dk_at dksX0_earns_0 4 rfl rfl)
theorem dX0_earns_7 : decode cX0_earns 7 = .ok (.aload_n 0, 1) := dk_42 (dk_at dksX0_earns_0 7 rfl rfl)
theorem dX0_earns_8 : decode cX0_earns 8 = .ok (.invokevirtual 272, 3) := dk_182 1 16 (dk_at dksX0_earns_0 8 rfl rfl)
theorem dX0_earns_11 : decode cX0_earns 11 = .ok (.iconst 1, 1) := dk_4 (dk_at dksX0_earns_0 11 rfl rfl)
theorem dX0_earns_12 : decode cX0_earns 12 = .ok (.aload_n 0, 1) := dk_42 (dk_at dksX0_earns_0 12 rfl rfl)
theorem dX0_earns_13 : decode cX0_earns 13 = .ok (.getfield 49, 3) := dk_180 0 49 (dk_at dksX0_earns_0 13 rfl rfl)
theorem dX0_earns_16 : decode cX0_earns 16 = .ok (.iconst 1, 1) := dk_4 (dk_at dksX0_earns_0 16 rfl rfl)
theorem dX0_earns_17 : decode cX0_earns 17 = .ok (.bipush 99, 2) := dk_16 99 (dk_at dksX0_earns_0 17 rfl rfl)
theorem dX0_earns_19 : decode cX0_earns 19 = .ok (.invokevirtual 278, 3) := dk_182 1 22 (dk_at dksX0_earns_0 19 rfl rfl)
theorem dX0_earns_22 : decode cX0_earns 22 = .ok (.ireturn, 1) := dk_172 (dk_at dksX0_earns_0 22 rfl rfl)
abbrev cX0_isBarredHere : ByteArray := prog_1_method_40_code
def yX0_isBarredHere : MethodName := ⟨RX0, "isBarredHere", "(I)Z"⟩
def dkwX0_isBarredHere_0 : List UInt8 := [42, 27, 42, 182, 0, 157, 180, 0, 163, 27, 46, 42, 27, 182, 1, 30, 182, 1, 40, 172]
abbrev dktX0_isBarredHere_0 : List UInt8 := dkwX0_isBarredHere_0 ++ []
theorem dksX0_isBarredHere_0 : cX0_isBarredHere.data.toList.drop 0 = dktX0_isBarredHere_0 := by decide +kernel
theorem dX0_isBarredHere_0 : decode cX0_isBarredHere 0 = .ok (.aload_n 0, 1) := dk_42 (dk_at dksX0_isBarredHere_0 0 rfl rfl)
theorem dX0_isBarredHere_1 : decode cX0_isBarredHere 1 = .ok (.iload_n 1, 1) := dk_27 (dk_at dksX0_isBarredHere_0 1 rfl rfl)
theorem dX0_isBarredHere_2 : decode cX0_isBarredHere 2 = .ok (.aload_n 0, 1) := dk_42 (dk_at dksX0_isBarredHere_0 2 rfl rfl)
theorem dX0_isBarredHere_3 : decode cX0_isBarredHere 3 = .ok (.invokevirtual 157, 3) := dk_182 0 157 (dk_at dksX0_isBarredHere_0 3 rfl rfl)
theorem dX0_isBarredHere_6 : decode cX0_isBarredHere 6 = .ok (.getfield 163, 3) := dk_180 0 163 (dk_at dksX0_isBarredHere_0 6 rfl rfl)
theorem dX0_isBarredHere_9 : decode cX0_isBarredHere 9 = .ok (.iload_n 1, 1) := dk_27 (dk_at dksX0_isBarredHere_0 9 rfl rfl)
theorem dX0_isBarredHere_10 : decode cX0_isBarredHere 10 = .ok (.iaload, 1) := dk_46 (dk_at dksX0_isBarredHere_0 10 rfl rfl)
theorem dX0_isBarredHere_11 : decode cX0_isBarredHere 11 = .ok (.aload_n 0, 1) := dk_42 (dk_at dksX0_isBarredHere_0 11 rfl rfl)
theorem dX0_isBarredHere_12 : decode cX0_isBarredHere 12 = .ok (.iload_n 1, 1) := dk_27 (dk_at dksX0_isBarredHere_0 12 rfl rfl)
theorem dX0_isBarredHere_13 : decode cX0_isBarredHere 13 = .ok (.invokevirtual 286, 3) := dk_182 1 30 (dk_at dksX0_isBarredHere_0 13 rfl rfl)
theorem dX0_isBarredHere_16 : decode cX0_isBarredHere 16 = .ok (.invokevirtual 296, 3) := dk_182 1 40 (dk_at dksX0_isBarredHere_0 16 rfl rfl)
theorem dX0_isBarredHere_19 : decode cX0_isBarredHere 19 = .ok (.ireturn, 1) := dk_172 (dk_at dksX0_isBarredHere_0 19 rfl rfl)
abbrev cX0_isBarred : ByteArray := prog_1_method_36_code
def yX0_isBarred : MethodName := ⟨RX0, "isBarred", "(III)Z"⟩
def dkwX0_isBarred_0 : List UInt8 := [42, 27, 28, 29, 182, 1, 12, 42, 182, 1, 16, 5, 42, 180, 0, 49, 182, 1, 26, 172]
abbrev dktX0_isBarred_0 : List UInt8 := dkwX0_isBarred_0 ++ []
theorem dksX0_isBarred_0 : cX0_isBarred.data.toList.drop 0 = dktX0_isBarred_0 := by decide +kernel
theorem dX0_isBarred_0 : decode cX0_isBarred 0 = .ok (.aload_n 0, 1) := dk_42 (dk_at dksX0_isBarred_0 0 rfl rfl)
theorem dX0_isBarred_1 : decode cX0_isBarred 1 = .ok (.iload_n 1, 1) := dk_27 (dk_at dksX0_isBarred_0 1 rfl rfl)
theorem dX0_isBarred_2 : decode cX0_isBarred 2 = .ok (.iload_n 2, 1) := dk_28 (dk_at dksX0_isBarred_0 2 rfl rfl)
theorem dX0_isBarred_3 : decode cX0_isBarred 3 = .ok (.iload_n 3, 1) := dk_29 (dk_at dksX0_isBarred_0 3 rfl rfl)
theorem dX0_isBarred_4 : decode cX0_isBarred 4 = .ok (.invokevirtual 268, 3) := dk_182 1 12 (dk_at dksX0_isBarred_0 4 rfl rfl)
theorem dX0_isBarred_7 : decode cX0_isBarred 7 = .ok (.aload_n 0, 1) := dk_42 (dk_at dksX0_isBarred_0 7 rfl rfl)
theorem dX0_isBarred_8 : decode cX0_isBarred 8 = .ok (.invokevirtual 272, 3) := dk_182 1 16 (dk_at dksX0_isBarred_0 8 rfl rfl)
theorem dX0_isBarred_11 : decode cX0_isBarred 11 = .ok (.iconst 2, 1) := dk_5 (dk_at dksX0_isBarred_0 11 rfl rfl)
theorem dX0_isBarred_12 : decode cX0_isBarred 12 = .ok (.aload_n 0, 1) := dk_42 (dk_at dksX0_isBarred_0 12 rfl rfl)
theorem dX0_isBarred_13 : decode cX0_isBarred 13 = .ok (.getfield 49, 3) := dk_180 0 49 (dk_at dksX0_isBarred_0 13 rfl rfl)
theorem dX0_isBarred_16 : decode cX0_isBarred 16 = .ok (.invokevirtual 282, 3) := dk_182 1 26 (dk_at dksX0_isBarred_0 16 rfl rfl)
theorem dX0_isBarred_19 : decode cX0_isBarred 19 = .ok (.ireturn, 1) := dk_172 (dk_at dksX0_isBarred_0 19 rfl rfl)
abbrev cX0_at : ByteArray := prog_1_method_21_code
def yX0_at : MethodName := ⟨RX0, "at", "(II)I"⟩
def dkwX0_at_1 : List UInt8 := [154, 0, 11, 42, 27, 182, 0, 184, 167, 0, 8, 42, 27, 182, 0, 187, 172]
abbrev dktX0_at_1 : List UInt8 := dkwX0_at_1 ++ []
def dkwX0_at_0 : List UInt8 := [42, 27, 182, 0, 172, 153, 0, 13, 28, 133, 9, 10, 184, 0, 5, 154, 0, 7, 17, 252, 24, 172, 28]
abbrev dktX0_at_0 : List UInt8 := dkwX0_at_0 ++ dktX0_at_1
theorem dksX0_at_0 : cX0_at.data.toList.drop 0 = dktX0_at_0 := by decide +kernel
theorem dksX0_at_1 : cX0_at.data.toList.drop 23 = dktX0_at_1 := dk_seg dksX0_at_0 23 rfl rfl
theorem dX0_at_0 : decode cX0_at 0 = .ok (.aload_n 0, 1) := dk_42 (dk_at dksX0_at_0 0 rfl rfl)
theorem dX0_at_1 : decode cX0_at 1 = .ok (.iload_n 1, 1) := dk_27 (dk_at dksX0_at_0 1 rfl rfl)
theorem dX0_at_2 : decode cX0_at 2 = .ok (.invokevirtual 172, 3) := dk_182 0 172 (dk_at dksX0_at_0 2 rfl rfl)
theorem dX0_at_5 : decode cX0_at 5 = .ok (.ifCond .eq 13, 3) := dk_153 0 13 (dk_at dksX0_at_0 5 rfl rfl)
theorem dX0_at_8 : decode cX0_at 8 = .ok (.iload_n 2, 1) := dk_28 (dk_at dksX0_at_0 8 rfl rfl)
theorem dX0_at_9 : decode cX0_at 9 = .ok (.i2l, 1) := dk_133 (dk_at dksX0_at_0 9 rfl rfl)
theorem dX0_at_10 : decode cX0_at 10 = .ok (.lconst 0, 1) := dk_9 (dk_at dksX0_at_0 10 rfl rfl)
theorem dX0_at_11 : decode cX0_at 11 = .ok (.lconst 1, 1) := dk_10 (dk_at dksX0_at_0 11 rfl rfl)
theorem dX0_at_12 : decode cX0_at 12 = .ok (.invokestatic 5, 3) := dk_184 0 5 (dk_at dksX0_at_0 12 rfl rfl)
theorem dX0_at_15 : decode cX0_at 15 = .ok (.ifCond .ne 7, 3) := dk_154 0 7 (dk_at dksX0_at_0 15 rfl rfl)
theorem dX0_at_18 : decode cX0_at 18 = .ok (.sipush (-1000), 3) := dk_17 252 24 (dk_at dksX0_at_0 18 rfl rfl)
theorem dX0_at_21 : decode cX0_at 21 = .ok (.ireturn, 1) := dk_172 (dk_at dksX0_at_0 21 rfl rfl)
theorem dX0_at_22 : decode cX0_at 22 = .ok (.iload_n 2, 1) := dk_28 (dk_at dksX0_at_0 22 rfl rfl)
theorem dX0_at_23 : decode cX0_at 23 = .ok (.ifCond .ne 11, 3) := dk_154 0 11 (dk_at dksX0_at_1 0 rfl rfl)
theorem dX0_at_26 : decode cX0_at 26 = .ok (.aload_n 0, 1) := dk_42 (dk_at dksX0_at_1 3 rfl rfl)
theorem dX0_at_27 : decode cX0_at 27 = .ok (.iload_n 1, 1) := dk_27 (dk_at dksX0_at_1 4 rfl rfl)
theorem dX0_at_28 : decode cX0_at 28 = .ok (.invokevirtual 184, 3) := dk_182 0 184 (dk_at dksX0_at_1 5 rfl rfl)
theorem dX0_at_31 : decode cX0_at 31 = .ok (.goto 8, 3) := dk_167 0 8 (dk_at dksX0_at_1 8 rfl rfl)
theorem dX0_at_34 : decode cX0_at 34 = .ok (.aload_n 0, 1) := dk_42 (dk_at dksX0_at_1 11 rfl rfl)
theorem dX0_at_35 : decode cX0_at 35 = .ok (.iload_n 1, 1) := dk_27 (dk_at dksX0_at_1 12 rfl rfl)
theorem dX0_at_36 : decode cX0_at 36 = .ok (.invokevirtual 187, 3) := dk_182 0 187 (dk_at dksX0_at_1 13 rfl rfl)
theorem dX0_at_39 : decode cX0_at 39 = .ok (.ireturn, 1) := dk_172 (dk_at dksX0_at_1 16 rfl rfl)
abbrev cX0_apart : ByteArray := prog_1_method_19_code
def yX0_apart : MethodName := ⟨RX0, "apart", "(I)I"⟩
def dkwX0_apart_0 : List UInt8 := [42, 182, 0, 157, 180, 0, 163, 27, 46, 42, 182, 0, 157, 180, 0, 160, 27, 46, 100, 172]
abbrev dktX0_apart_0 : List UInt8 := dkwX0_apart_0 ++ []
theorem dksX0_apart_0 : cX0_apart.data.toList.drop 0 = dktX0_apart_0 := by decide +kernel
theorem dX0_apart_0 : decode cX0_apart 0 = .ok (.aload_n 0, 1) := dk_42 (dk_at dksX0_apart_0 0 rfl rfl)
theorem dX0_apart_1 : decode cX0_apart 1 = .ok (.invokevirtual 157, 3) := dk_182 0 157 (dk_at dksX0_apart_0 1 rfl rfl)
theorem dX0_apart_4 : decode cX0_apart 4 = .ok (.getfield 163, 3) := dk_180 0 163 (dk_at dksX0_apart_0 4 rfl rfl)
theorem dX0_apart_7 : decode cX0_apart 7 = .ok (.iload_n 1, 1) := dk_27 (dk_at dksX0_apart_0 7 rfl rfl)
theorem dX0_apart_8 : decode cX0_apart 8 = .ok (.iaload, 1) := dk_46 (dk_at dksX0_apart_0 8 rfl rfl)
theorem dX0_apart_9 : decode cX0_apart 9 = .ok (.aload_n 0, 1) := dk_42 (dk_at dksX0_apart_0 9 rfl rfl)
theorem dX0_apart_10 : decode cX0_apart 10 = .ok (.invokevirtual 157, 3) := dk_182 0 157 (dk_at dksX0_apart_0 10 rfl rfl)
theorem dX0_apart_13 : decode cX0_apart 13 = .ok (.getfield 160, 3) := dk_180 0 160 (dk_at dksX0_apart_0 13 rfl rfl)
theorem dX0_apart_16 : decode cX0_apart 16 = .ok (.iload_n 1, 1) := dk_27 (dk_at dksX0_apart_0 16 rfl rfl)
theorem dX0_apart_17 : decode cX0_apart 17 = .ok (.iaload, 1) := dk_46 (dk_at dksX0_apart_0 17 rfl rfl)
theorem dX0_apart_18 : decode cX0_apart 18 = .ok (.isub, 1) := dk_100 (dk_at dksX0_apart_0 18 rfl rfl)
theorem dX0_apart_19 : decode cX0_apart 19 = .ok (.ireturn, 1) := dk_172 (dk_at dksX0_apart_0 19 rfl rfl)
abbrev cX0_leap : ByteArray := prog_1_method_20_code
def yX0_leap : MethodName := ⟨RX0, "leap", "(I)I"⟩
def dkwX0_leap_1 : List UInt8 := [27, 4, 100, 46, 100, 172]
abbrev dktX0_leap_1 : List UInt8 := dkwX0_leap_1 ++ []
def dkwX0_leap_0 : List UInt8 := [27, 154, 0, 7, 3, 167, 0, 24, 42, 182, 0, 157, 180, 0, 163, 27, 46, 42, 182, 0, 157, 180, 0, 163]
abbrev dktX0_leap_0 : List UInt8 := dkwX0_leap_0 ++ dktX0_leap_1
theorem dksX0_leap_0 : cX0_leap.data.toList.drop 0 = dktX0_leap_0 := by decide +kernel
theorem dksX0_leap_1 : cX0_leap.data.toList.drop 24 = dktX0_leap_1 := dk_seg dksX0_leap_0 24 rfl rfl
theorem dX0_leap_0 : decode cX0_leap 0 = .ok (.iload_n 1, 1) := dk_27 (dk_at dksX0_leap_0 0 rfl rfl)
theorem dX0_leap_1 : decode cX0_leap 1 = .ok (.ifCond .ne 7, 3) := dk_154 0 7 (dk_at dksX0_leap_0 1 rfl rfl)
theorem dX0_leap_4 : decode cX0_leap 4 = .ok (.iconst 0, 1) := dk_3 (dk_at dksX0_leap_0 4 rfl rfl)
theorem dX0_leap_5 : decode cX0_leap 5 = .ok (.goto 24, 3) := dk_167 0 24 (dk_at dksX0_leap_0 5 rfl rfl)
theorem dX0_leap_8 : decode cX0_leap 8 = .ok (.aload_n 0, 1) := dk_42 (dk_at dksX0_leap_0 8 rfl rfl)
theorem dX0_leap_9 : decode cX0_leap 9 = .ok (.invokevirtual 157, 3) := dk_182 0 157 (dk_at dksX0_leap_0 9 rfl rfl)
theorem dX0_leap_12 : decode cX0_leap 12 = .ok (.getfield 163, 3) := dk_180 0 163 (dk_at dksX0_leap_0 12 rfl rfl)
theorem dX0_leap_15 : decode cX0_leap 15 = .ok (.iload_n 1, 1) := dk_27 (dk_at dksX0_leap_0 15 rfl rfl)
theorem dX0_leap_16 : decode cX0_leap 16 = .ok (.iaload, 1) := dk_46 (dk_at dksX0_leap_0 16 rfl rfl)
theorem dX0_leap_17 : decode cX0_leap 17 = .ok (.aload_n 0, 1) := dk_42 (dk_at dksX0_leap_0 17 rfl rfl)
theorem dX0_leap_18 : decode cX0_leap 18 = .ok (.invokevirtual 157, 3) := dk_182 0 157 (dk_at dksX0_leap_0 18 rfl rfl)
theorem dX0_leap_21 : decode cX0_leap 21 = .ok (.getfield 163, 3) := dk_180 0 163 (dk_at dksX0_leap_0 21 rfl rfl)
theorem dX0_leap_24 : decode cX0_leap 24 = .ok (.iload_n 1, 1) := dk_27 (dk_at dksX0_leap_1 0 rfl rfl)
theorem dX0_leap_25 : decode cX0_leap 25 = .ok (.iconst 1, 1) := dk_4 (dk_at dksX0_leap_1 1 rfl rfl)
theorem dX0_leap_26 : decode cX0_leap 26 = .ok (.isub, 1) := dk_100 (dk_at dksX0_leap_1 2 rfl rfl)
theorem dX0_leap_27 : decode cX0_leap 27 = .ok (.iaload, 1) := dk_46 (dk_at dksX0_leap_1 3 rfl rfl)
theorem dX0_leap_28 : decode cX0_leap 28 = .ok (.isub, 1) := dk_100 (dk_at dksX0_leap_1 4 rfl rfl)
theorem dX0_leap_29 : decode cX0_leap 29 = .ok (.ireturn, 1) := dk_172 (dk_at dksX0_leap_1 5 rfl rfl)
abbrev cX0_terms : ByteArray := prog_1_method_24_code
def yX0_terms : MethodName := ⟨RX0, "terms", "(II)I"⟩
def dkwX0_terms_2 : List UInt8 := [180, 0, 29, 3, 181, 0, 129, 42, 29, 182, 0, 209, 172]
abbrev dktX0_terms_2 : List UInt8 := dkwX0_terms_2 ++ []
def dkwX0_terms_1 : List UInt8 := [42, 182, 0, 157, 28, 181, 0, 196, 167, 0, 13, 42, 180, 0, 18, 180, 0, 199, 27, 28, 79, 42]
abbrev dktX0_terms_1 : List UInt8 := dkwX0_terms_1 ++ dktX0_terms_2
def dkwX0_terms_0 : List UInt8 := [27, 28, 184, 0, 202, 154, 0, 9, 42, 2, 182, 0, 132, 172, 42, 27, 182, 0, 206, 62, 27, 154, 0, 14]
abbrev dktX0_terms_0 : List UInt8 := dkwX0_terms_0 ++ dktX0_terms_1
theorem dksX0_terms_0 : cX0_terms.data.toList.drop 0 = dktX0_terms_0 := by decide +kernel
theorem dksX0_terms_1 : cX0_terms.data.toList.drop 24 = dktX0_terms_1 := dk_seg dksX0_terms_0 24 rfl rfl
theorem dksX0_terms_2 : cX0_terms.data.toList.drop 46 = dktX0_terms_2 := dk_seg dksX0_terms_1 22 rfl rfl
theorem dX0_terms_0 : decode cX0_terms 0 = .ok (.iload_n 1, 1) := dk_27 (dk_at dksX0_terms_0 0 rfl rfl)
theorem dX0_terms_1 : decode cX0_terms 1 = .ok (.iload_n 2, 1) := dk_28 (dk_at dksX0_terms_0 1 rfl rfl)
theorem dX0_terms_2 : decode cX0_terms 2 = .ok (.invokestatic 202, 3) := dk_184 0 202 (dk_at dksX0_terms_0 2 rfl rfl)
theorem dX0_terms_5 : decode cX0_terms 5 = .ok (.ifCond .ne 9, 3) := dk_154 0 9 (dk_at dksX0_terms_0 5 rfl rfl)
theorem dX0_terms_8 : decode cX0_terms 8 = .ok (.aload_n 0, 1) := dk_42 (dk_at dksX0_terms_0 8 rfl rfl)
theorem dX0_terms_9 : decode cX0_terms 9 = .ok (.iconst (-1), 1) := dk_2 (dk_at dksX0_terms_0 9 rfl rfl)
theorem dX0_terms_10 : decode cX0_terms 10 = .ok (.invokevirtual 132, 3) := dk_182 0 132 (dk_at dksX0_terms_0 10 rfl rfl)
theorem dX0_terms_13 : decode cX0_terms 13 = .ok (.ireturn, 1) := dk_172 (dk_at dksX0_terms_0 13 rfl rfl)
theorem dX0_terms_14 : decode cX0_terms 14 = .ok (.aload_n 0, 1) := dk_42 (dk_at dksX0_terms_0 14 rfl rfl)
theorem dX0_terms_15 : decode cX0_terms 15 = .ok (.iload_n 1, 1) := dk_27 (dk_at dksX0_terms_0 15 rfl rfl)
theorem dX0_terms_16 : decode cX0_terms 16 = .ok (.invokevirtual 206, 3) := dk_182 0 206 (dk_at dksX0_terms_0 16 rfl rfl)
theorem dX0_terms_19 : decode cX0_terms 19 = .ok (.istore_n 3, 1) := dk_62 (dk_at dksX0_terms_0 19 rfl rfl)
theorem dX0_terms_20 : decode cX0_terms 20 = .ok (.iload_n 1, 1) := dk_27 (dk_at dksX0_terms_0 20 rfl rfl)
theorem dX0_terms_21 : decode cX0_terms 21 = .ok (.ifCond .ne 14, 3) := dk_154 0 14 (dk_at dksX0_terms_0 21 rfl rfl)
theorem dX0_terms_24 : decode cX0_terms 24 = .ok (.aload_n 0, 1) := dk_42 (dk_at dksX0_terms_1 0 rfl rfl)
theorem dX0_terms_25 : decode cX0_terms 25 = .ok (.invokevirtual 157, 3) := dk_182 0 157 (dk_at dksX0_terms_1 1 rfl rfl)
theorem dX0_terms_28 : decode cX0_terms 28 = .ok (.iload_n 2, 1) := dk_28 (dk_at dksX0_terms_1 4 rfl rfl)
theorem dX0_terms_29 : decode cX0_terms 29 = .ok (.putfield 196, 3) := dk_181 0 196 (dk_at dksX0_terms_1 5 rfl rfl)
theorem dX0_terms_32 : decode cX0_terms 32 = .ok (.goto 13, 3) := dk_167 0 13 (dk_at dksX0_terms_1 8 rfl rfl)
theorem dX0_terms_35 : decode cX0_terms 35 = .ok (.aload_n 0, 1) := dk_42 (dk_at dksX0_terms_1 11 rfl rfl)
theorem dX0_terms_36 : decode cX0_terms 36 = .ok (.getfield 18, 3) := dk_180 0 18 (dk_at dksX0_terms_1 12 rfl rfl)
theorem dX0_terms_39 : decode cX0_terms 39 = .ok (.getfield 199, 3) := dk_180 0 199 (dk_at dksX0_terms_1 15 rfl rfl)
theorem dX0_terms_42 : decode cX0_terms 42 = .ok (.iload_n 1, 1) := dk_27 (dk_at dksX0_terms_1 18 rfl rfl)
theorem dX0_terms_43 : decode cX0_terms 43 = .ok (.iload_n 2, 1) := dk_28 (dk_at dksX0_terms_1 19 rfl rfl)
theorem dX0_terms_44 : decode cX0_terms 44 = .ok (.iastore, 1) := dk_79 (dk_at dksX0_terms_1 20 rfl rfl)
theorem dX0_terms_45 : decode cX0_terms 45 = .ok (.aload_n 0, 1) := dk_42 (dk_at dksX0_terms_1 21 rfl rfl)
theorem dX0_terms_46 : decode cX0_terms 46 = .ok (.getfield 29, 3) := dk_180 0 29 (dk_at dksX0_terms_2 0 rfl rfl)
theorem dX0_terms_49 : decode cX0_terms 49 = .ok (.iconst 0, 1) := dk_3 (dk_at dksX0_terms_2 3 rfl rfl)
theorem dX0_terms_50 : decode cX0_terms 50 = .ok (.putfield 129, 3) := dk_181 0 129 (dk_at dksX0_terms_2 4 rfl rfl)
theorem dX0_terms_53 : decode cX0_terms 53 = .ok (.aload_n 0, 1) := dk_42 (dk_at dksX0_terms_2 7 rfl rfl)
theorem dX0_terms_54 : decode cX0_terms 54 = .ok (.iload_n 3, 1) := dk_29 (dk_at dksX0_terms_2 8 rfl rfl)
theorem dX0_terms_55 : decode cX0_terms 55 = .ok (.invokevirtual 209, 3) := dk_182 0 209 (dk_at dksX0_terms_2 9 rfl rfl)
theorem dX0_terms_58 : decode cX0_terms 58 = .ok (.ireturn, 1) := dk_172 (dk_at dksX0_terms_2 12 rfl rfl)
abbrev cX0_isTerm : ByteArray := prog_1_method_22_code
def yX0_isTerm : MethodName := ⟨RX0, "isTerm", "(II)Z"⟩
def dkwX0_isTerm_3 : List UInt8 := [20, 0, 194, 184, 0, 5, 172, 27, 184, 0, 153, 172, 3, 172]
abbrev dktX0_isTerm_3 : List UInt8 := dkwX0_isTerm_3 ++ []
def dkwX0_isTerm_2 : List UInt8 := [27, 133, 9, 20, 0, 190, 184, 0, 5, 172, 27, 133, 9, 20, 0, 192, 184, 0, 5, 172, 27, 133, 9]
abbrev dktX0_isTerm_2 : List UInt8 := dkwX0_isTerm_2 ++ dktX0_isTerm_3
def dkwX0_isTerm_1 : List UInt8 := [170, 0, 0, 0, 0, 0, 70, 0, 0, 0, 0, 0, 0, 0, 4, 0, 0, 0, 35, 0, 0, 0, 45, 0, 0, 0, 55, 0, 0, 0, 65, 0, 0, 0, 65]
abbrev dktX0_isTerm_1 : List UInt8 := dkwX0_isTerm_1 ++ dktX0_isTerm_2
def dkwX0_isTerm_0 : List UInt8 := [26]
abbrev dktX0_isTerm_0 : List UInt8 := dkwX0_isTerm_0 ++ dktX0_isTerm_1
theorem dksX0_isTerm_0 : cX0_isTerm.data.toList.drop 0 = dktX0_isTerm_0 := by decide +kernel
theorem dksX0_isTerm_1 : cX0_isTerm.data.toList.drop 1 = dktX0_isTerm_1 := dk_seg dksX0_isTerm_0 1 rfl rfl
theorem dksX0_isTerm_2 : cX0_isTerm.data.toList.drop 36 = dktX0_isTerm_2 := dk_seg dksX0_isTerm_1 35 rfl rfl
theorem dksX0_isTerm_3 : cX0_isTerm.data.toList.drop 59 = dktX0_isTerm_3 := dk_seg dksX0_isTerm_2 23 rfl rfl
theorem dX0_isTerm_0 : decode cX0_isTerm 0 = .ok (.iload_n 0, 1) := dk_26 (dk_at dksX0_isTerm_0 0 rfl rfl)
theorem dX0_isTerm_1 : decode cX0_isTerm 1 = .ok (.tableswitch 70 0 4 #[35, 45, 55, 65, 65], 35) := by decide +kernel
theorem dX0_isTerm_36 : decode cX0_isTerm 36 = .ok (.iload_n 1, 1) := dk_27 (dk_at dksX0_isTerm_2 0 rfl rfl)
theorem dX0_isTerm_37 : decode cX0_isTerm 37 = .ok (.i2l, 1) := dk_133 (dk_at dksX0_isTerm_2 1 rfl rfl)
theorem dX0_isTerm_38 : decode cX0_isTerm 38 = .ok (.lconst 0, 1) := dk_9 (dk_at dksX0_isTerm_2 2 rfl rfl)
theorem dX0_isTerm_39 : decode cX0_isTerm 39 = .ok (.ldc2_w 190, 3) := dk_20 0 190 (dk_at dksX0_isTerm_2 3 rfl rfl)
theorem dX0_isTerm_42 : decode cX0_isTerm 42 = .ok (.invokestatic 5, 3) := dk_184 0 5 (dk_at dksX0_isTerm_2 6 rfl rfl)
theorem dX0_isTerm_45 : decode cX0_isTerm 45 = .ok (.ireturn, 1) := dk_172 (dk_at dksX0_isTerm_2 9 rfl rfl)
theorem dX0_isTerm_46 : decode cX0_isTerm 46 = .ok (.iload_n 1, 1) := dk_27 (dk_at dksX0_isTerm_2 10 rfl rfl)
theorem dX0_isTerm_47 : decode cX0_isTerm 47 = .ok (.i2l, 1) := dk_133 (dk_at dksX0_isTerm_2 11 rfl rfl)
theorem dX0_isTerm_48 : decode cX0_isTerm 48 = .ok (.lconst 0, 1) := dk_9 (dk_at dksX0_isTerm_2 12 rfl rfl)
theorem dX0_isTerm_49 : decode cX0_isTerm 49 = .ok (.ldc2_w 192, 3) := dk_20 0 192 (dk_at dksX0_isTerm_2 13 rfl rfl)
theorem dX0_isTerm_52 : decode cX0_isTerm 52 = .ok (.invokestatic 5, 3) := dk_184 0 5 (dk_at dksX0_isTerm_2 16 rfl rfl)
theorem dX0_isTerm_55 : decode cX0_isTerm 55 = .ok (.ireturn, 1) := dk_172 (dk_at dksX0_isTerm_2 19 rfl rfl)
theorem dX0_isTerm_56 : decode cX0_isTerm 56 = .ok (.iload_n 1, 1) := dk_27 (dk_at dksX0_isTerm_2 20 rfl rfl)
theorem dX0_isTerm_57 : decode cX0_isTerm 57 = .ok (.i2l, 1) := dk_133 (dk_at dksX0_isTerm_2 21 rfl rfl)
theorem dX0_isTerm_58 : decode cX0_isTerm 58 = .ok (.lconst 0, 1) := dk_9 (dk_at dksX0_isTerm_2 22 rfl rfl)
theorem dX0_isTerm_59 : decode cX0_isTerm 59 = .ok (.ldc2_w 194, 3) := dk_20 0 194 (dk_at dksX0_isTerm_3 0 rfl rfl)
theorem dX0_isTerm_62 : decode cX0_isTerm 62 = .ok (.invokestatic 5, 3) := dk_184 0 5 (dk_at dksX0_isTerm_3 3 rfl rfl)
theorem dX0_isTerm_65 : decode cX0_isTerm 65 = .ok (.ireturn, 1) := dk_172 (dk_at dksX0_isTerm_3 6 rfl rfl)
theorem dX0_isTerm_66 : decode cX0_isTerm 66 = .ok (.iload_n 1, 1) := dk_27 (dk_at dksX0_isTerm_3 7 rfl rfl)
theorem dX0_isTerm_67 : decode cX0_isTerm 67 = .ok (.invokestatic 153, 3) := dk_184 0 153 (dk_at dksX0_isTerm_3 8 rfl rfl)
theorem dX0_isTerm_70 : decode cX0_isTerm 70 = .ok (.ireturn, 1) := dk_172 (dk_at dksX0_isTerm_3 11 rfl rfl)
theorem dX0_isTerm_71 : decode cX0_isTerm 71 = .ok (.iconst 0, 1) := dk_3 (dk_at dksX0_isTerm_3 12 rfl rfl)
theorem dX0_isTerm_72 : decode cX0_isTerm 72 = .ok (.ireturn, 1) := dk_172 (dk_at dksX0_isTerm_3 13 rfl rfl)
abbrev cX0_term : ByteArray := prog_1_method_23_code
def yX0_term : MethodName := ⟨RX0, "term", "(I)I"⟩
def dkwX0_term_0 : List UInt8 := [27, 154, 0, 13, 42, 182, 0, 157, 180, 0, 196, 167, 0, 12, 42, 180, 0, 18, 180, 0, 199, 27, 46, 172]
abbrev dktX0_term_0 : List UInt8 := dkwX0_term_0 ++ []
theorem dksX0_term_0 : cX0_term.data.toList.drop 0 = dktX0_term_0 := by decide +kernel
theorem dX0_term_0 : decode cX0_term 0 = .ok (.iload_n 1, 1) := dk_27 (dk_at dksX0_term_0 0 rfl rfl)
theorem dX0_term_1 : decode cX0_term 1 = .ok (.ifCond .ne 13, 3) := dk_154 0 13 (dk_at dksX0_term_0 1 rfl rfl)
theorem dX0_term_4 : decode cX0_term 4 = .ok (.aload_n 0, 1) := dk_42 (dk_at dksX0_term_0 4 rfl rfl)
theorem dX0_term_5 : decode cX0_term 5 = .ok (.invokevirtual 157, 3) := dk_182 0 157 (dk_at dksX0_term_0 5 rfl rfl)
theorem dX0_term_8 : decode cX0_term 8 = .ok (.getfield 196, 3) := dk_180 0 196 (dk_at dksX0_term_0 8 rfl rfl)
theorem dX0_term_11 : decode cX0_term 11 = .ok (.goto 12, 3) := dk_167 0 12 (dk_at dksX0_term_0 11 rfl rfl)
theorem dX0_term_14 : decode cX0_term 14 = .ok (.aload_n 0, 1) := dk_42 (dk_at dksX0_term_0 14 rfl rfl)
theorem dX0_term_15 : decode cX0_term 15 = .ok (.getfield 18, 3) := dk_180 0 18 (dk_at dksX0_term_0 15 rfl rfl)
theorem dX0_term_18 : decode cX0_term 18 = .ok (.getfield 199, 3) := dk_180 0 199 (dk_at dksX0_term_0 18 rfl rfl)
theorem dX0_term_21 : decode cX0_term 21 = .ok (.iload_n 1, 1) := dk_27 (dk_at dksX0_term_0 21 rfl rfl)
theorem dX0_term_22 : decode cX0_term 22 = .ok (.iaload, 1) := dk_46 (dk_at dksX0_term_0 22 rfl rfl)
theorem dX0_term_23 : decode cX0_term 23 = .ok (.ireturn, 1) := dk_172 (dk_at dksX0_term_0 23 rfl rfl)
abbrev cX0_had : ByteArray := prog_1_method_7_code
def yX0_had : MethodName := ⟨RX0, "had", "(I)I"⟩
def dkwX0_had_0 : List UInt8 := [42, 3, 181, 0, 126, 27, 172]
abbrev dktX0_had_0 : List UInt8 := dkwX0_had_0 ++ []
theorem dksX0_had_0 : cX0_had.data.toList.drop 0 = dktX0_had_0 := by decide +kernel
theorem dX0_had_0 : decode cX0_had 0 = .ok (.aload_n 0, 1) := dk_42 (dk_at dksX0_had_0 0 rfl rfl)
theorem dX0_had_1 : decode cX0_had 1 = .ok (.iconst 0, 1) := dk_3 (dk_at dksX0_had_0 1 rfl rfl)
theorem dX0_had_2 : decode cX0_had 2 = .ok (.putfield 126, 3) := dk_181 0 126 (dk_at dksX0_had_0 2 rfl rfl)
theorem dX0_had_5 : decode cX0_had 5 = .ok (.iload_n 1, 1) := dk_27 (dk_at dksX0_had_0 5 rfl rfl)
theorem dX0_had_6 : decode cX0_had 6 = .ok (.ireturn, 1) := dk_172 (dk_at dksX0_had_0 6 rfl rfl)
abbrev cX0_row : ByteArray := prog_1_method_26_code
def yX0_row : MethodName := ⟨RX0, "row", "()I"⟩
def dkwX0_row_8 : List UInt8 := [167, 0, 4, 4, 96, 181, 0, 218, 25, 6, 191, 132, 3, 2, 167, 255, 106, 42, 28, 182, 0, 169, 172]
abbrev dktX0_row_8 : List UInt8 := dkwX0_row_8 ++ []
def dkwX0_row_7 : List UInt8 := [28, 21, 4, 153, 0, 7, 4, 167, 0, 4, 3, 96, 61, 42, 89, 180, 0, 218, 21, 4, 153, 0, 7, 3]
abbrev dktX0_row_7 : List UInt8 := dkwX0_row_7 ++ dktX0_row_8
def dkwX0_row_6 : List UInt8 := [42, 89, 180, 0, 218, 21, 4, 153, 0, 7, 3, 167, 0, 4, 4, 96, 181, 0, 218, 167, 0, 40, 58, 6]
abbrev dktX0_row_6 : List UInt8 := dkwX0_row_6 ++ dktX0_row_7
def dkwX0_row_5 : List UInt8 := [181, 0, 218, 167, 0, 80, 58, 5, 3, 54, 4, 28, 21, 4, 153, 0, 7, 4, 167, 0, 4, 3, 96, 61]
abbrev dktX0_row_5 : List UInt8 := dkwX0_row_5 ++ dktX0_row_6
def dkwX0_row_4 : List UInt8 := [167, 0, 4, 3, 96, 61, 42, 89, 180, 0, 218, 21, 4, 153, 0, 7, 3, 167, 0, 4, 4, 96]
abbrev dktX0_row_4 : List UInt8 := dkwX0_row_4 ++ dktX0_row_5
def dkwX0_row_3 : List UInt8 := [184, 0, 221, 182, 0, 166, 155, 0, 7, 4, 167, 0, 4, 3, 54, 4, 28, 21, 4, 153, 0, 7, 4]
abbrev dktX0_row_3 : List UInt8 := dkwX0_row_3 ++ dktX0_row_4
def dkwX0_row_2 : List UInt8 := [61, 3, 62, 29, 43, 190, 162, 0, 150, 3, 54, 4, 42, 43, 29, 184, 0, 221, 43, 29, 4, 96]
abbrev dktX0_row_2 : List UInt8 := dkwX0_row_2 ++ dktX0_row_3
def dkwX0_row_1 : List UInt8 := [180, 0, 78, 3, 43, 3, 42, 180, 0, 146, 184, 0, 212, 42, 3, 181, 0, 146, 42, 3, 181, 0, 218, 3]
abbrev dktX0_row_1 : List UInt8 := dkwX0_row_1 ++ dktX0_row_2
def dkwX0_row_0 : List UInt8 := [42, 180, 0, 146, 154, 0, 10, 42, 16, 250, 182, 0, 132, 172, 42, 180, 0, 146, 188, 8, 76, 42]
abbrev dktX0_row_0 : List UInt8 := dkwX0_row_0 ++ dktX0_row_1
theorem dksX0_row_0 : cX0_row.data.toList.drop 0 = dktX0_row_0 := by decide +kernel
theorem dksX0_row_1 : cX0_row.data.toList.drop 22 = dktX0_row_1 := dk_seg dksX0_row_0 22 rfl rfl
theorem dksX0_row_2 : cX0_row.data.toList.drop 46 = dktX0_row_2 := dk_seg dksX0_row_1 24 rfl rfl
theorem dksX0_row_3 : cX0_row.data.toList.drop 68 = dktX0_row_3 := dk_seg dksX0_row_2 22 rfl rfl
theorem dksX0_row_4 : cX0_row.data.toList.drop 91 = dktX0_row_4 := dk_seg dksX0_row_3 23 rfl rfl
theorem dksX0_row_5 : cX0_row.data.toList.drop 113 = dktX0_row_5 := dk_seg dksX0_row_4 22 rfl rfl
theorem dksX0_row_6 : cX0_row.data.toList.drop 137 = dktX0_row_6 := dk_seg dksX0_row_5 24 rfl rfl
theorem dksX0_row_7 : cX0_row.data.toList.drop 161 = dktX0_row_7 := dk_seg dksX0_row_6 24 rfl rfl
theorem dksX0_row_8 : cX0_row.data.toList.drop 185 = dktX0_row_8 := dk_seg dksX0_row_7 24 rfl rfl
theorem dX0_row_0 : decode cX0_row 0 = .ok (.aload_n 0, 1) := dk_42 (dk_at dksX0_row_0 0 rfl rfl)
theorem dX0_row_1 : decode cX0_row 1 = .ok (.getfield 146, 3) := dk_180 0 146 (dk_at dksX0_row_0 1 rfl rfl)
theorem dX0_row_4 : decode cX0_row 4 = .ok (.ifCond .ne 10, 3) := dk_154 0 10 (dk_at dksX0_row_0 4 rfl rfl)
theorem dX0_row_7 : decode cX0_row 7 = .ok (.aload_n 0, 1) := dk_42 (dk_at dksX0_row_0 7 rfl rfl)
theorem dX0_row_8 : decode cX0_row 8 = .ok (.bipush (-6), 2) := dk_16 250 (dk_at dksX0_row_0 8 rfl rfl)
theorem dX0_row_10 : decode cX0_row 10 = .ok (.invokevirtual 132, 3) := dk_182 0 132 (dk_at dksX0_row_0 10 rfl rfl)
theorem dX0_row_13 : decode cX0_row 13 = .ok (.ireturn, 1) := dk_172 (dk_at dksX0_row_0 13 rfl rfl)
theorem dX0_row_14 : decode cX0_row 14 = .ok (.aload_n 0, 1) := dk_42 (dk_at dksX0_row_0 14 rfl rfl)
theorem dX0_row_15 : decode cX0_row 15 = .ok (.getfield 146, 3) := dk_180 0 146 (dk_at dksX0_row_0 15 rfl rfl)
theorem dX0_row_18 : decode cX0_row 18 = .ok (.newarray .byte, 2) := dk_188_8 (dk_at dksX0_row_0 18 rfl rfl)
theorem dX0_row_20 : decode cX0_row 20 = .ok (.astore_n 1, 1) := dk_76 (dk_at dksX0_row_0 20 rfl rfl)
theorem dX0_row_21 : decode cX0_row 21 = .ok (.aload_n 0, 1) := dk_42 (dk_at dksX0_row_0 21 rfl rfl)
theorem dX0_row_22 : decode cX0_row 22 = .ok (.getfield 78, 3) := dk_180 0 78 (dk_at dksX0_row_1 0 rfl rfl)
theorem dX0_row_25 : decode cX0_row 25 = .ok (.iconst 0, 1) := dk_3 (dk_at dksX0_row_1 3 rfl rfl)
theorem dX0_row_26 : decode cX0_row 26 = .ok (.aload_n 1, 1) := dk_43 (dk_at dksX0_row_1 4 rfl rfl)
theorem dX0_row_27 : decode cX0_row 27 = .ok (.iconst 0, 1) := dk_3 (dk_at dksX0_row_1 5 rfl rfl)
theorem dX0_row_28 : decode cX0_row 28 = .ok (.aload_n 0, 1) := dk_42 (dk_at dksX0_row_1 6 rfl rfl)
theorem dX0_row_29 : decode cX0_row 29 = .ok (.getfield 146, 3) := dk_180 0 146 (dk_at dksX0_row_1 7 rfl rfl)
theorem dX0_row_32 : decode cX0_row 32 = .ok (.invokestatic 212, 3) := dk_184 0 212 (dk_at dksX0_row_1 10 rfl rfl)
theorem dX0_row_35 : decode cX0_row 35 = .ok (.aload_n 0, 1) := dk_42 (dk_at dksX0_row_1 13 rfl rfl)
theorem dX0_row_36 : decode cX0_row 36 = .ok (.iconst 0, 1) := dk_3 (dk_at dksX0_row_1 14 rfl rfl)
theorem dX0_row_37 : decode cX0_row 37 = .ok (.putfield 146, 3) := dk_181 0 146 (dk_at dksX0_row_1 15 rfl rfl)
theorem dX0_row_40 : decode cX0_row 40 = .ok (.aload_n 0, 1) := dk_42 (dk_at dksX0_row_1 18 rfl rfl)
theorem dX0_row_41 : decode cX0_row 41 = .ok (.iconst 0, 1) := dk_3 (dk_at dksX0_row_1 19 rfl rfl)
theorem dX0_row_42 : decode cX0_row 42 = .ok (.putfield 218, 3) := dk_181 0 218 (dk_at dksX0_row_1 20 rfl rfl)
theorem dX0_row_45 : decode cX0_row 45 = .ok (.iconst 0, 1) := dk_3 (dk_at dksX0_row_1 23 rfl rfl)
theorem dX0_row_46 : decode cX0_row 46 = .ok (.istore_n 2, 1) := dk_61 (dk_at dksX0_row_2 0 rfl rfl)
theorem dX0_row_47 : decode cX0_row 47 = .ok (.iconst 0, 1) := dk_3 (dk_at dksX0_row_2 1 rfl rfl)
theorem dX0_row_48 : decode cX0_row 48 = .ok (.istore_n 3, 1) := dk_62 (dk_at dksX0_row_2 2 rfl rfl)
theorem dX0_row_49 : decode cX0_row 49 = .ok (.iload_n 3, 1) := dk_29 (dk_at dksX0_row_2 3 rfl rfl)
theorem dX0_row_50 : decode cX0_row 50 = .ok (.aload_n 1, 1) := dk_43 (dk_at dksX0_row_2 4 rfl rfl)
theorem dX0_row_51 : decode cX0_row 51 = .ok (.arraylength, 1) := dk_190 (dk_at dksX0_row_2 5 rfl rfl)
theorem dX0_row_52 : decode cX0_row 52 = .ok (.if_icmp .ge 150, 3) := dk_162 0 150 (dk_at dksX0_row_2 6 rfl rfl)
theorem dX0_row_55 : decode cX0_row 55 = .ok (.iconst 0, 1) := dk_3 (dk_at dksX0_row_2 9 rfl rfl)
theorem dX0_row_56 : decode cX0_row 56 = .ok (.istore 4, 2) := dk_54 4 (dk_at dksX0_row_2 10 rfl rfl)
theorem dX0_row_58 : decode cX0_row 58 = .ok (.aload_n 0, 1) := dk_42 (dk_at dksX0_row_2 12 rfl rfl)
theorem dX0_row_59 : decode cX0_row 59 = .ok (.aload_n 1, 1) := dk_43 (dk_at dksX0_row_2 13 rfl rfl)
theorem dX0_row_60 : decode cX0_row 60 = .ok (.iload_n 3, 1) := dk_29 (dk_at dksX0_row_2 14 rfl rfl)
theorem dX0_row_61 : decode cX0_row 61 = .ok (.invokestatic 221, 3) := dk_184 0 221 (dk_at dksX0_row_2 15 rfl rfl)
theorem dX0_row_64 : decode cX0_row 64 = .ok (.aload_n 1, 1) := dk_43 (dk_at dksX0_row_2 18 rfl rfl)
theorem dX0_row_65 : decode cX0_row 65 = .ok (.iload_n 3, 1) := dk_29 (dk_at dksX0_row_2 19 rfl rfl)
theorem dX0_row_66 : decode cX0_row 66 = .ok (.iconst 1, 1) := dk_4 (dk_at dksX0_row_2 20 rfl rfl)
theorem dX0_row_67 : decode cX0_row 67 = .ok (.iadd, 1) := dk_96 (dk_at dksX0_row_2 21 rfl rfl)
theorem dX0_row_68 : decode cX0_row 68 = .ok (.invokestatic 221, 3) := dk_184 0 221 (dk_at dksX0_row_3 0 rfl rfl)
theorem dX0_row_71 : decode cX0_row 71 = .ok (.invokevirtual 166, 3) := dk_182 0 166 (dk_at dksX0_row_3 3 rfl rfl)
theorem dX0_row_74 : decode cX0_row 74 = .ok (.ifCond .lt 7, 3) := dk_155 0 7 (dk_at dksX0_row_3 6 rfl rfl)
theorem dX0_row_77 : decode cX0_row 77 = .ok (.iconst 1, 1) := dk_4 (dk_at dksX0_row_3 9 rfl rfl)
theorem dX0_row_78 : decode cX0_row 78 = .ok (.goto 4, 3) := dk_167 0 4 (dk_at dksX0_row_3 10 rfl rfl)
theorem dX0_row_81 : decode cX0_row 81 = .ok (.iconst 0, 1) := dk_3 (dk_at dksX0_row_3 13 rfl rfl)
theorem dX0_row_82 : decode cX0_row 82 = .ok (.istore 4, 2) := dk_54 4 (dk_at dksX0_row_3 14 rfl rfl)
theorem dX0_row_84 : decode cX0_row 84 = .ok (.iload_n 2, 1) := dk_28 (dk_at dksX0_row_3 16 rfl rfl)
theorem dX0_row_85 : decode cX0_row 85 = .ok (.iload 4, 2) := dk_21 4 (dk_at dksX0_row_3 17 rfl rfl)
theorem dX0_row_87 : decode cX0_row 87 = .ok (.ifCond .eq 7, 3) := dk_153 0 7 (dk_at dksX0_row_3 19 rfl rfl)
theorem dX0_row_90 : decode cX0_row 90 = .ok (.iconst 1, 1) := dk_4 (dk_at dksX0_row_3 22 rfl rfl)
theorem dX0_row_91 : decode cX0_row 91 = .ok (.goto 4, 3) := dk_167 0 4 (dk_at dksX0_row_4 0 rfl rfl)
theorem dX0_row_94 : decode cX0_row 94 = .ok (.iconst 0, 1) := dk_3 (dk_at dksX0_row_4 3 rfl rfl)
theorem dX0_row_95 : decode cX0_row 95 = .ok (.iadd, 1) := dk_96 (dk_at dksX0_row_4 4 rfl rfl)
theorem dX0_row_96 : decode cX0_row 96 = .ok (.istore_n 2, 1) := dk_61 (dk_at dksX0_row_4 5 rfl rfl)
theorem dX0_row_97 : decode cX0_row 97 = .ok (.aload_n 0, 1) := dk_42 (dk_at dksX0_row_4 6 rfl rfl)
theorem dX0_row_98 : decode cX0_row 98 = .ok (.dup, 1) := dk_89 (dk_at dksX0_row_4 7 rfl rfl)
theorem dX0_row_99 : decode cX0_row 99 = .ok (.getfield 218, 3) := dk_180 0 218 (dk_at dksX0_row_4 8 rfl rfl)
theorem dX0_row_102 : decode cX0_row 102 = .ok (.iload 4, 2) := dk_21 4 (dk_at dksX0_row_4 11 rfl rfl)
theorem dX0_row_104 : decode cX0_row 104 = .ok (.ifCond .eq 7, 3) := dk_153 0 7 (dk_at dksX0_row_4 13 rfl rfl)
theorem dX0_row_107 : decode cX0_row 107 = .ok (.iconst 0, 1) := dk_3 (dk_at dksX0_row_4 16 rfl rfl)
theorem dX0_row_108 : decode cX0_row 108 = .ok (.goto 4, 3) := dk_167 0 4 (dk_at dksX0_row_4 17 rfl rfl)
theorem dX0_row_111 : decode cX0_row 111 = .ok (.iconst 1, 1) := dk_4 (dk_at dksX0_row_4 20 rfl rfl)
theorem dX0_row_112 : decode cX0_row 112 = .ok (.iadd, 1) := dk_96 (dk_at dksX0_row_4 21 rfl rfl)
theorem dX0_row_113 : decode cX0_row 113 = .ok (.putfield 218, 3) := dk_181 0 218 (dk_at dksX0_row_5 0 rfl rfl)
theorem dX0_row_116 : decode cX0_row 116 = .ok (.goto 80, 3) := dk_167 0 80 (dk_at dksX0_row_5 3 rfl rfl)
theorem dX0_row_119 : decode cX0_row 119 = .ok (.astore 5, 2) := dk_58 5 (dk_at dksX0_row_5 6 rfl rfl)
theorem dX0_row_121 : decode cX0_row 121 = .ok (.iconst 0, 1) := dk_3 (dk_at dksX0_row_5 8 rfl rfl)
theorem dX0_row_122 : decode cX0_row 122 = .ok (.istore 4, 2) := dk_54 4 (dk_at dksX0_row_5 9 rfl rfl)
theorem dX0_row_124 : decode cX0_row 124 = .ok (.iload_n 2, 1) := dk_28 (dk_at dksX0_row_5 11 rfl rfl)
theorem dX0_row_125 : decode cX0_row 125 = .ok (.iload 4, 2) := dk_21 4 (dk_at dksX0_row_5 12 rfl rfl)
theorem dX0_row_127 : decode cX0_row 127 = .ok (.ifCond .eq 7, 3) := dk_153 0 7 (dk_at dksX0_row_5 14 rfl rfl)
theorem dX0_row_130 : decode cX0_row 130 = .ok (.iconst 1, 1) := dk_4 (dk_at dksX0_row_5 17 rfl rfl)
theorem dX0_row_131 : decode cX0_row 131 = .ok (.goto 4, 3) := dk_167 0 4 (dk_at dksX0_row_5 18 rfl rfl)
theorem dX0_row_134 : decode cX0_row 134 = .ok (.iconst 0, 1) := dk_3 (dk_at dksX0_row_5 21 rfl rfl)
theorem dX0_row_135 : decode cX0_row 135 = .ok (.iadd, 1) := dk_96 (dk_at dksX0_row_5 22 rfl rfl)
theorem dX0_row_136 : decode cX0_row 136 = .ok (.istore_n 2, 1) := dk_61 (dk_at dksX0_row_5 23 rfl rfl)
theorem dX0_row_137 : decode cX0_row 137 = .ok (.aload_n 0, 1) := dk_42 (dk_at dksX0_row_6 0 rfl rfl)
theorem dX0_row_138 : decode cX0_row 138 = .ok (.dup, 1) := dk_89 (dk_at dksX0_row_6 1 rfl rfl)
theorem dX0_row_139 : decode cX0_row 139 = .ok (.getfield 218, 3) := dk_180 0 218 (dk_at dksX0_row_6 2 rfl rfl)
theorem dX0_row_142 : decode cX0_row 142 = .ok (.iload 4, 2) := dk_21 4 (dk_at dksX0_row_6 5 rfl rfl)
theorem dX0_row_144 : decode cX0_row 144 = .ok (.ifCond .eq 7, 3) := dk_153 0 7 (dk_at dksX0_row_6 7 rfl rfl)
theorem dX0_row_147 : decode cX0_row 147 = .ok (.iconst 0, 1) := dk_3 (dk_at dksX0_row_6 10 rfl rfl)
theorem dX0_row_148 : decode cX0_row 148 = .ok (.goto 4, 3) := dk_167 0 4 (dk_at dksX0_row_6 11 rfl rfl)
theorem dX0_row_151 : decode cX0_row 151 = .ok (.iconst 1, 1) := dk_4 (dk_at dksX0_row_6 14 rfl rfl)
theorem dX0_row_152 : decode cX0_row 152 = .ok (.iadd, 1) := dk_96 (dk_at dksX0_row_6 15 rfl rfl)
theorem dX0_row_153 : decode cX0_row 153 = .ok (.putfield 218, 3) := dk_181 0 218 (dk_at dksX0_row_6 16 rfl rfl)
theorem dX0_row_156 : decode cX0_row 156 = .ok (.goto 40, 3) := dk_167 0 40 (dk_at dksX0_row_6 19 rfl rfl)
theorem dX0_row_159 : decode cX0_row 159 = .ok (.astore 6, 2) := dk_58 6 (dk_at dksX0_row_6 22 rfl rfl)
theorem dX0_row_161 : decode cX0_row 161 = .ok (.iload_n 2, 1) := dk_28 (dk_at dksX0_row_7 0 rfl rfl)
theorem dX0_row_162 : decode cX0_row 162 = .ok (.iload 4, 2) := dk_21 4 (dk_at dksX0_row_7 1 rfl rfl)
theorem dX0_row_164 : decode cX0_row 164 = .ok (.ifCond .eq 7, 3) := dk_153 0 7 (dk_at dksX0_row_7 3 rfl rfl)
theorem dX0_row_167 : decode cX0_row 167 = .ok (.iconst 1, 1) := dk_4 (dk_at dksX0_row_7 6 rfl rfl)
theorem dX0_row_168 : decode cX0_row 168 = .ok (.goto 4, 3) := dk_167 0 4 (dk_at dksX0_row_7 7 rfl rfl)
theorem dX0_row_171 : decode cX0_row 171 = .ok (.iconst 0, 1) := dk_3 (dk_at dksX0_row_7 10 rfl rfl)
theorem dX0_row_172 : decode cX0_row 172 = .ok (.iadd, 1) := dk_96 (dk_at dksX0_row_7 11 rfl rfl)
theorem dX0_row_173 : decode cX0_row 173 = .ok (.istore_n 2, 1) := dk_61 (dk_at dksX0_row_7 12 rfl rfl)
theorem dX0_row_174 : decode cX0_row 174 = .ok (.aload_n 0, 1) := dk_42 (dk_at dksX0_row_7 13 rfl rfl)
theorem dX0_row_175 : decode cX0_row 175 = .ok (.dup, 1) := dk_89 (dk_at dksX0_row_7 14 rfl rfl)
theorem dX0_row_176 : decode cX0_row 176 = .ok (.getfield 218, 3) := dk_180 0 218 (dk_at dksX0_row_7 15 rfl rfl)
theorem dX0_row_179 : decode cX0_row 179 = .ok (.iload 4, 2) := dk_21 4 (dk_at dksX0_row_7 18 rfl rfl)
theorem dX0_row_181 : decode cX0_row 181 = .ok (.ifCond .eq 7, 3) := dk_153 0 7 (dk_at dksX0_row_7 20 rfl rfl)
theorem dX0_row_184 : decode cX0_row 184 = .ok (.iconst 0, 1) := dk_3 (dk_at dksX0_row_7 23 rfl rfl)
theorem dX0_row_185 : decode cX0_row 185 = .ok (.goto 4, 3) := dk_167 0 4 (dk_at dksX0_row_8 0 rfl rfl)
theorem dX0_row_188 : decode cX0_row 188 = .ok (.iconst 1, 1) := dk_4 (dk_at dksX0_row_8 3 rfl rfl)
theorem dX0_row_189 : decode cX0_row 189 = .ok (.iadd, 1) := dk_96 (dk_at dksX0_row_8 4 rfl rfl)
theorem dX0_row_190 : decode cX0_row 190 = .ok (.putfield 218, 3) := dk_181 0 218 (dk_at dksX0_row_8 5 rfl rfl)
theorem dX0_row_193 : decode cX0_row 193 = .ok (.aload 6, 2) := dk_25 6 (dk_at dksX0_row_8 8 rfl rfl)
theorem dX0_row_195 : decode cX0_row 195 = .ok (.athrow, 1) := dk_191 (dk_at dksX0_row_8 10 rfl rfl)
theorem dX0_row_196 : decode cX0_row 196 = .ok (.iinc 3 2, 3) := dk_132 3 2 (dk_at dksX0_row_8 11 rfl rfl)
theorem dX0_row_199 : decode cX0_row 199 = .ok (.goto (-150), 3) := dk_167 255 106 (dk_at dksX0_row_8 14 rfl rfl)
theorem dX0_row_202 : decode cX0_row 202 = .ok (.aload_n 0, 1) := dk_42 (dk_at dksX0_row_8 17 rfl rfl)
theorem dX0_row_203 : decode cX0_row 203 = .ok (.iload_n 2, 1) := dk_28 (dk_at dksX0_row_8 18 rfl rfl)
theorem dX0_row_204 : decode cX0_row 204 = .ok (.invokevirtual 169, 3) := dk_182 0 169 (dk_at dksX0_row_8 19 rfl rfl)
theorem dX0_row_207 : decode cX0_row 207 = .ok (.ireturn, 1) := dk_172 (dk_at dksX0_row_8 22 rfl rfl)
abbrev cX0_byteAt : ByteArray := prog_1_method_25_code
def yX0_byteAt : MethodName := ⟨RX0, "byteAt", "([BI)I"⟩
def dkwX0_byteAt_0 : List UInt8 := [42, 27, 51, 17, 0, 255, 126, 172]
abbrev dktX0_byteAt_0 : List UInt8 := dkwX0_byteAt_0 ++ []
theorem dksX0_byteAt_0 : cX0_byteAt.data.toList.drop 0 = dktX0_byteAt_0 := by decide +kernel
theorem dX0_byteAt_0 : decode cX0_byteAt 0 = .ok (.aload_n 0, 1) := dk_42 (dk_at dksX0_byteAt_0 0 rfl rfl)
theorem dX0_byteAt_1 : decode cX0_byteAt 1 = .ok (.iload_n 1, 1) := dk_27 (dk_at dksX0_byteAt_0 1 rfl rfl)
theorem dX0_byteAt_2 : decode cX0_byteAt 2 = .ok (.baload, 1) := dk_51 (dk_at dksX0_byteAt_0 2 rfl rfl)
theorem dX0_byteAt_3 : decode cX0_byteAt 3 = .ok (.sipush 255, 3) := dk_17 0 255 (dk_at dksX0_byteAt_0 3 rfl rfl)
theorem dX0_byteAt_6 : decode cX0_byteAt 6 = .ok (.iand, 1) := dk_126 (dk_at dksX0_byteAt_0 6 rfl rfl)
theorem dX0_byteAt_7 : decode cX0_byteAt 7 = .ok (.ireturn, 1) := dk_172 (dk_at dksX0_byteAt_0 7 rfl rfl)
abbrev cX0_blots : ByteArray := prog_1_method_27_code
def yX0_blots : MethodName := ⟨RX0, "blots", "()I"⟩
theorem dX0_blots_0 : decode cX0_blots 0 = .ok (.aload_n 0, 1) := by decide +kernel
theorem dX0_blots_1 : decode cX0_blots 1 = .ok (.getfield 218, 3) := by decide +kernel
theorem dX0_blots_4 : decode cX0_blots 4 = .ok (.ireturn, 1) := by decide +kernel
abbrev cX0_law : ByteArray := prog_1_method_28_code
def yX0_law : MethodName := ⟨RX0, "law", "()I"⟩
def dkwX0_law_4 : List UInt8 := [182, 0, 132, 61, 42, 3, 181, 0, 146, 28, 172, 78, 42, 3, 181, 0, 146, 45, 191]
abbrev dktX0_law_4 : List UInt8 := dkwX0_law_4 ++ []
def dkwX0_law_3 : List UInt8 := [182, 0, 132, 60, 42, 3, 181, 0, 146, 27, 172, 76, 42, 43, 180, 0, 251, 181, 0, 71, 42, 16, 250]
abbrev dktX0_law_3 : List UInt8 := dkwX0_law_3 ++ dktX0_law_4
def dkwX0_law_2 : List UInt8 := [182, 0, 245, 87, 42, 2, 181, 0, 71, 42, 42, 180, 0, 18, 180, 0, 227, 182, 0, 231, 4, 100]
abbrev dktX0_law_2 : List UInt8 := dkwX0_law_2 ++ dktX0_law_3
def dkwX0_law_1 : List UInt8 := [182, 0, 132, 172, 42, 180, 0, 18, 180, 0, 227, 187, 0, 236, 89, 42, 183, 0, 238, 182, 0, 241]
abbrev dktX0_law_1 : List UInt8 := dkwX0_law_1 ++ dktX0_law_2
def dkwX0_law_0 : List UInt8 := [42, 180, 0, 18, 180, 0, 227, 182, 0, 231, 16, 6, 160, 0, 15, 42, 3, 181, 0, 146, 42, 16, 251]
abbrev dktX0_law_0 : List UInt8 := dkwX0_law_0 ++ dktX0_law_1
theorem dksX0_law_0 : cX0_law.data.toList.drop 0 = dktX0_law_0 := by decide +kernel
theorem dksX0_law_1 : cX0_law.data.toList.drop 23 = dktX0_law_1 := dk_seg dksX0_law_0 23 rfl rfl
theorem dksX0_law_2 : cX0_law.data.toList.drop 45 = dktX0_law_2 := dk_seg dksX0_law_1 22 rfl rfl
theorem dksX0_law_3 : cX0_law.data.toList.drop 67 = dktX0_law_3 := dk_seg dksX0_law_2 22 rfl rfl
theorem dksX0_law_4 : cX0_law.data.toList.drop 90 = dktX0_law_4 := dk_seg dksX0_law_3 23 rfl rfl
theorem dX0_law_0 : decode cX0_law 0 = .ok (.aload_n 0, 1) := dk_42 (dk_at dksX0_law_0 0 rfl rfl)
theorem dX0_law_1 : decode cX0_law 1 = .ok (.getfield 18, 3) := dk_180 0 18 (dk_at dksX0_law_0 1 rfl rfl)
theorem dX0_law_4 : decode cX0_law 4 = .ok (.getfield 227, 3) := dk_180 0 227 (dk_at dksX0_law_0 4 rfl rfl)
theorem dX0_law_7 : decode cX0_law 7 = .ok (.invokevirtual 231, 3) := dk_182 0 231 (dk_at dksX0_law_0 7 rfl rfl)
theorem dX0_law_10 : decode cX0_law 10 = .ok (.bipush 6, 2) := dk_16 6 (dk_at dksX0_law_0 10 rfl rfl)
theorem dX0_law_12 : decode cX0_law 12 = .ok (.if_icmp .ne 15, 3) := dk_160 0 15 (dk_at dksX0_law_0 12 rfl rfl)
theorem dX0_law_15 : decode cX0_law 15 = .ok (.aload_n 0, 1) := dk_42 (dk_at dksX0_law_0 15 rfl rfl)
theorem dX0_law_16 : decode cX0_law 16 = .ok (.iconst 0, 1) := dk_3 (dk_at dksX0_law_0 16 rfl rfl)
theorem dX0_law_17 : decode cX0_law 17 = .ok (.putfield 146, 3) := dk_181 0 146 (dk_at dksX0_law_0 17 rfl rfl)
theorem dX0_law_20 : decode cX0_law 20 = .ok (.aload_n 0, 1) := dk_42 (dk_at dksX0_law_0 20 rfl rfl)
theorem dX0_law_21 : decode cX0_law 21 = .ok (.bipush (-5), 2) := dk_16 251 (dk_at dksX0_law_0 21 rfl rfl)
theorem dX0_law_23 : decode cX0_law 23 = .ok (.invokevirtual 132, 3) := dk_182 0 132 (dk_at dksX0_law_1 0 rfl rfl)
theorem dX0_law_26 : decode cX0_law 26 = .ok (.ireturn, 1) := dk_172 (dk_at dksX0_law_1 3 rfl rfl)
theorem dX0_law_27 : decode cX0_law 27 = .ok (.aload_n 0, 1) := dk_42 (dk_at dksX0_law_1 4 rfl rfl)
theorem dX0_law_28 : decode cX0_law 28 = .ok (.getfield 18, 3) := dk_180 0 18 (dk_at dksX0_law_1 5 rfl rfl)
theorem dX0_law_31 : decode cX0_law 31 = .ok (.getfield 227, 3) := dk_180 0 227 (dk_at dksX0_law_1 8 rfl rfl)
theorem dX0_law_34 : decode cX0_law 34 = .ok (.new 236, 3) := dk_187 0 236 (dk_at dksX0_law_1 11 rfl rfl)
theorem dX0_law_37 : decode cX0_law 37 = .ok (.dup, 1) := dk_89 (dk_at dksX0_law_1 14 rfl rfl)
theorem dX0_law_38 : decode cX0_law 38 = .ok (.aload_n 0, 1) := dk_42 (dk_at dksX0_law_1 15 rfl rfl)
theorem dX0_law_39 : decode cX0_law 39 = .ok (.invokespecial 238, 3) := dk_183 0 238 (dk_at dksX0_law_1 16 rfl rfl)
theorem dX0_law_42 : decode cX0_law 42 = .ok (.invokevirtual 241, 3) := dk_182 0 241 (dk_at dksX0_law_1 19 rfl rfl)
theorem dX0_law_45 : decode cX0_law 45 = .ok (.invokevirtual 245, 3) := dk_182 0 245 (dk_at dksX0_law_2 0 rfl rfl)
theorem dX0_law_48 : decode cX0_law 48 = .ok (.pop, 1) := dk_87 (dk_at dksX0_law_2 3 rfl rfl)
theorem dX0_law_49 : decode cX0_law 49 = .ok (.aload_n 0, 1) := dk_42 (dk_at dksX0_law_2 4 rfl rfl)
theorem dX0_law_50 : decode cX0_law 50 = .ok (.iconst (-1), 1) := dk_2 (dk_at dksX0_law_2 5 rfl rfl)
theorem dX0_law_51 : decode cX0_law 51 = .ok (.putfield 71, 3) := dk_181 0 71 (dk_at dksX0_law_2 6 rfl rfl)
theorem dX0_law_54 : decode cX0_law 54 = .ok (.aload_n 0, 1) := dk_42 (dk_at dksX0_law_2 9 rfl rfl)
theorem dX0_law_55 : decode cX0_law 55 = .ok (.aload_n 0, 1) := dk_42 (dk_at dksX0_law_2 10 rfl rfl)
theorem dX0_law_56 : decode cX0_law 56 = .ok (.getfield 18, 3) := dk_180 0 18 (dk_at dksX0_law_2 11 rfl rfl)
theorem dX0_law_59 : decode cX0_law 59 = .ok (.getfield 227, 3) := dk_180 0 227 (dk_at dksX0_law_2 14 rfl rfl)
theorem dX0_law_62 : decode cX0_law 62 = .ok (.invokevirtual 231, 3) := dk_182 0 231 (dk_at dksX0_law_2 17 rfl rfl)
theorem dX0_law_65 : decode cX0_law 65 = .ok (.iconst 1, 1) := dk_4 (dk_at dksX0_law_2 20 rfl rfl)
theorem dX0_law_66 : decode cX0_law 66 = .ok (.isub, 1) := dk_100 (dk_at dksX0_law_2 21 rfl rfl)
theorem dX0_law_67 : decode cX0_law 67 = .ok (.invokevirtual 132, 3) := dk_182 0 132 (dk_at dksX0_law_3 0 rfl rfl)
theorem dX0_law_70 : decode cX0_law 70 = .ok (.istore_n 1, 1) := dk_60 (dk_at dksX0_law_3 3 rfl rfl)
theorem dX0_law_71 : decode cX0_law 71 = .ok (.aload_n 0, 1) := dk_42 (dk_at dksX0_law_3 4 rfl rfl)
theorem dX0_law_72 : decode cX0_law 72 = .ok (.iconst 0, 1) := dk_3 (dk_at dksX0_law_3 5 rfl rfl)
theorem dX0_law_73 : decode cX0_law 73 = .ok (.putfield 146, 3) := dk_181 0 146 (dk_at dksX0_law_3 6 rfl rfl)
theorem dX0_law_76 : decode cX0_law 76 = .ok (.iload_n 1, 1) := dk_27 (dk_at dksX0_law_3 9 rfl rfl)
theorem dX0_law_77 : decode cX0_law 77 = .ok (.ireturn, 1) := dk_172 (dk_at dksX0_law_3 10 rfl rfl)
theorem dX0_law_78 : decode cX0_law 78 = .ok (.astore_n 1, 1) := dk_76 (dk_at dksX0_law_3 11 rfl rfl)
theorem dX0_law_79 : decode cX0_law 79 = .ok (.aload_n 0, 1) := dk_42 (dk_at dksX0_law_3 12 rfl rfl)
theorem dX0_law_80 : decode cX0_law 80 = .ok (.aload_n 1, 1) := dk_43 (dk_at dksX0_law_3 13 rfl rfl)
theorem dX0_law_81 : decode cX0_law 81 = .ok (.getfield 251, 3) := dk_180 0 251 (dk_at dksX0_law_3 14 rfl rfl)
theorem dX0_law_84 : decode cX0_law 84 = .ok (.putfield 71, 3) := dk_181 0 71 (dk_at dksX0_law_3 17 rfl rfl)
theorem dX0_law_87 : decode cX0_law 87 = .ok (.aload_n 0, 1) := dk_42 (dk_at dksX0_law_3 20 rfl rfl)
theorem dX0_law_88 : decode cX0_law 88 = .ok (.bipush (-6), 2) := dk_16 250 (dk_at dksX0_law_3 21 rfl rfl)
theorem dX0_law_90 : decode cX0_law 90 = .ok (.invokevirtual 132, 3) := dk_182 0 132 (dk_at dksX0_law_4 0 rfl rfl)
theorem dX0_law_93 : decode cX0_law 93 = .ok (.istore_n 2, 1) := dk_61 (dk_at dksX0_law_4 3 rfl rfl)
theorem dX0_law_94 : decode cX0_law 94 = .ok (.aload_n 0, 1) := dk_42 (dk_at dksX0_law_4 4 rfl rfl)
theorem dX0_law_95 : decode cX0_law 95 = .ok (.iconst 0, 1) := dk_3 (dk_at dksX0_law_4 5 rfl rfl)
theorem dX0_law_96 : decode cX0_law 96 = .ok (.putfield 146, 3) := dk_181 0 146 (dk_at dksX0_law_4 6 rfl rfl)
theorem dX0_law_99 : decode cX0_law 99 = .ok (.iload_n 2, 1) := dk_28 (dk_at dksX0_law_4 9 rfl rfl)
theorem dX0_law_100 : decode cX0_law 100 = .ok (.ireturn, 1) := dk_172 (dk_at dksX0_law_4 10 rfl rfl)
theorem dX0_law_101 : decode cX0_law 101 = .ok (.astore_n 3, 1) := dk_78 (dk_at dksX0_law_4 11 rfl rfl)
theorem dX0_law_102 : decode cX0_law 102 = .ok (.aload_n 0, 1) := dk_42 (dk_at dksX0_law_4 12 rfl rfl)
theorem dX0_law_103 : decode cX0_law 103 = .ok (.iconst 0, 1) := dk_3 (dk_at dksX0_law_4 13 rfl rfl)
theorem dX0_law_104 : decode cX0_law 104 = .ok (.putfield 146, 3) := dk_181 0 146 (dk_at dksX0_law_4 14 rfl rfl)
theorem dX0_law_107 : decode cX0_law 107 = .ok (.aload_n 3, 1) := dk_45 (dk_at dksX0_law_4 17 rfl rfl)
theorem dX0_law_108 : decode cX0_law 108 = .ok (.athrow, 1) := dk_191 (dk_at dksX0_law_4 18 rfl rfl)
abbrev cX0_isLetter : ByteArray := prog_1_method_14_code
def yX0_isLetter : MethodName := ⟨RX0, "isLetter", "(I)Z"⟩
def dkwX0_isLetter_0 : List UInt8 := [26, 16, 97, 161, 0, 13, 26, 16, 122, 163, 0, 7, 4, 167, 0, 4, 3, 172]
abbrev dktX0_isLetter_0 : List UInt8 := dkwX0_isLetter_0 ++ []
theorem dksX0_isLetter_0 : cX0_isLetter.data.toList.drop 0 = dktX0_isLetter_0 := by decide +kernel
theorem dX0_isLetter_0 : decode cX0_isLetter 0 = .ok (.iload_n 0, 1) := dk_26 (dk_at dksX0_isLetter_0 0 rfl rfl)
theorem dX0_isLetter_1 : decode cX0_isLetter 1 = .ok (.bipush 97, 2) := dk_16 97 (dk_at dksX0_isLetter_0 1 rfl rfl)
theorem dX0_isLetter_3 : decode cX0_isLetter 3 = .ok (.if_icmp .lt 13, 3) := dk_161 0 13 (dk_at dksX0_isLetter_0 3 rfl rfl)
theorem dX0_isLetter_6 : decode cX0_isLetter 6 = .ok (.iload_n 0, 1) := dk_26 (dk_at dksX0_isLetter_0 6 rfl rfl)
theorem dX0_isLetter_7 : decode cX0_isLetter 7 = .ok (.bipush 122, 2) := dk_16 122 (dk_at dksX0_isLetter_0 7 rfl rfl)
theorem dX0_isLetter_9 : decode cX0_isLetter 9 = .ok (.if_icmp .gt 7, 3) := dk_163 0 7 (dk_at dksX0_isLetter_0 9 rfl rfl)
theorem dX0_isLetter_12 : decode cX0_isLetter 12 = .ok (.iconst 1, 1) := dk_4 (dk_at dksX0_isLetter_0 12 rfl rfl)
theorem dX0_isLetter_13 : decode cX0_isLetter 13 = .ok (.goto 4, 3) := dk_167 0 4 (dk_at dksX0_isLetter_0 13 rfl rfl)
theorem dX0_isLetter_16 : decode cX0_isLetter 16 = .ok (.iconst 0, 1) := dk_3 (dk_at dksX0_isLetter_0 16 rfl rfl)
theorem dX0_isLetter_17 : decode cX0_isLetter 17 = .ok (.ireturn, 1) := dk_172 (dk_at dksX0_isLetter_0 17 rfl rfl)
abbrev cX0_isDigit : ByteArray := prog_1_method_15_code
def yX0_isDigit : MethodName := ⟨RX0, "isDigit", "(I)Z"⟩
def dkwX0_isDigit_0 : List UInt8 := [26, 16, 48, 161, 0, 13, 26, 16, 57, 163, 0, 7, 4, 167, 0, 4, 3, 172]
abbrev dktX0_isDigit_0 : List UInt8 := dkwX0_isDigit_0 ++ []
theorem dksX0_isDigit_0 : cX0_isDigit.data.toList.drop 0 = dktX0_isDigit_0 := by decide +kernel
theorem dX0_isDigit_0 : decode cX0_isDigit 0 = .ok (.iload_n 0, 1) := dk_26 (dk_at dksX0_isDigit_0 0 rfl rfl)
theorem dX0_isDigit_1 : decode cX0_isDigit 1 = .ok (.bipush 48, 2) := dk_16 48 (dk_at dksX0_isDigit_0 1 rfl rfl)
theorem dX0_isDigit_3 : decode cX0_isDigit 3 = .ok (.if_icmp .lt 13, 3) := dk_161 0 13 (dk_at dksX0_isDigit_0 3 rfl rfl)
theorem dX0_isDigit_6 : decode cX0_isDigit 6 = .ok (.iload_n 0, 1) := dk_26 (dk_at dksX0_isDigit_0 6 rfl rfl)
theorem dX0_isDigit_7 : decode cX0_isDigit 7 = .ok (.bipush 57, 2) := dk_16 57 (dk_at dksX0_isDigit_0 7 rfl rfl)
theorem dX0_isDigit_9 : decode cX0_isDigit 9 = .ok (.if_icmp .gt 7, 3) := dk_163 0 7 (dk_at dksX0_isDigit_0 9 rfl rfl)
theorem dX0_isDigit_12 : decode cX0_isDigit 12 = .ok (.iconst 1, 1) := dk_4 (dk_at dksX0_isDigit_0 12 rfl rfl)
theorem dX0_isDigit_13 : decode cX0_isDigit 13 = .ok (.goto 4, 3) := dk_167 0 4 (dk_at dksX0_isDigit_0 13 rfl rfl)
theorem dX0_isDigit_16 : decode cX0_isDigit 16 = .ok (.iconst 0, 1) := dk_3 (dk_at dksX0_isDigit_0 16 rfl rfl)
theorem dX0_isDigit_17 : decode cX0_isDigit 17 = .ok (.ireturn, 1) := dk_172 (dk_at dksX0_isDigit_0 17 rfl rfl)
abbrev cX0_fault : ByteArray := prog_1_method_29_code
def yX0_fault : MethodName := ⟨RX0, "fault", "()I"⟩
theorem dX0_fault_0 : decode cX0_fault 0 = .ok (.aload_n 0, 1) := by decide +kernel
theorem dX0_fault_1 : decode cX0_fault 1 = .ok (.getfield 71, 3) := by decide +kernel
theorem dX0_fault_4 : decode cX0_fault 4 = .ok (.ireturn, 1) := by decide +kernel
abbrev cX0_force : ByteArray := prog_1_method_31_code
def yX0_force : MethodName := ⟨RX0, "force", "(I)I"⟩
def dkwX0_force_1 : List UInt8 := [180, 0, 18, 27, 181, 1, 1, 42, 28, 182, 0, 209, 172]
abbrev dktX0_force_1 : List UInt8 := dkwX0_force_1 ++ []
def dkwX0_force_0 : List UInt8 := [42, 27, 182, 0, 254, 154, 0, 10, 42, 16, 254, 182, 0, 132, 172, 42, 180, 0, 18, 180, 1, 1, 61, 42]
abbrev dktX0_force_0 : List UInt8 := dkwX0_force_0 ++ dktX0_force_1
theorem dksX0_force_0 : cX0_force.data.toList.drop 0 = dktX0_force_0 := by decide +kernel
theorem dksX0_force_1 : cX0_force.data.toList.drop 24 = dktX0_force_1 := dk_seg dksX0_force_0 24 rfl rfl
theorem dX0_force_0 : decode cX0_force 0 = .ok (.aload_n 0, 1) := dk_42 (dk_at dksX0_force_0 0 rfl rfl)
theorem dX0_force_1 : decode cX0_force 1 = .ok (.iload_n 1, 1) := dk_27 (dk_at dksX0_force_0 1 rfl rfl)
theorem dX0_force_2 : decode cX0_force 2 = .ok (.invokevirtual 254, 3) := dk_182 0 254 (dk_at dksX0_force_0 2 rfl rfl)
theorem dX0_force_5 : decode cX0_force 5 = .ok (.ifCond .ne 10, 3) := dk_154 0 10 (dk_at dksX0_force_0 5 rfl rfl)
theorem dX0_force_8 : decode cX0_force 8 = .ok (.aload_n 0, 1) := dk_42 (dk_at dksX0_force_0 8 rfl rfl)
theorem dX0_force_9 : decode cX0_force 9 = .ok (.bipush (-2), 2) := dk_16 254 (dk_at dksX0_force_0 9 rfl rfl)
theorem dX0_force_11 : decode cX0_force 11 = .ok (.invokevirtual 132, 3) := dk_182 0 132 (dk_at dksX0_force_0 11 rfl rfl)
theorem dX0_force_14 : decode cX0_force 14 = .ok (.ireturn, 1) := dk_172 (dk_at dksX0_force_0 14 rfl rfl)
theorem dX0_force_15 : decode cX0_force 15 = .ok (.aload_n 0, 1) := dk_42 (dk_at dksX0_force_0 15 rfl rfl)
theorem dX0_force_16 : decode cX0_force 16 = .ok (.getfield 18, 3) := dk_180 0 18 (dk_at dksX0_force_0 16 rfl rfl)
theorem dX0_force_19 : decode cX0_force 19 = .ok (.getfield 257, 3) := dk_180 1 1 (dk_at dksX0_force_0 19 rfl rfl)
theorem dX0_force_22 : decode cX0_force 22 = .ok (.istore_n 2, 1) := dk_61 (dk_at dksX0_force_0 22 rfl rfl)
theorem dX0_force_23 : decode cX0_force 23 = .ok (.aload_n 0, 1) := dk_42 (dk_at dksX0_force_0 23 rfl rfl)
theorem dX0_force_24 : decode cX0_force 24 = .ok (.getfield 18, 3) := dk_180 0 18 (dk_at dksX0_force_1 0 rfl rfl)
theorem dX0_force_27 : decode cX0_force 27 = .ok (.iload_n 1, 1) := dk_27 (dk_at dksX0_force_1 3 rfl rfl)
theorem dX0_force_28 : decode cX0_force 28 = .ok (.putfield 257, 3) := dk_181 1 1 (dk_at dksX0_force_1 4 rfl rfl)
theorem dX0_force_31 : decode cX0_force 31 = .ok (.aload_n 0, 1) := dk_42 (dk_at dksX0_force_1 7 rfl rfl)
theorem dX0_force_32 : decode cX0_force 32 = .ok (.iload_n 2, 1) := dk_28 (dk_at dksX0_force_1 8 rfl rfl)
theorem dX0_force_33 : decode cX0_force 33 = .ok (.invokevirtual 209, 3) := dk_182 0 209 (dk_at dksX0_force_1 9 rfl rfl)
theorem dX0_force_36 : decode cX0_force 36 = .ok (.ireturn, 1) := dk_172 (dk_at dksX0_force_1 12 rfl rfl)
abbrev cX0_isLaw : ByteArray := prog_1_method_30_code
def yX0_isLaw : MethodName := ⟨RX0, "isLaw", "(I)Z"⟩
def dkwX0_isLaw_1 : List UInt8 := [153, 0, 7, 4, 167, 0, 4, 3, 172]
abbrev dktX0_isLaw_1 : List UInt8 := dkwX0_isLaw_1 ++ []
def dkwX0_isLaw_0 : List UInt8 := [27, 2, 159, 0, 25, 27, 133, 9, 42, 180, 0, 18, 180, 0, 227, 182, 0, 231, 4, 100, 133, 184, 0, 5]
abbrev dktX0_isLaw_0 : List UInt8 := dkwX0_isLaw_0 ++ dktX0_isLaw_1
theorem dksX0_isLaw_0 : cX0_isLaw.data.toList.drop 0 = dktX0_isLaw_0 := by decide +kernel
theorem dksX0_isLaw_1 : cX0_isLaw.data.toList.drop 24 = dktX0_isLaw_1 := dk_seg dksX0_isLaw_0 24 rfl rfl
theorem dX0_isLaw_0 : decode cX0_isLaw 0 = .ok (.iload_n 1, 1) := dk_27 (dk_at dksX0_isLaw_0 0 rfl rfl)
theorem dX0_isLaw_1 : decode cX0_isLaw 1 = .ok (.iconst (-1), 1) := dk_2 (dk_at dksX0_isLaw_0 1 rfl rfl)
theorem dX0_isLaw_2 : decode cX0_isLaw 2 = .ok (.if_icmp .eq 25, 3) := dk_159 0 25 (dk_at dksX0_isLaw_0 2 rfl rfl)
theorem dX0_isLaw_5 : decode cX0_isLaw 5 = .ok (.iload_n 1, 1) := dk_27 (dk_at dksX0_isLaw_0 5 rfl rfl)
theorem dX0_isLaw_6 : decode cX0_isLaw 6 = .ok (.i2l, 1) := dk_133 (dk_at dksX0_isLaw_0 6 rfl rfl)
theorem dX0_isLaw_7 : decode cX0_isLaw 7 = .ok (.lconst 0, 1) := dk_9 (dk_at dksX0_isLaw_0 7 rfl rfl)
theorem dX0_isLaw_8 : decode cX0_isLaw 8 = .ok (.aload_n 0, 1) := dk_42 (dk_at dksX0_isLaw_0 8 rfl rfl)
theorem dX0_isLaw_9 : decode cX0_isLaw 9 = .ok (.getfield 18, 3) := dk_180 0 18 (dk_at dksX0_isLaw_0 9 rfl rfl)
theorem dX0_isLaw_12 : decode cX0_isLaw 12 = .ok (.getfield 227, 3) := dk_180 0 227 (dk_at dksX0_isLaw_0 12 rfl rfl)
theorem dX0_isLaw_15 : decode cX0_isLaw 15 = .ok (.invokevirtual 231, 3) := dk_182 0 231 (dk_at dksX0_isLaw_0 15 rfl rfl)
theorem dX0_isLaw_18 : decode cX0_isLaw 18 = .ok (.iconst 1, 1) := dk_4 (dk_at dksX0_isLaw_0 18 rfl rfl)
theorem dX0_isLaw_19 : decode cX0_isLaw 19 = .ok (.isub, 1) := dk_100 (dk_at dksX0_isLaw_0 19 rfl rfl)
theorem dX0_isLaw_20 : decode cX0_isLaw 20 = .ok (.i2l, 1) := dk_133 (dk_at dksX0_isLaw_0 20 rfl rfl)
theorem dX0_isLaw_21 : decode cX0_isLaw 21 = .ok (.invokestatic 5, 3) := dk_184 0 5 (dk_at dksX0_isLaw_0 21 rfl rfl)
theorem dX0_isLaw_24 : decode cX0_isLaw 24 = .ok (.ifCond .eq 7, 3) := dk_153 0 7 (dk_at dksX0_isLaw_1 0 rfl rfl)
theorem dX0_isLaw_27 : decode cX0_isLaw 27 = .ok (.iconst 1, 1) := dk_4 (dk_at dksX0_isLaw_1 3 rfl rfl)
theorem dX0_isLaw_28 : decode cX0_isLaw 28 = .ok (.goto 4, 3) := dk_167 0 4 (dk_at dksX0_isLaw_1 4 rfl rfl)
theorem dX0_isLaw_31 : decode cX0_isLaw 31 = .ok (.iconst 0, 1) := dk_3 (dk_at dksX0_isLaw_1 7 rfl rfl)
theorem dX0_isLaw_32 : decode cX0_isLaw 32 = .ok (.ireturn, 1) := dk_172 (dk_at dksX0_isLaw_1 8 rfl rfl)
abbrev cX0_all : ByteArray := prog_1_method_43_code
def yX0_all : MethodName := ⟨RX0, "all", "(I)I"⟩
def dkwX0_all_1 : List UInt8 := [182, 1, 47, 167, 0, 4, 2, 172]
abbrev dktX0_all_1 : List UInt8 := dkwX0_all_1 ++ []
def dkwX0_all_0 : List UInt8 := [27, 5, 160, 0, 10, 42, 182, 1, 44, 167, 0, 22, 27, 133, 9, 10, 184, 0, 5, 153, 0, 11, 42, 27]
abbrev dktX0_all_0 : List UInt8 := dkwX0_all_0 ++ dktX0_all_1
theorem dksX0_all_0 : cX0_all.data.toList.drop 0 = dktX0_all_0 := by decide +kernel
theorem dksX0_all_1 : cX0_all.data.toList.drop 24 = dktX0_all_1 := dk_seg dksX0_all_0 24 rfl rfl
theorem dX0_all_0 : decode cX0_all 0 = .ok (.iload_n 1, 1) := dk_27 (dk_at dksX0_all_0 0 rfl rfl)
theorem dX0_all_1 : decode cX0_all 1 = .ok (.iconst 2, 1) := dk_5 (dk_at dksX0_all_0 1 rfl rfl)
theorem dX0_all_2 : decode cX0_all 2 = .ok (.if_icmp .ne 10, 3) := dk_160 0 10 (dk_at dksX0_all_0 2 rfl rfl)
theorem dX0_all_5 : decode cX0_all 5 = .ok (.aload_n 0, 1) := dk_42 (dk_at dksX0_all_0 5 rfl rfl)
theorem dX0_all_6 : decode cX0_all 6 = .ok (.invokevirtual 300, 3) := dk_182 1 44 (dk_at dksX0_all_0 6 rfl rfl)
theorem dX0_all_9 : decode cX0_all 9 = .ok (.goto 22, 3) := dk_167 0 22 (dk_at dksX0_all_0 9 rfl rfl)
theorem dX0_all_12 : decode cX0_all 12 = .ok (.iload_n 1, 1) := dk_27 (dk_at dksX0_all_0 12 rfl rfl)
theorem dX0_all_13 : decode cX0_all 13 = .ok (.i2l, 1) := dk_133 (dk_at dksX0_all_0 13 rfl rfl)
theorem dX0_all_14 : decode cX0_all 14 = .ok (.lconst 0, 1) := dk_9 (dk_at dksX0_all_0 14 rfl rfl)
theorem dX0_all_15 : decode cX0_all 15 = .ok (.lconst 1, 1) := dk_10 (dk_at dksX0_all_0 15 rfl rfl)
theorem dX0_all_16 : decode cX0_all 16 = .ok (.invokestatic 5, 3) := dk_184 0 5 (dk_at dksX0_all_0 16 rfl rfl)
theorem dX0_all_19 : decode cX0_all 19 = .ok (.ifCond .eq 11, 3) := dk_153 0 11 (dk_at dksX0_all_0 19 rfl rfl)
theorem dX0_all_22 : decode cX0_all 22 = .ok (.aload_n 0, 1) := dk_42 (dk_at dksX0_all_0 22 rfl rfl)
theorem dX0_all_23 : decode cX0_all 23 = .ok (.iload_n 1, 1) := dk_27 (dk_at dksX0_all_0 23 rfl rfl)
theorem dX0_all_24 : decode cX0_all 24 = .ok (.invokevirtual 303, 3) := dk_182 1 47 (dk_at dksX0_all_1 0 rfl rfl)
theorem dX0_all_27 : decode cX0_all 27 = .ok (.goto 4, 3) := dk_167 0 4 (dk_at dksX0_all_1 3 rfl rfl)
theorem dX0_all_30 : decode cX0_all 30 = .ok (.iconst (-1), 1) := dk_2 (dk_at dksX0_all_1 6 rfl rfl)
theorem dX0_all_31 : decode cX0_all 31 = .ok (.ireturn, 1) := dk_172 (dk_at dksX0_all_1 7 rfl rfl)
abbrev cX0_barredOnes : ByteArray := prog_1_method_41_code
def yX0_barredOnes : MethodName := ⟨RX0, "barredOnes", "()I"⟩
def dkwX0_barredOnes_1 : List UInt8 := [167, 0, 4, 3, 96, 60, 132, 2, 1, 167, 255, 229, 27, 172]
abbrev dktX0_barredOnes_1 : List UInt8 := dkwX0_barredOnes_1 ++ []
def dkwX0_barredOnes_0 : List UInt8 := [3, 60, 3, 61, 28, 42, 182, 0, 142, 162, 0, 25, 27, 42, 28, 182, 0, 181, 153, 0, 7, 4]
abbrev dktX0_barredOnes_0 : List UInt8 := dkwX0_barredOnes_0 ++ dktX0_barredOnes_1
theorem dksX0_barredOnes_0 : cX0_barredOnes.data.toList.drop 0 = dktX0_barredOnes_0 := by decide +kernel
theorem dksX0_barredOnes_1 : cX0_barredOnes.data.toList.drop 22 = dktX0_barredOnes_1 := dk_seg dksX0_barredOnes_0 22 rfl rfl
theorem dX0_barredOnes_0 : decode cX0_barredOnes 0 = .ok (.iconst 0, 1) := dk_3 (dk_at dksX0_barredOnes_0 0 rfl rfl)
theorem dX0_barredOnes_1 : decode cX0_barredOnes 1 = .ok (.istore_n 1, 1) := dk_60 (dk_at dksX0_barredOnes_0 1 rfl rfl)
theorem dX0_barredOnes_2 : decode cX0_barredOnes 2 = .ok (.iconst 0, 1) := dk_3 (dk_at dksX0_barredOnes_0 2 rfl rfl)
theorem dX0_barredOnes_3 : decode cX0_barredOnes 3 = .ok (.istore_n 2, 1) := dk_61 (dk_at dksX0_barredOnes_0 3 rfl rfl)
theorem dX0_barredOnes_4 : decode cX0_barredOnes 4 = .ok (.iload_n 2, 1) := dk_28 (dk_at dksX0_barredOnes_0 4 rfl rfl)
theorem dX0_barredOnes_5 : decode cX0_barredOnes 5 = .ok (.aload_n 0, 1) := dk_42 (dk_at dksX0_barredOnes_0 5 rfl rfl)
theorem dX0_barredOnes_6 : decode cX0_barredOnes 6 = .ok (.invokevirtual 142, 3) := dk_182 0 142 (dk_at dksX0_barredOnes_0 6 rfl rfl)
theorem dX0_barredOnes_9 : decode cX0_barredOnes 9 = .ok (.if_icmp .ge 25, 3) := dk_162 0 25 (dk_at dksX0_barredOnes_0 9 rfl rfl)
theorem dX0_barredOnes_12 : decode cX0_barredOnes 12 = .ok (.iload_n 1, 1) := dk_27 (dk_at dksX0_barredOnes_0 12 rfl rfl)
theorem dX0_barredOnes_13 : decode cX0_barredOnes 13 = .ok (.aload_n 0, 1) := dk_42 (dk_at dksX0_barredOnes_0 13 rfl rfl)
theorem dX0_barredOnes_14 : decode cX0_barredOnes 14 = .ok (.iload_n 2, 1) := dk_28 (dk_at dksX0_barredOnes_0 14 rfl rfl)
theorem dX0_barredOnes_15 : decode cX0_barredOnes 15 = .ok (.invokevirtual 181, 3) := dk_182 0 181 (dk_at dksX0_barredOnes_0 15 rfl rfl)
theorem dX0_barredOnes_18 : decode cX0_barredOnes 18 = .ok (.ifCond .eq 7, 3) := dk_153 0 7 (dk_at dksX0_barredOnes_0 18 rfl rfl)
theorem dX0_barredOnes_21 : decode cX0_barredOnes 21 = .ok (.iconst 1, 1) := dk_4 (dk_at dksX0_barredOnes_0 21 rfl rfl)
theorem dX0_barredOnes_22 : decode cX0_barredOnes 22 = .ok (.goto 4, 3) := dk_167 0 4 (dk_at dksX0_barredOnes_1 0 rfl rfl)
theorem dX0_barredOnes_25 : decode cX0_barredOnes 25 = .ok (.iconst 0, 1) := dk_3 (dk_at dksX0_barredOnes_1 3 rfl rfl)
theorem dX0_barredOnes_26 : decode cX0_barredOnes 26 = .ok (.iadd, 1) := dk_96 (dk_at dksX0_barredOnes_1 4 rfl rfl)
theorem dX0_barredOnes_27 : decode cX0_barredOnes 27 = .ok (.istore_n 1, 1) := dk_60 (dk_at dksX0_barredOnes_1 5 rfl rfl)
theorem dX0_barredOnes_28 : decode cX0_barredOnes 28 = .ok (.iinc 2 1, 3) := dk_132 2 1 (dk_at dksX0_barredOnes_1 6 rfl rfl)
theorem dX0_barredOnes_31 : decode cX0_barredOnes 31 = .ok (.goto (-27), 3) := dk_167 255 229 (dk_at dksX0_barredOnes_1 9 rfl rfl)
theorem dX0_barredOnes_34 : decode cX0_barredOnes 34 = .ok (.iload_n 1, 1) := dk_27 (dk_at dksX0_barredOnes_1 12 rfl rfl)
theorem dX0_barredOnes_35 : decode cX0_barredOnes 35 = .ok (.ireturn, 1) := dk_172 (dk_at dksX0_barredOnes_1 13 rfl rfl)
abbrev cX0_sumOf : ByteArray := prog_1_method_42_code
def yX0_sumOf : MethodName := ⟨RX0, "sumOf", "(I)I"⟩
def dkwX0_sumOf_1 : List UInt8 := [167, 0, 8, 42, 29, 182, 0, 178, 96, 61, 132, 3, 1, 167, 255, 225, 28, 172]
abbrev dktX0_sumOf_1 : List UInt8 := dkwX0_sumOf_1 ++ []
def dkwX0_sumOf_0 : List UInt8 := [3, 61, 3, 62, 29, 42, 182, 0, 142, 162, 0, 29, 28, 27, 154, 0, 11, 42, 29, 182, 0, 175]
abbrev dktX0_sumOf_0 : List UInt8 := dkwX0_sumOf_0 ++ dktX0_sumOf_1
theorem dksX0_sumOf_0 : cX0_sumOf.data.toList.drop 0 = dktX0_sumOf_0 := by decide +kernel
theorem dksX0_sumOf_1 : cX0_sumOf.data.toList.drop 22 = dktX0_sumOf_1 := dk_seg dksX0_sumOf_0 22 rfl rfl
theorem dX0_sumOf_0 : decode cX0_sumOf 0 = .ok (.iconst 0, 1) := dk_3 (dk_at dksX0_sumOf_0 0 rfl rfl)
theorem dX0_sumOf_1 : decode cX0_sumOf 1 = .ok (.istore_n 2, 1) := dk_61 (dk_at dksX0_sumOf_0 1 rfl rfl)
theorem dX0_sumOf_2 : decode cX0_sumOf 2 = .ok (.iconst 0, 1) := dk_3 (dk_at dksX0_sumOf_0 2 rfl rfl)
theorem dX0_sumOf_3 : decode cX0_sumOf 3 = .ok (.istore_n 3, 1) := dk_62 (dk_at dksX0_sumOf_0 3 rfl rfl)
theorem dX0_sumOf_4 : decode cX0_sumOf 4 = .ok (.iload_n 3, 1) := dk_29 (dk_at dksX0_sumOf_0 4 rfl rfl)
theorem dX0_sumOf_5 : decode cX0_sumOf 5 = .ok (.aload_n 0, 1) := dk_42 (dk_at dksX0_sumOf_0 5 rfl rfl)
theorem dX0_sumOf_6 : decode cX0_sumOf 6 = .ok (.invokevirtual 142, 3) := dk_182 0 142 (dk_at dksX0_sumOf_0 6 rfl rfl)
theorem dX0_sumOf_9 : decode cX0_sumOf 9 = .ok (.if_icmp .ge 29, 3) := dk_162 0 29 (dk_at dksX0_sumOf_0 9 rfl rfl)
theorem dX0_sumOf_12 : decode cX0_sumOf 12 = .ok (.iload_n 2, 1) := dk_28 (dk_at dksX0_sumOf_0 12 rfl rfl)
theorem dX0_sumOf_13 : decode cX0_sumOf 13 = .ok (.iload_n 1, 1) := dk_27 (dk_at dksX0_sumOf_0 13 rfl rfl)
theorem dX0_sumOf_14 : decode cX0_sumOf 14 = .ok (.ifCond .ne 11, 3) := dk_154 0 11 (dk_at dksX0_sumOf_0 14 rfl rfl)
theorem dX0_sumOf_17 : decode cX0_sumOf 17 = .ok (.aload_n 0, 1) := dk_42 (dk_at dksX0_sumOf_0 17 rfl rfl)
theorem dX0_sumOf_18 : decode cX0_sumOf 18 = .ok (.iload_n 3, 1) := dk_29 (dk_at dksX0_sumOf_0 18 rfl rfl)
theorem dX0_sumOf_19 : decode cX0_sumOf 19 = .ok (.invokevirtual 175, 3) := dk_182 0 175 (dk_at dksX0_sumOf_0 19 rfl rfl)
theorem dX0_sumOf_22 : decode cX0_sumOf 22 = .ok (.goto 8, 3) := dk_167 0 8 (dk_at dksX0_sumOf_1 0 rfl rfl)
theorem dX0_sumOf_25 : decode cX0_sumOf 25 = .ok (.aload_n 0, 1) := dk_42 (dk_at dksX0_sumOf_1 3 rfl rfl)
theorem dX0_sumOf_26 : decode cX0_sumOf 26 = .ok (.iload_n 3, 1) := dk_29 (dk_at dksX0_sumOf_1 4 rfl rfl)
theorem dX0_sumOf_27 : decode cX0_sumOf 27 = .ok (.invokevirtual 178, 3) := dk_182 0 178 (dk_at dksX0_sumOf_1 5 rfl rfl)
theorem dX0_sumOf_30 : decode cX0_sumOf 30 = .ok (.iadd, 1) := dk_96 (dk_at dksX0_sumOf_1 8 rfl rfl)
theorem dX0_sumOf_31 : decode cX0_sumOf 31 = .ok (.istore_n 2, 1) := dk_61 (dk_at dksX0_sumOf_1 9 rfl rfl)
theorem dX0_sumOf_32 : decode cX0_sumOf 32 = .ok (.iinc 3 1, 3) := dk_132 3 1 (dk_at dksX0_sumOf_1 10 rfl rfl)
theorem dX0_sumOf_35 : decode cX0_sumOf 35 = .ok (.goto (-31), 3) := dk_167 255 225 (dk_at dksX0_sumOf_1 13 rfl rfl)
theorem dX0_sumOf_38 : decode cX0_sumOf 38 = .ok (.iload_n 2, 1) := dk_28 (dk_at dksX0_sumOf_1 16 rfl rfl)
theorem dX0_sumOf_39 : decode cX0_sumOf 39 = .ok (.ireturn, 1) := dk_172 (dk_at dksX0_sumOf_1 17 rfl rfl)
abbrev cX0_set : ByteArray := prog_1_method_45_code
def yX0_set : MethodName := ⟨RX0, "set", "(II)I"⟩
def dkwX0_set_0 : List UInt8 := [42, 42, 27, 28, 182, 1, 54, 182, 0, 132, 172]
abbrev dktX0_set_0 : List UInt8 := dkwX0_set_0 ++ []
theorem dksX0_set_0 : cX0_set.data.toList.drop 0 = dktX0_set_0 := by decide +kernel
theorem dX0_set_0 : decode cX0_set 0 = .ok (.aload_n 0, 1) := dk_42 (dk_at dksX0_set_0 0 rfl rfl)
theorem dX0_set_1 : decode cX0_set 1 = .ok (.aload_n 0, 1) := dk_42 (dk_at dksX0_set_0 1 rfl rfl)
theorem dX0_set_2 : decode cX0_set 2 = .ok (.iload_n 1, 1) := dk_27 (dk_at dksX0_set_0 2 rfl rfl)
theorem dX0_set_3 : decode cX0_set 3 = .ok (.iload_n 2, 1) := dk_28 (dk_at dksX0_set_0 3 rfl rfl)
theorem dX0_set_4 : decode cX0_set 4 = .ok (.invokevirtual 310, 3) := dk_182 1 54 (dk_at dksX0_set_0 4 rfl rfl)
theorem dX0_set_7 : decode cX0_set 7 = .ok (.invokevirtual 132, 3) := dk_182 0 132 (dk_at dksX0_set_0 7 rfl rfl)
theorem dX0_set_10 : decode cX0_set 10 = .ok (.ireturn, 1) := dk_172 (dk_at dksX0_set_0 10 rfl rfl)
abbrev cX0_setNow : ByteArray := prog_1_method_44_code
def yX0_setNow : MethodName := ⟨RX0, "setNow", "(II)I"⟩
def dkwX0_setNow_2 : List UInt8 := [182, 1, 50, 42, 182, 0, 157, 180, 0, 163, 27, 28, 79, 29, 172]
abbrev dktX0_setNow_2 : List UInt8 := dkwX0_setNow_2 ++ []
def dkwX0_setNow_1 : List UInt8 := [180, 0, 163, 27, 46, 62, 29, 28, 160, 0, 6, 16, 253, 172, 42, 180, 0, 29, 42, 182, 0, 157, 3]
abbrev dktX0_setNow_1 : List UInt8 := dkwX0_setNow_1 ++ dktX0_setNow_2
def dkwX0_setNow_0 : List UInt8 := [28, 184, 0, 153, 154, 0, 5, 2, 172, 42, 27, 182, 0, 172, 154, 0, 6, 16, 254, 172, 42, 182, 0, 157]
abbrev dktX0_setNow_0 : List UInt8 := dkwX0_setNow_0 ++ dktX0_setNow_1
theorem dksX0_setNow_0 : cX0_setNow.data.toList.drop 0 = dktX0_setNow_0 := by decide +kernel
theorem dksX0_setNow_1 : cX0_setNow.data.toList.drop 24 = dktX0_setNow_1 := dk_seg dksX0_setNow_0 24 rfl rfl
theorem dksX0_setNow_2 : cX0_setNow.data.toList.drop 47 = dktX0_setNow_2 := dk_seg dksX0_setNow_1 23 rfl rfl
theorem dX0_setNow_0 : decode cX0_setNow 0 = .ok (.iload_n 2, 1) := dk_28 (dk_at dksX0_setNow_0 0 rfl rfl)
theorem dX0_setNow_1 : decode cX0_setNow 1 = .ok (.invokestatic 153, 3) := dk_184 0 153 (dk_at dksX0_setNow_0 1 rfl rfl)
theorem dX0_setNow_4 : decode cX0_setNow 4 = .ok (.ifCond .ne 5, 3) := dk_154 0 5 (dk_at dksX0_setNow_0 4 rfl rfl)
theorem dX0_setNow_7 : decode cX0_setNow 7 = .ok (.iconst (-1), 1) := dk_2 (dk_at dksX0_setNow_0 7 rfl rfl)
theorem dX0_setNow_8 : decode cX0_setNow 8 = .ok (.ireturn, 1) := dk_172 (dk_at dksX0_setNow_0 8 rfl rfl)
theorem dX0_setNow_9 : decode cX0_setNow 9 = .ok (.aload_n 0, 1) := dk_42 (dk_at dksX0_setNow_0 9 rfl rfl)
theorem dX0_setNow_10 : decode cX0_setNow 10 = .ok (.iload_n 1, 1) := dk_27 (dk_at dksX0_setNow_0 10 rfl rfl)
theorem dX0_setNow_11 : decode cX0_setNow 11 = .ok (.invokevirtual 172, 3) := dk_182 0 172 (dk_at dksX0_setNow_0 11 rfl rfl)
theorem dX0_setNow_14 : decode cX0_setNow 14 = .ok (.ifCond .ne 6, 3) := dk_154 0 6 (dk_at dksX0_setNow_0 14 rfl rfl)
theorem dX0_setNow_17 : decode cX0_setNow 17 = .ok (.bipush (-2), 2) := dk_16 254 (dk_at dksX0_setNow_0 17 rfl rfl)
theorem dX0_setNow_19 : decode cX0_setNow 19 = .ok (.ireturn, 1) := dk_172 (dk_at dksX0_setNow_0 19 rfl rfl)
theorem dX0_setNow_20 : decode cX0_setNow 20 = .ok (.aload_n 0, 1) := dk_42 (dk_at dksX0_setNow_0 20 rfl rfl)
theorem dX0_setNow_21 : decode cX0_setNow 21 = .ok (.invokevirtual 157, 3) := dk_182 0 157 (dk_at dksX0_setNow_0 21 rfl rfl)
theorem dX0_setNow_24 : decode cX0_setNow 24 = .ok (.getfield 163, 3) := dk_180 0 163 (dk_at dksX0_setNow_1 0 rfl rfl)
theorem dX0_setNow_27 : decode cX0_setNow 27 = .ok (.iload_n 1, 1) := dk_27 (dk_at dksX0_setNow_1 3 rfl rfl)
theorem dX0_setNow_28 : decode cX0_setNow 28 = .ok (.iaload, 1) := dk_46 (dk_at dksX0_setNow_1 4 rfl rfl)
theorem dX0_setNow_29 : decode cX0_setNow 29 = .ok (.istore_n 3, 1) := dk_62 (dk_at dksX0_setNow_1 5 rfl rfl)
theorem dX0_setNow_30 : decode cX0_setNow 30 = .ok (.iload_n 3, 1) := dk_29 (dk_at dksX0_setNow_1 6 rfl rfl)
theorem dX0_setNow_31 : decode cX0_setNow 31 = .ok (.iload_n 2, 1) := dk_28 (dk_at dksX0_setNow_1 7 rfl rfl)
theorem dX0_setNow_32 : decode cX0_setNow 32 = .ok (.if_icmp .ne 6, 3) := dk_160 0 6 (dk_at dksX0_setNow_1 8 rfl rfl)
theorem dX0_setNow_35 : decode cX0_setNow 35 = .ok (.bipush (-3), 2) := dk_16 253 (dk_at dksX0_setNow_1 11 rfl rfl)
theorem dX0_setNow_37 : decode cX0_setNow 37 = .ok (.ireturn, 1) := dk_172 (dk_at dksX0_setNow_1 13 rfl rfl)
theorem dX0_setNow_38 : decode cX0_setNow 38 = .ok (.aload_n 0, 1) := dk_42 (dk_at dksX0_setNow_1 14 rfl rfl)
theorem dX0_setNow_39 : decode cX0_setNow 39 = .ok (.getfield 29, 3) := dk_180 0 29 (dk_at dksX0_setNow_1 15 rfl rfl)
theorem dX0_setNow_42 : decode cX0_setNow 42 = .ok (.aload_n 0, 1) := dk_42 (dk_at dksX0_setNow_1 18 rfl rfl)
theorem dX0_setNow_43 : decode cX0_setNow 43 = .ok (.invokevirtual 157, 3) := dk_182 0 157 (dk_at dksX0_setNow_1 19 rfl rfl)
theorem dX0_setNow_46 : decode cX0_setNow 46 = .ok (.iconst 0, 1) := dk_3 (dk_at dksX0_setNow_1 22 rfl rfl)
theorem dX0_setNow_47 : decode cX0_setNow 47 = .ok (.invokevirtual 306, 3) := dk_182 1 50 (dk_at dksX0_setNow_2 0 rfl rfl)
theorem dX0_setNow_50 : decode cX0_setNow 50 = .ok (.aload_n 0, 1) := dk_42 (dk_at dksX0_setNow_2 3 rfl rfl)
theorem dX0_setNow_51 : decode cX0_setNow 51 = .ok (.invokevirtual 157, 3) := dk_182 0 157 (dk_at dksX0_setNow_2 4 rfl rfl)
theorem dX0_setNow_54 : decode cX0_setNow 54 = .ok (.getfield 163, 3) := dk_180 0 163 (dk_at dksX0_setNow_2 7 rfl rfl)
theorem dX0_setNow_57 : decode cX0_setNow 57 = .ok (.iload_n 1, 1) := dk_27 (dk_at dksX0_setNow_2 10 rfl rfl)
theorem dX0_setNow_58 : decode cX0_setNow 58 = .ok (.iload_n 2, 1) := dk_28 (dk_at dksX0_setNow_2 11 rfl rfl)
theorem dX0_setNow_59 : decode cX0_setNow 59 = .ok (.iastore, 1) := dk_79 (dk_at dksX0_setNow_2 12 rfl rfl)
theorem dX0_setNow_60 : decode cX0_setNow 60 = .ok (.iload_n 3, 1) := dk_29 (dk_at dksX0_setNow_2 13 rfl rfl)
theorem dX0_setNow_61 : decode cX0_setNow 61 = .ok (.ireturn, 1) := dk_172 (dk_at dksX0_setNow_2 14 rfl rfl)
abbrev cX0_shift : ByteArray := prog_1_method_47_code
def yX0_shift : MethodName := ⟨RX0, "shift", "(II)I"⟩
def dkwX0_shift_0 : List UInt8 := [42, 42, 27, 28, 182, 1, 57, 182, 0, 132, 172]
abbrev dktX0_shift_0 : List UInt8 := dkwX0_shift_0 ++ []
theorem dksX0_shift_0 : cX0_shift.data.toList.drop 0 = dktX0_shift_0 := by decide +kernel
theorem dX0_shift_0 : decode cX0_shift 0 = .ok (.aload_n 0, 1) := dk_42 (dk_at dksX0_shift_0 0 rfl rfl)
theorem dX0_shift_1 : decode cX0_shift 1 = .ok (.aload_n 0, 1) := dk_42 (dk_at dksX0_shift_0 1 rfl rfl)
theorem dX0_shift_2 : decode cX0_shift 2 = .ok (.iload_n 1, 1) := dk_27 (dk_at dksX0_shift_0 2 rfl rfl)
theorem dX0_shift_3 : decode cX0_shift 3 = .ok (.iload_n 2, 1) := dk_28 (dk_at dksX0_shift_0 3 rfl rfl)
theorem dX0_shift_4 : decode cX0_shift 4 = .ok (.invokevirtual 313, 3) := dk_182 1 57 (dk_at dksX0_shift_0 4 rfl rfl)
theorem dX0_shift_7 : decode cX0_shift 7 = .ok (.invokevirtual 132, 3) := dk_182 0 132 (dk_at dksX0_shift_0 7 rfl rfl)
theorem dX0_shift_10 : decode cX0_shift 10 = .ok (.ireturn, 1) := dk_172 (dk_at dksX0_shift_0 10 rfl rfl)
abbrev cX0_shiftNow : ByteArray := prog_1_method_46_code
def yX0_shiftNow : MethodName := ⟨RX0, "shiftNow", "(II)I"⟩
def dkwX0_shiftNow_2 : List UInt8 := [182, 1, 50, 42, 182, 0, 157, 180, 0, 160, 27, 28, 79, 29, 172]
abbrev dktX0_shiftNow_2 : List UInt8 := dkwX0_shiftNow_2 ++ []
def dkwX0_shiftNow_1 : List UInt8 := [180, 0, 160, 27, 46, 62, 29, 28, 160, 0, 6, 16, 253, 172, 42, 180, 0, 29, 42, 182, 0, 157, 4]
abbrev dktX0_shiftNow_1 : List UInt8 := dkwX0_shiftNow_1 ++ dktX0_shiftNow_2
def dkwX0_shiftNow_0 : List UInt8 := [28, 184, 0, 153, 154, 0, 5, 2, 172, 42, 27, 182, 0, 172, 154, 0, 6, 16, 254, 172, 42, 182, 0, 157]
abbrev dktX0_shiftNow_0 : List UInt8 := dkwX0_shiftNow_0 ++ dktX0_shiftNow_1
theorem dksX0_shiftNow_0 : cX0_shiftNow.data.toList.drop 0 = dktX0_shiftNow_0 := by decide +kernel
theorem dksX0_shiftNow_1 : cX0_shiftNow.data.toList.drop 24 = dktX0_shiftNow_1 := dk_seg dksX0_shiftNow_0 24 rfl rfl
theorem dksX0_shiftNow_2 : cX0_shiftNow.data.toList.drop 47 = dktX0_shiftNow_2 := dk_seg dksX0_shiftNow_1 23 rfl rfl
theorem dX0_shiftNow_0 : decode cX0_shiftNow 0 = .ok (.iload_n 2, 1) := dk_28 (dk_at dksX0_shiftNow_0 0 rfl rfl)
theorem dX0_shiftNow_1 : decode cX0_shiftNow 1 = .ok (.invokestatic 153, 3) := dk_184 0 153 (dk_at dksX0_shiftNow_0 1 rfl rfl)
theorem dX0_shiftNow_4 : decode cX0_shiftNow 4 = .ok (.ifCond .ne 5, 3) := dk_154 0 5 (dk_at dksX0_shiftNow_0 4 rfl rfl)
theorem dX0_shiftNow_7 : decode cX0_shiftNow 7 = .ok (.iconst (-1), 1) := dk_2 (dk_at dksX0_shiftNow_0 7 rfl rfl)
theorem dX0_shiftNow_8 : decode cX0_shiftNow 8 = .ok (.ireturn, 1) := dk_172 (dk_at dksX0_shiftNow_0 8 rfl rfl)
theorem dX0_shiftNow_9 : decode cX0_shiftNow 9 = .ok (.aload_n 0, 1) := dk_42 (dk_at dksX0_shiftNow_0 9 rfl rfl)
theorem dX0_shiftNow_10 : decode cX0_shiftNow 10 = .ok (.iload_n 1, 1) := dk_27 (dk_at dksX0_shiftNow_0 10 rfl rfl)
theorem dX0_shiftNow_11 : decode cX0_shiftNow 11 = .ok (.invokevirtual 172, 3) := dk_182 0 172 (dk_at dksX0_shiftNow_0 11 rfl rfl)
theorem dX0_shiftNow_14 : decode cX0_shiftNow 14 = .ok (.ifCond .ne 6, 3) := dk_154 0 6 (dk_at dksX0_shiftNow_0 14 rfl rfl)
theorem dX0_shiftNow_17 : decode cX0_shiftNow 17 = .ok (.bipush (-2), 2) := dk_16 254 (dk_at dksX0_shiftNow_0 17 rfl rfl)
theorem dX0_shiftNow_19 : decode cX0_shiftNow 19 = .ok (.ireturn, 1) := dk_172 (dk_at dksX0_shiftNow_0 19 rfl rfl)
theorem dX0_shiftNow_20 : decode cX0_shiftNow 20 = .ok (.aload_n 0, 1) := dk_42 (dk_at dksX0_shiftNow_0 20 rfl rfl)
theorem dX0_shiftNow_21 : decode cX0_shiftNow 21 = .ok (.invokevirtual 157, 3) := dk_182 0 157 (dk_at dksX0_shiftNow_0 21 rfl rfl)
theorem dX0_shiftNow_24 : decode cX0_shiftNow 24 = .ok (.getfield 160, 3) := dk_180 0 160 (dk_at dksX0_shiftNow_1 0 rfl rfl)
theorem dX0_shiftNow_27 : decode cX0_shiftNow 27 = .ok (.iload_n 1, 1) := dk_27 (dk_at dksX0_shiftNow_1 3 rfl rfl)
theorem dX0_shiftNow_28 : decode cX0_shiftNow 28 = .ok (.iaload, 1) := dk_46 (dk_at dksX0_shiftNow_1 4 rfl rfl)
theorem dX0_shiftNow_29 : decode cX0_shiftNow 29 = .ok (.istore_n 3, 1) := dk_62 (dk_at dksX0_shiftNow_1 5 rfl rfl)
theorem dX0_shiftNow_30 : decode cX0_shiftNow 30 = .ok (.iload_n 3, 1) := dk_29 (dk_at dksX0_shiftNow_1 6 rfl rfl)
theorem dX0_shiftNow_31 : decode cX0_shiftNow 31 = .ok (.iload_n 2, 1) := dk_28 (dk_at dksX0_shiftNow_1 7 rfl rfl)
theorem dX0_shiftNow_32 : decode cX0_shiftNow 32 = .ok (.if_icmp .ne 6, 3) := dk_160 0 6 (dk_at dksX0_shiftNow_1 8 rfl rfl)
theorem dX0_shiftNow_35 : decode cX0_shiftNow 35 = .ok (.bipush (-3), 2) := dk_16 253 (dk_at dksX0_shiftNow_1 11 rfl rfl)
theorem dX0_shiftNow_37 : decode cX0_shiftNow 37 = .ok (.ireturn, 1) := dk_172 (dk_at dksX0_shiftNow_1 13 rfl rfl)
theorem dX0_shiftNow_38 : decode cX0_shiftNow 38 = .ok (.aload_n 0, 1) := dk_42 (dk_at dksX0_shiftNow_1 14 rfl rfl)
theorem dX0_shiftNow_39 : decode cX0_shiftNow 39 = .ok (.getfield 29, 3) := dk_180 0 29 (dk_at dksX0_shiftNow_1 15 rfl rfl)
theorem dX0_shiftNow_42 : decode cX0_shiftNow 42 = .ok (.aload_n 0, 1) := dk_42 (dk_at dksX0_shiftNow_1 18 rfl rfl)
theorem dX0_shiftNow_43 : decode cX0_shiftNow 43 = .ok (.invokevirtual 157, 3) := dk_182 0 157 (dk_at dksX0_shiftNow_1 19 rfl rfl)
theorem dX0_shiftNow_46 : decode cX0_shiftNow 46 = .ok (.iconst 1, 1) := dk_4 (dk_at dksX0_shiftNow_1 22 rfl rfl)
theorem dX0_shiftNow_47 : decode cX0_shiftNow 47 = .ok (.invokevirtual 306, 3) := dk_182 1 50 (dk_at dksX0_shiftNow_2 0 rfl rfl)
theorem dX0_shiftNow_50 : decode cX0_shiftNow 50 = .ok (.aload_n 0, 1) := dk_42 (dk_at dksX0_shiftNow_2 3 rfl rfl)
theorem dX0_shiftNow_51 : decode cX0_shiftNow 51 = .ok (.invokevirtual 157, 3) := dk_182 0 157 (dk_at dksX0_shiftNow_2 4 rfl rfl)
theorem dX0_shiftNow_54 : decode cX0_shiftNow 54 = .ok (.getfield 160, 3) := dk_180 0 160 (dk_at dksX0_shiftNow_2 7 rfl rfl)
theorem dX0_shiftNow_57 : decode cX0_shiftNow 57 = .ok (.iload_n 1, 1) := dk_27 (dk_at dksX0_shiftNow_2 10 rfl rfl)
theorem dX0_shiftNow_58 : decode cX0_shiftNow 58 = .ok (.iload_n 2, 1) := dk_28 (dk_at dksX0_shiftNow_2 11 rfl rfl)
theorem dX0_shiftNow_59 : decode cX0_shiftNow 59 = .ok (.iastore, 1) := dk_79 (dk_at dksX0_shiftNow_2 12 rfl rfl)
theorem dX0_shiftNow_60 : decode cX0_shiftNow 60 = .ok (.iload_n 3, 1) := dk_29 (dk_at dksX0_shiftNow_2 13 rfl rfl)
theorem dX0_shiftNow_61 : decode cX0_shiftNow 61 = .ok (.ireturn, 1) := dk_172 (dk_at dksX0_shiftNow_2 14 rfl rfl)
abbrev cX0_swap : ByteArray := prog_1_method_49_code
def yX0_swap : MethodName := ⟨RX0, "swap", "()I"⟩
def dkwX0_swap_0 : List UInt8 := [42, 42, 182, 1, 63, 182, 0, 132, 172]
abbrev dktX0_swap_0 : List UInt8 := dkwX0_swap_0 ++ []
theorem dksX0_swap_0 : cX0_swap.data.toList.drop 0 = dktX0_swap_0 := by decide +kernel
theorem dX0_swap_0 : decode cX0_swap 0 = .ok (.aload_n 0, 1) := dk_42 (dk_at dksX0_swap_0 0 rfl rfl)
theorem dX0_swap_1 : decode cX0_swap 1 = .ok (.aload_n 0, 1) := dk_42 (dk_at dksX0_swap_0 1 rfl rfl)
theorem dX0_swap_2 : decode cX0_swap 2 = .ok (.invokevirtual 319, 3) := dk_182 1 63 (dk_at dksX0_swap_0 2 rfl rfl)
theorem dX0_swap_5 : decode cX0_swap 5 = .ok (.invokevirtual 132, 3) := dk_182 0 132 (dk_at dksX0_swap_0 5 rfl rfl)
theorem dX0_swap_8 : decode cX0_swap 8 = .ok (.ireturn, 1) := dk_172 (dk_at dksX0_swap_0 8 rfl rfl)
abbrev cX0_swapNow : ByteArray := prog_1_method_48_code
def yX0_swapNow : MethodName := ⟨RX0, "swapNow", "()I"⟩
def dkwX0_swapNow_1 : List UInt8 := [182, 0, 157, 42, 182, 0, 142, 182, 1, 60, 42, 182, 0, 142, 172]
abbrev dktX0_swapNow_1 : List UInt8 := dkwX0_swapNow_1 ++ []
def dkwX0_swapNow_0 : List UInt8 := [42, 182, 0, 142, 154, 0, 6, 16, 253, 172, 42, 180, 0, 29, 42, 182, 0, 157, 5, 182, 1, 50, 42]
abbrev dktX0_swapNow_0 : List UInt8 := dkwX0_swapNow_0 ++ dktX0_swapNow_1
theorem dksX0_swapNow_0 : cX0_swapNow.data.toList.drop 0 = dktX0_swapNow_0 := by decide +kernel
theorem dksX0_swapNow_1 : cX0_swapNow.data.toList.drop 23 = dktX0_swapNow_1 := dk_seg dksX0_swapNow_0 23 rfl rfl
theorem dX0_swapNow_0 : decode cX0_swapNow 0 = .ok (.aload_n 0, 1) := dk_42 (dk_at dksX0_swapNow_0 0 rfl rfl)
theorem dX0_swapNow_1 : decode cX0_swapNow 1 = .ok (.invokevirtual 142, 3) := dk_182 0 142 (dk_at dksX0_swapNow_0 1 rfl rfl)
theorem dX0_swapNow_4 : decode cX0_swapNow 4 = .ok (.ifCond .ne 6, 3) := dk_154 0 6 (dk_at dksX0_swapNow_0 4 rfl rfl)
theorem dX0_swapNow_7 : decode cX0_swapNow 7 = .ok (.bipush (-3), 2) := dk_16 253 (dk_at dksX0_swapNow_0 7 rfl rfl)
theorem dX0_swapNow_9 : decode cX0_swapNow 9 = .ok (.ireturn, 1) := dk_172 (dk_at dksX0_swapNow_0 9 rfl rfl)
theorem dX0_swapNow_10 : decode cX0_swapNow 10 = .ok (.aload_n 0, 1) := dk_42 (dk_at dksX0_swapNow_0 10 rfl rfl)
theorem dX0_swapNow_11 : decode cX0_swapNow 11 = .ok (.getfield 29, 3) := dk_180 0 29 (dk_at dksX0_swapNow_0 11 rfl rfl)
theorem dX0_swapNow_14 : decode cX0_swapNow 14 = .ok (.aload_n 0, 1) := dk_42 (dk_at dksX0_swapNow_0 14 rfl rfl)
theorem dX0_swapNow_15 : decode cX0_swapNow 15 = .ok (.invokevirtual 157, 3) := dk_182 0 157 (dk_at dksX0_swapNow_0 15 rfl rfl)
theorem dX0_swapNow_18 : decode cX0_swapNow 18 = .ok (.iconst 2, 1) := dk_5 (dk_at dksX0_swapNow_0 18 rfl rfl)
theorem dX0_swapNow_19 : decode cX0_swapNow 19 = .ok (.invokevirtual 306, 3) := dk_182 1 50 (dk_at dksX0_swapNow_0 19 rfl rfl)
theorem dX0_swapNow_22 : decode cX0_swapNow 22 = .ok (.aload_n 0, 1) := dk_42 (dk_at dksX0_swapNow_0 22 rfl rfl)
theorem dX0_swapNow_23 : decode cX0_swapNow 23 = .ok (.invokevirtual 157, 3) := dk_182 0 157 (dk_at dksX0_swapNow_1 0 rfl rfl)
theorem dX0_swapNow_26 : decode cX0_swapNow 26 = .ok (.aload_n 0, 1) := dk_42 (dk_at dksX0_swapNow_1 3 rfl rfl)
theorem dX0_swapNow_27 : decode cX0_swapNow 27 = .ok (.invokevirtual 142, 3) := dk_182 0 142 (dk_at dksX0_swapNow_1 4 rfl rfl)
theorem dX0_swapNow_30 : decode cX0_swapNow 30 = .ok (.invokevirtual 316, 3) := dk_182 1 60 (dk_at dksX0_swapNow_1 7 rfl rfl)
theorem dX0_swapNow_33 : decode cX0_swapNow 33 = .ok (.aload_n 0, 1) := dk_42 (dk_at dksX0_swapNow_1 10 rfl rfl)
theorem dX0_swapNow_34 : decode cX0_swapNow 34 = .ok (.invokevirtual 142, 3) := dk_182 0 142 (dk_at dksX0_swapNow_1 11 rfl rfl)
theorem dX0_swapNow_37 : decode cX0_swapNow 37 = .ok (.ireturn, 1) := dk_172 (dk_at dksX0_swapNow_1 14 rfl rfl)
abbrev cX0_pass : ByteArray := prog_1_method_51_code
def yX0_pass : MethodName := ⟨RX0, "pass", "()I"⟩
def dkwX0_pass_0 : List UInt8 := [42, 42, 182, 1, 66, 182, 0, 132, 172]
abbrev dktX0_pass_0 : List UInt8 := dkwX0_pass_0 ++ []
theorem dksX0_pass_0 : cX0_pass.data.toList.drop 0 = dktX0_pass_0 := by decide +kernel
theorem dX0_pass_0 : decode cX0_pass 0 = .ok (.aload_n 0, 1) := dk_42 (dk_at dksX0_pass_0 0 rfl rfl)
theorem dX0_pass_1 : decode cX0_pass 1 = .ok (.aload_n 0, 1) := dk_42 (dk_at dksX0_pass_0 1 rfl rfl)
theorem dX0_pass_2 : decode cX0_pass 2 = .ok (.invokevirtual 322, 3) := dk_182 1 66 (dk_at dksX0_pass_0 2 rfl rfl)
theorem dX0_pass_5 : decode cX0_pass 5 = .ok (.invokevirtual 132, 3) := dk_182 0 132 (dk_at dksX0_pass_0 5 rfl rfl)
theorem dX0_pass_8 : decode cX0_pass 8 = .ok (.ireturn, 1) := dk_172 (dk_at dksX0_pass_0 8 rfl rfl)
abbrev cX0_passNow : ByteArray := prog_1_method_50_code
def yX0_passNow : MethodName := ⟨RX0, "passNow", "()I"⟩
def dkwX0_passNow_2 : List UInt8 := [27, 172]
abbrev dktX0_passNow_2 : List UInt8 := dkwX0_passNow_2 ++ []
def dkwX0_passNow_1 : List UInt8 := [180, 0, 29, 42, 182, 0, 157, 6, 182, 1, 50, 42, 182, 0, 157, 89, 180, 0, 196, 4, 96, 181, 0, 196]
abbrev dktX0_passNow_1 : List UInt8 := dkwX0_passNow_1 ++ dktX0_passNow_2
def dkwX0_passNow_0 : List UInt8 := [42, 182, 0, 157, 180, 0, 196, 17, 3, 231, 160, 0, 6, 16, 253, 172, 42, 182, 1, 44, 60, 42]
abbrev dktX0_passNow_0 : List UInt8 := dkwX0_passNow_0 ++ dktX0_passNow_1
theorem dksX0_passNow_0 : cX0_passNow.data.toList.drop 0 = dktX0_passNow_0 := by decide +kernel
theorem dksX0_passNow_1 : cX0_passNow.data.toList.drop 22 = dktX0_passNow_1 := dk_seg dksX0_passNow_0 22 rfl rfl
theorem dksX0_passNow_2 : cX0_passNow.data.toList.drop 46 = dktX0_passNow_2 := dk_seg dksX0_passNow_1 24 rfl rfl
theorem dX0_passNow_0 : decode cX0_passNow 0 = .ok (.aload_n 0, 1) := dk_42 (dk_at dksX0_passNow_0 0 rfl rfl)
theorem dX0_passNow_1 : decode cX0_passNow 1 = .ok (.invokevirtual 157, 3) := dk_182 0 157 (dk_at dksX0_passNow_0 1 rfl rfl)
theorem dX0_passNow_4 : decode cX0_passNow 4 = .ok (.getfield 196, 3) := dk_180 0 196 (dk_at dksX0_passNow_0 4 rfl rfl)
theorem dX0_passNow_7 : decode cX0_passNow 7 = .ok (.sipush 999, 3) := dk_17 3 231 (dk_at dksX0_passNow_0 7 rfl rfl)
theorem dX0_passNow_10 : decode cX0_passNow 10 = .ok (.if_icmp .ne 6, 3) := dk_160 0 6 (dk_at dksX0_passNow_0 10 rfl rfl)
theorem dX0_passNow_13 : decode cX0_passNow 13 = .ok (.bipush (-3), 2) := dk_16 253 (dk_at dksX0_passNow_0 13 rfl rfl)
theorem dX0_passNow_15 : decode cX0_passNow 15 = .ok (.ireturn, 1) := dk_172 (dk_at dksX0_passNow_0 15 rfl rfl)
theorem dX0_passNow_16 : decode cX0_passNow 16 = .ok (.aload_n 0, 1) := dk_42 (dk_at dksX0_passNow_0 16 rfl rfl)
theorem dX0_passNow_17 : decode cX0_passNow 17 = .ok (.invokevirtual 300, 3) := dk_182 1 44 (dk_at dksX0_passNow_0 17 rfl rfl)
theorem dX0_passNow_20 : decode cX0_passNow 20 = .ok (.istore_n 1, 1) := dk_60 (dk_at dksX0_passNow_0 20 rfl rfl)
theorem dX0_passNow_21 : decode cX0_passNow 21 = .ok (.aload_n 0, 1) := dk_42 (dk_at dksX0_passNow_0 21 rfl rfl)
theorem dX0_passNow_22 : decode cX0_passNow 22 = .ok (.getfield 29, 3) := dk_180 0 29 (dk_at dksX0_passNow_1 0 rfl rfl)
theorem dX0_passNow_25 : decode cX0_passNow 25 = .ok (.aload_n 0, 1) := dk_42 (dk_at dksX0_passNow_1 3 rfl rfl)
theorem dX0_passNow_26 : decode cX0_passNow 26 = .ok (.invokevirtual 157, 3) := dk_182 0 157 (dk_at dksX0_passNow_1 4 rfl rfl)
theorem dX0_passNow_29 : decode cX0_passNow 29 = .ok (.iconst 3, 1) := dk_6 (dk_at dksX0_passNow_1 7 rfl rfl)
theorem dX0_passNow_30 : decode cX0_passNow 30 = .ok (.invokevirtual 306, 3) := dk_182 1 50 (dk_at dksX0_passNow_1 8 rfl rfl)
theorem dX0_passNow_33 : decode cX0_passNow 33 = .ok (.aload_n 0, 1) := dk_42 (dk_at dksX0_passNow_1 11 rfl rfl)
theorem dX0_passNow_34 : decode cX0_passNow 34 = .ok (.invokevirtual 157, 3) := dk_182 0 157 (dk_at dksX0_passNow_1 12 rfl rfl)
theorem dX0_passNow_37 : decode cX0_passNow 37 = .ok (.dup, 1) := dk_89 (dk_at dksX0_passNow_1 15 rfl rfl)
theorem dX0_passNow_38 : decode cX0_passNow 38 = .ok (.getfield 196, 3) := dk_180 0 196 (dk_at dksX0_passNow_1 16 rfl rfl)
theorem dX0_passNow_41 : decode cX0_passNow 41 = .ok (.iconst 1, 1) := dk_4 (dk_at dksX0_passNow_1 19 rfl rfl)
theorem dX0_passNow_42 : decode cX0_passNow 42 = .ok (.iadd, 1) := dk_96 (dk_at dksX0_passNow_1 20 rfl rfl)
theorem dX0_passNow_43 : decode cX0_passNow 43 = .ok (.putfield 196, 3) := dk_181 0 196 (dk_at dksX0_passNow_1 21 rfl rfl)
theorem dX0_passNow_46 : decode cX0_passNow 46 = .ok (.iload_n 1, 1) := dk_27 (dk_at dksX0_passNow_2 0 rfl rfl)
theorem dX0_passNow_47 : decode cX0_passNow 47 = .ok (.ireturn, 1) := dk_172 (dk_at dksX0_passNow_2 1 rfl rfl)
abbrev cX0_undo : ByteArray := prog_1_method_52_code
def yX0_undo : MethodName := ⟨RX0, "undo", "()I"⟩
def dkwX0_undo_3 : List UInt8 := [180, 1, 77, 182, 0, 132, 172]
abbrev dktX0_undo_3 : List UInt8 := dkwX0_undo_3 ++ []
def dkwX0_undo_2 : List UInt8 := [180, 0, 129, 50, 182, 1, 73, 87, 42, 42, 180, 0, 29, 180, 1, 69, 42, 180, 0, 29, 180, 0, 129, 50]
abbrev dktX0_undo_2 : List UInt8 := dkwX0_undo_2 ++ dktX0_undo_3
def dkwX0_undo_1 : List UInt8 := [180, 0, 129, 4, 100, 181, 0, 129, 42, 182, 0, 157, 42, 180, 0, 29, 180, 1, 69, 42, 180, 0, 29]
abbrev dktX0_undo_1 : List UInt8 := dkwX0_undo_1 ++ dktX0_undo_2
def dkwX0_undo_0 : List UInt8 := [42, 180, 0, 29, 180, 0, 129, 154, 0, 10, 42, 16, 253, 182, 0, 132, 172, 42, 180, 0, 29, 89]
abbrev dktX0_undo_0 : List UInt8 := dkwX0_undo_0 ++ dktX0_undo_1
theorem dksX0_undo_0 : cX0_undo.data.toList.drop 0 = dktX0_undo_0 := by decide +kernel
theorem dksX0_undo_1 : cX0_undo.data.toList.drop 22 = dktX0_undo_1 := dk_seg dksX0_undo_0 22 rfl rfl
theorem dksX0_undo_2 : cX0_undo.data.toList.drop 45 = dktX0_undo_2 := dk_seg dksX0_undo_1 23 rfl rfl
theorem dksX0_undo_3 : cX0_undo.data.toList.drop 69 = dktX0_undo_3 := dk_seg dksX0_undo_2 24 rfl rfl
theorem dX0_undo_0 : decode cX0_undo 0 = .ok (.aload_n 0, 1) := dk_42 (dk_at dksX0_undo_0 0 rfl rfl)
theorem dX0_undo_1 : decode cX0_undo 1 = .ok (.getfield 29, 3) := dk_180 0 29 (dk_at dksX0_undo_0 1 rfl rfl)
theorem dX0_undo_4 : decode cX0_undo 4 = .ok (.getfield 129, 3) := dk_180 0 129 (dk_at dksX0_undo_0 4 rfl rfl)
theorem dX0_undo_7 : decode cX0_undo 7 = .ok (.ifCond .ne 10, 3) := dk_154 0 10 (dk_at dksX0_undo_0 7 rfl rfl)
theorem dX0_undo_10 : decode cX0_undo 10 = .ok (.aload_n 0, 1) := dk_42 (dk_at dksX0_undo_0 10 rfl rfl)
theorem dX0_undo_11 : decode cX0_undo 11 = .ok (.bipush (-3), 2) := dk_16 253 (dk_at dksX0_undo_0 11 rfl rfl)
theorem dX0_undo_13 : decode cX0_undo 13 = .ok (.invokevirtual 132, 3) := dk_182 0 132 (dk_at dksX0_undo_0 13 rfl rfl)
theorem dX0_undo_16 : decode cX0_undo 16 = .ok (.ireturn, 1) := dk_172 (dk_at dksX0_undo_0 16 rfl rfl)
theorem dX0_undo_17 : decode cX0_undo 17 = .ok (.aload_n 0, 1) := dk_42 (dk_at dksX0_undo_0 17 rfl rfl)
theorem dX0_undo_18 : decode cX0_undo 18 = .ok (.getfield 29, 3) := dk_180 0 29 (dk_at dksX0_undo_0 18 rfl rfl)
theorem dX0_undo_21 : decode cX0_undo 21 = .ok (.dup, 1) := dk_89 (dk_at dksX0_undo_0 21 rfl rfl)
theorem dX0_undo_22 : decode cX0_undo 22 = .ok (.getfield 129, 3) := dk_180 0 129 (dk_at dksX0_undo_1 0 rfl rfl)
theorem dX0_undo_25 : decode cX0_undo 25 = .ok (.iconst 1, 1) := dk_4 (dk_at dksX0_undo_1 3 rfl rfl)
theorem dX0_undo_26 : decode cX0_undo 26 = .ok (.isub, 1) := dk_100 (dk_at dksX0_undo_1 4 rfl rfl)
theorem dX0_undo_27 : decode cX0_undo 27 = .ok (.putfield 129, 3) := dk_181 0 129 (dk_at dksX0_undo_1 5 rfl rfl)
theorem dX0_undo_30 : decode cX0_undo 30 = .ok (.aload_n 0, 1) := dk_42 (dk_at dksX0_undo_1 8 rfl rfl)
theorem dX0_undo_31 : decode cX0_undo 31 = .ok (.invokevirtual 157, 3) := dk_182 0 157 (dk_at dksX0_undo_1 9 rfl rfl)
theorem dX0_undo_34 : decode cX0_undo 34 = .ok (.aload_n 0, 1) := dk_42 (dk_at dksX0_undo_1 12 rfl rfl)
theorem dX0_undo_35 : decode cX0_undo 35 = .ok (.getfield 29, 3) := dk_180 0 29 (dk_at dksX0_undo_1 13 rfl rfl)
theorem dX0_undo_38 : decode cX0_undo 38 = .ok (.getfield 325, 3) := dk_180 1 69 (dk_at dksX0_undo_1 16 rfl rfl)
theorem dX0_undo_41 : decode cX0_undo 41 = .ok (.aload_n 0, 1) := dk_42 (dk_at dksX0_undo_1 19 rfl rfl)
theorem dX0_undo_42 : decode cX0_undo 42 = .ok (.getfield 29, 3) := dk_180 0 29 (dk_at dksX0_undo_1 20 rfl rfl)
theorem dX0_undo_45 : decode cX0_undo 45 = .ok (.getfield 129, 3) := dk_180 0 129 (dk_at dksX0_undo_2 0 rfl rfl)
theorem dX0_undo_48 : decode cX0_undo 48 = .ok (.aaload, 1) := dk_50 (dk_at dksX0_undo_2 3 rfl rfl)
theorem dX0_undo_49 : decode cX0_undo 49 = .ok (.invokevirtual 329, 3) := dk_182 1 73 (dk_at dksX0_undo_2 4 rfl rfl)
theorem dX0_undo_52 : decode cX0_undo 52 = .ok (.pop, 1) := dk_87 (dk_at dksX0_undo_2 7 rfl rfl)
theorem dX0_undo_53 : decode cX0_undo 53 = .ok (.aload_n 0, 1) := dk_42 (dk_at dksX0_undo_2 8 rfl rfl)
theorem dX0_undo_54 : decode cX0_undo 54 = .ok (.aload_n 0, 1) := dk_42 (dk_at dksX0_undo_2 9 rfl rfl)
theorem dX0_undo_55 : decode cX0_undo 55 = .ok (.getfield 29, 3) := dk_180 0 29 (dk_at dksX0_undo_2 10 rfl rfl)
theorem dX0_undo_58 : decode cX0_undo 58 = .ok (.getfield 325, 3) := dk_180 1 69 (dk_at dksX0_undo_2 13 rfl rfl)
theorem dX0_undo_61 : decode cX0_undo 61 = .ok (.aload_n 0, 1) := dk_42 (dk_at dksX0_undo_2 16 rfl rfl)
theorem dX0_undo_62 : decode cX0_undo 62 = .ok (.getfield 29, 3) := dk_180 0 29 (dk_at dksX0_undo_2 17 rfl rfl)
theorem dX0_undo_65 : decode cX0_undo 65 = .ok (.getfield 129, 3) := dk_180 0 129 (dk_at dksX0_undo_2 20 rfl rfl)
theorem dX0_undo_68 : decode cX0_undo 68 = .ok (.aaload, 1) := dk_50 (dk_at dksX0_undo_2 23 rfl rfl)
theorem dX0_undo_69 : decode cX0_undo 69 = .ok (.getfield 333, 3) := dk_180 1 77 (dk_at dksX0_undo_3 0 rfl rfl)
theorem dX0_undo_72 : decode cX0_undo 72 = .ok (.invokevirtual 132, 3) := dk_182 0 132 (dk_at dksX0_undo_3 3 rfl rfl)
theorem dX0_undo_75 : decode cX0_undo 75 = .ok (.ireturn, 1) := dk_172 (dk_at dksX0_undo_3 6 rfl rfl)
abbrev cX0_best : ByteArray := prog_1_method_60_code
def yX0_best : MethodName := ⟨RX0, "best", "(I)I"⟩
def dkwX0_best_6 : List UInt8 := [132, 4, 1, 167, 255, 185, 21, 4, 4, 96, 61, 132, 3, 1, 167, 255, 158, 28, 4, 100, 172]
abbrev dktX0_best_6 : List UInt8 := dkwX0_best_6 ++ []
def dkwX0_best_5 : List UInt8 := [180, 0, 97, 29, 4, 96, 50, 21, 4, 4, 96, 46, 96, 42, 180, 0, 97, 29, 50, 28, 46, 159, 0, 9]
abbrev dktX0_best_5 : List UInt8 := dkwX0_best_5 ++ dktX0_best_6
def dkwX0_best_4 : List UInt8 := [96, 50, 21, 4, 4, 96, 47, 9, 148, 153, 0, 39, 42, 180, 0, 89, 29, 50, 28, 50, 21, 4, 46, 42]
abbrev dktX0_best_4 : List UInt8 := dkwX0_best_4 ++ dktX0_best_5
def dkwX0_best_3 : List UInt8 := [6, 46, 54, 4, 42, 180, 0, 84, 29, 50, 28, 50, 21, 4, 51, 153, 0, 57, 42, 180, 0, 108, 29, 4]
abbrev dktX0_best_3 : List UInt8 := dkwX0_best_3 ++ dktX0_best_4
def dkwX0_best_2 : List UInt8 := [50, 3, 46, 167, 0, 4, 2, 172, 3, 61, 3, 62, 29, 27, 163, 0, 99, 42, 180, 0, 18, 180, 0, 199]
abbrev dktX0_best_2 : List UInt8 := dkwX0_best_2 ++ dktX0_best_3
def dkwX0_best_1 : List UInt8 := [27, 2, 159, 0, 10, 42, 182, 1, 106, 154, 0, 23, 42, 182, 1, 106, 153, 0, 14, 42, 180, 0, 97, 3]
abbrev dktX0_best_1 : List UInt8 := dkwX0_best_1 ++ dktX0_best_2
def dkwX0_best_0 : List UInt8 := [27, 2, 161, 0, 16, 27, 42, 182, 0, 142, 161, 0, 10, 27, 2, 159, 0, 5, 2, 172, 42, 182, 1, 103]
abbrev dktX0_best_0 : List UInt8 := dkwX0_best_0 ++ dktX0_best_1
theorem dksX0_best_0 : cX0_best.data.toList.drop 0 = dktX0_best_0 := by decide +kernel
theorem dksX0_best_1 : cX0_best.data.toList.drop 24 = dktX0_best_1 := dk_seg dksX0_best_0 24 rfl rfl
theorem dksX0_best_2 : cX0_best.data.toList.drop 48 = dktX0_best_2 := dk_seg dksX0_best_1 24 rfl rfl
theorem dksX0_best_3 : cX0_best.data.toList.drop 72 = dktX0_best_3 := dk_seg dksX0_best_2 24 rfl rfl
theorem dksX0_best_4 : cX0_best.data.toList.drop 96 = dktX0_best_4 := dk_seg dksX0_best_3 24 rfl rfl
theorem dksX0_best_5 : cX0_best.data.toList.drop 120 = dktX0_best_5 := dk_seg dksX0_best_4 24 rfl rfl
theorem dksX0_best_6 : cX0_best.data.toList.drop 144 = dktX0_best_6 := dk_seg dksX0_best_5 24 rfl rfl
theorem dX0_best_0 : decode cX0_best 0 = .ok (.iload_n 1, 1) := dk_27 (dk_at dksX0_best_0 0 rfl rfl)
theorem dX0_best_1 : decode cX0_best 1 = .ok (.iconst (-1), 1) := dk_2 (dk_at dksX0_best_0 1 rfl rfl)
theorem dX0_best_2 : decode cX0_best 2 = .ok (.if_icmp .lt 16, 3) := dk_161 0 16 (dk_at dksX0_best_0 2 rfl rfl)
theorem dX0_best_5 : decode cX0_best 5 = .ok (.iload_n 1, 1) := dk_27 (dk_at dksX0_best_0 5 rfl rfl)
theorem dX0_best_6 : decode cX0_best 6 = .ok (.aload_n 0, 1) := dk_42 (dk_at dksX0_best_0 6 rfl rfl)
theorem dX0_best_7 : decode cX0_best 7 = .ok (.invokevirtual 142, 3) := dk_182 0 142 (dk_at dksX0_best_0 7 rfl rfl)
theorem dX0_best_10 : decode cX0_best 10 = .ok (.if_icmp .lt 10, 3) := dk_161 0 10 (dk_at dksX0_best_0 10 rfl rfl)
theorem dX0_best_13 : decode cX0_best 13 = .ok (.iload_n 1, 1) := dk_27 (dk_at dksX0_best_0 13 rfl rfl)
theorem dX0_best_14 : decode cX0_best 14 = .ok (.iconst (-1), 1) := dk_2 (dk_at dksX0_best_0 14 rfl rfl)
theorem dX0_best_15 : decode cX0_best 15 = .ok (.if_icmp .eq 5, 3) := dk_159 0 5 (dk_at dksX0_best_0 15 rfl rfl)
theorem dX0_best_18 : decode cX0_best 18 = .ok (.iconst (-1), 1) := dk_2 (dk_at dksX0_best_0 18 rfl rfl)
theorem dX0_best_19 : decode cX0_best 19 = .ok (.ireturn, 1) := dk_172 (dk_at dksX0_best_0 19 rfl rfl)
theorem dX0_best_20 : decode cX0_best 20 = .ok (.aload_n 0, 1) := dk_42 (dk_at dksX0_best_0 20 rfl rfl)
theorem dX0_best_21 : decode cX0_best 21 = .ok (.invokevirtual 359, 3) := dk_182 1 103 (dk_at dksX0_best_0 21 rfl rfl)
theorem dX0_best_24 : decode cX0_best 24 = .ok (.iload_n 1, 1) := dk_27 (dk_at dksX0_best_1 0 rfl rfl)
theorem dX0_best_25 : decode cX0_best 25 = .ok (.iconst (-1), 1) := dk_2 (dk_at dksX0_best_1 1 rfl rfl)
theorem dX0_best_26 : decode cX0_best 26 = .ok (.if_icmp .eq 10, 3) := dk_159 0 10 (dk_at dksX0_best_1 2 rfl rfl)
theorem dX0_best_29 : decode cX0_best 29 = .ok (.aload_n 0, 1) := dk_42 (dk_at dksX0_best_1 5 rfl rfl)
theorem dX0_best_30 : decode cX0_best 30 = .ok (.invokevirtual 362, 3) := dk_182 1 106 (dk_at dksX0_best_1 6 rfl rfl)
theorem dX0_best_33 : decode cX0_best 33 = .ok (.ifCond .ne 23, 3) := dk_154 0 23 (dk_at dksX0_best_1 9 rfl rfl)
theorem dX0_best_36 : decode cX0_best 36 = .ok (.aload_n 0, 1) := dk_42 (dk_at dksX0_best_1 12 rfl rfl)
theorem dX0_best_37 : decode cX0_best 37 = .ok (.invokevirtual 362, 3) := dk_182 1 106 (dk_at dksX0_best_1 13 rfl rfl)
theorem dX0_best_40 : decode cX0_best 40 = .ok (.ifCond .eq 14, 3) := dk_153 0 14 (dk_at dksX0_best_1 16 rfl rfl)
theorem dX0_best_43 : decode cX0_best 43 = .ok (.aload_n 0, 1) := dk_42 (dk_at dksX0_best_1 19 rfl rfl)
theorem dX0_best_44 : decode cX0_best 44 = .ok (.getfield 97, 3) := dk_180 0 97 (dk_at dksX0_best_1 20 rfl rfl)
theorem dX0_best_47 : decode cX0_best 47 = .ok (.iconst 0, 1) := dk_3 (dk_at dksX0_best_1 23 rfl rfl)
theorem dX0_best_48 : decode cX0_best 48 = .ok (.aaload, 1) := dk_50 (dk_at dksX0_best_2 0 rfl rfl)
theorem dX0_best_49 : decode cX0_best 49 = .ok (.iconst 0, 1) := dk_3 (dk_at dksX0_best_2 1 rfl rfl)
theorem dX0_best_50 : decode cX0_best 50 = .ok (.iaload, 1) := dk_46 (dk_at dksX0_best_2 2 rfl rfl)
theorem dX0_best_51 : decode cX0_best 51 = .ok (.goto 4, 3) := dk_167 0 4 (dk_at dksX0_best_2 3 rfl rfl)
theorem dX0_best_54 : decode cX0_best 54 = .ok (.iconst (-1), 1) := dk_2 (dk_at dksX0_best_2 6 rfl rfl)
theorem dX0_best_55 : decode cX0_best 55 = .ok (.ireturn, 1) := dk_172 (dk_at dksX0_best_2 7 rfl rfl)
theorem dX0_best_56 : decode cX0_best 56 = .ok (.iconst 0, 1) := dk_3 (dk_at dksX0_best_2 8 rfl rfl)
theorem dX0_best_57 : decode cX0_best 57 = .ok (.istore_n 2, 1) := dk_61 (dk_at dksX0_best_2 9 rfl rfl)
theorem dX0_best_58 : decode cX0_best 58 = .ok (.iconst 0, 1) := dk_3 (dk_at dksX0_best_2 10 rfl rfl)
theorem dX0_best_59 : decode cX0_best 59 = .ok (.istore_n 3, 1) := dk_62 (dk_at dksX0_best_2 11 rfl rfl)
theorem dX0_best_60 : decode cX0_best 60 = .ok (.iload_n 3, 1) := dk_29 (dk_at dksX0_best_2 12 rfl rfl)
theorem dX0_best_61 : decode cX0_best 61 = .ok (.iload_n 1, 1) := dk_27 (dk_at dksX0_best_2 13 rfl rfl)
theorem dX0_best_62 : decode cX0_best 62 = .ok (.if_icmp .gt 99, 3) := dk_163 0 99 (dk_at dksX0_best_2 14 rfl rfl)
theorem dX0_best_65 : decode cX0_best 65 = .ok (.aload_n 0, 1) := dk_42 (dk_at dksX0_best_2 17 rfl rfl)
theorem dX0_best_66 : decode cX0_best 66 = .ok (.getfield 18, 3) := dk_180 0 18 (dk_at dksX0_best_2 18 rfl rfl)
theorem dX0_best_69 : decode cX0_best 69 = .ok (.getfield 199, 3) := dk_180 0 199 (dk_at dksX0_best_2 21 rfl rfl)
theorem dX0_best_72 : decode cX0_best 72 = .ok (.iconst 3, 1) := dk_6 (dk_at dksX0_best_3 0 rfl rfl)
theorem dX0_best_73 : decode cX0_best 73 = .ok (.iaload, 1) := dk_46 (dk_at dksX0_best_3 1 rfl rfl)
theorem dX0_best_74 : decode cX0_best 74 = .ok (.istore 4, 2) := dk_54 4 (dk_at dksX0_best_3 2 rfl rfl)
theorem dX0_best_76 : decode cX0_best 76 = .ok (.aload_n 0, 1) := dk_42 (dk_at dksX0_best_3 4 rfl rfl)
theorem dX0_best_77 : decode cX0_best 77 = .ok (.getfield 84, 3) := dk_180 0 84 (dk_at dksX0_best_3 5 rfl rfl)
theorem dX0_best_80 : decode cX0_best 80 = .ok (.iload_n 3, 1) := dk_29 (dk_at dksX0_best_3 8 rfl rfl)
theorem dX0_best_81 : decode cX0_best 81 = .ok (.aaload, 1) := dk_50 (dk_at dksX0_best_3 9 rfl rfl)
theorem dX0_best_82 : decode cX0_best 82 = .ok (.iload_n 2, 1) := dk_28 (dk_at dksX0_best_3 10 rfl rfl)
theorem dX0_best_83 : decode cX0_best 83 = .ok (.aaload, 1) := dk_50 (dk_at dksX0_best_3 11 rfl rfl)
theorem dX0_best_84 : decode cX0_best 84 = .ok (.iload 4, 2) := dk_21 4 (dk_at dksX0_best_3 12 rfl rfl)
theorem dX0_best_86 : decode cX0_best 86 = .ok (.baload, 1) := dk_51 (dk_at dksX0_best_3 14 rfl rfl)
theorem dX0_best_87 : decode cX0_best 87 = .ok (.ifCond .eq 57, 3) := dk_153 0 57 (dk_at dksX0_best_3 15 rfl rfl)
theorem dX0_best_90 : decode cX0_best 90 = .ok (.aload_n 0, 1) := dk_42 (dk_at dksX0_best_3 18 rfl rfl)
theorem dX0_best_91 : decode cX0_best 91 = .ok (.getfield 108, 3) := dk_180 0 108 (dk_at dksX0_best_3 19 rfl rfl)
theorem dX0_best_94 : decode cX0_best 94 = .ok (.iload_n 3, 1) := dk_29 (dk_at dksX0_best_3 22 rfl rfl)
theorem dX0_best_95 : decode cX0_best 95 = .ok (.iconst 1, 1) := dk_4 (dk_at dksX0_best_3 23 rfl rfl)
theorem dX0_best_96 : decode cX0_best 96 = .ok (.iadd, 1) := dk_96 (dk_at dksX0_best_4 0 rfl rfl)
theorem dX0_best_97 : decode cX0_best 97 = .ok (.aaload, 1) := dk_50 (dk_at dksX0_best_4 1 rfl rfl)
theorem dX0_best_98 : decode cX0_best 98 = .ok (.iload 4, 2) := dk_21 4 (dk_at dksX0_best_4 2 rfl rfl)
theorem dX0_best_100 : decode cX0_best 100 = .ok (.iconst 1, 1) := dk_4 (dk_at dksX0_best_4 4 rfl rfl)
theorem dX0_best_101 : decode cX0_best 101 = .ok (.iadd, 1) := dk_96 (dk_at dksX0_best_4 5 rfl rfl)
theorem dX0_best_102 : decode cX0_best 102 = .ok (.laload, 1) := dk_47 (dk_at dksX0_best_4 6 rfl rfl)
theorem dX0_best_103 : decode cX0_best 103 = .ok (.lconst 0, 1) := dk_9 (dk_at dksX0_best_4 7 rfl rfl)
theorem dX0_best_104 : decode cX0_best 104 = .ok (.lcmp, 1) := dk_148 (dk_at dksX0_best_4 8 rfl rfl)
theorem dX0_best_105 : decode cX0_best 105 = .ok (.ifCond .eq 39, 3) := dk_153 0 39 (dk_at dksX0_best_4 9 rfl rfl)
theorem dX0_best_108 : decode cX0_best 108 = .ok (.aload_n 0, 1) := dk_42 (dk_at dksX0_best_4 12 rfl rfl)
theorem dX0_best_109 : decode cX0_best 109 = .ok (.getfield 89, 3) := dk_180 0 89 (dk_at dksX0_best_4 13 rfl rfl)
theorem dX0_best_112 : decode cX0_best 112 = .ok (.iload_n 3, 1) := dk_29 (dk_at dksX0_best_4 16 rfl rfl)
theorem dX0_best_113 : decode cX0_best 113 = .ok (.aaload, 1) := dk_50 (dk_at dksX0_best_4 17 rfl rfl)
theorem dX0_best_114 : decode cX0_best 114 = .ok (.iload_n 2, 1) := dk_28 (dk_at dksX0_best_4 18 rfl rfl)
theorem dX0_best_115 : decode cX0_best 115 = .ok (.aaload, 1) := dk_50 (dk_at dksX0_best_4 19 rfl rfl)
theorem dX0_best_116 : decode cX0_best 116 = .ok (.iload 4, 2) := dk_21 4 (dk_at dksX0_best_4 20 rfl rfl)
theorem dX0_best_118 : decode cX0_best 118 = .ok (.iaload, 1) := dk_46 (dk_at dksX0_best_4 22 rfl rfl)
theorem dX0_best_119 : decode cX0_best 119 = .ok (.aload_n 0, 1) := dk_42 (dk_at dksX0_best_4 23 rfl rfl)
theorem dX0_best_120 : decode cX0_best 120 = .ok (.getfield 97, 3) := dk_180 0 97 (dk_at dksX0_best_5 0 rfl rfl)
theorem dX0_best_123 : decode cX0_best 123 = .ok (.iload_n 3, 1) := dk_29 (dk_at dksX0_best_5 3 rfl rfl)
theorem dX0_best_124 : decode cX0_best 124 = .ok (.iconst 1, 1) := dk_4 (dk_at dksX0_best_5 4 rfl rfl)
theorem dX0_best_125 : decode cX0_best 125 = .ok (.iadd, 1) := dk_96 (dk_at dksX0_best_5 5 rfl rfl)
theorem dX0_best_126 : decode cX0_best 126 = .ok (.aaload, 1) := dk_50 (dk_at dksX0_best_5 6 rfl rfl)
theorem dX0_best_127 : decode cX0_best 127 = .ok (.iload 4, 2) := dk_21 4 (dk_at dksX0_best_5 7 rfl rfl)
theorem dX0_best_129 : decode cX0_best 129 = .ok (.iconst 1, 1) := dk_4 (dk_at dksX0_best_5 9 rfl rfl)
theorem dX0_best_130 : decode cX0_best 130 = .ok (.iadd, 1) := dk_96 (dk_at dksX0_best_5 10 rfl rfl)
theorem dX0_best_131 : decode cX0_best 131 = .ok (.iaload, 1) := dk_46 (dk_at dksX0_best_5 11 rfl rfl)
theorem dX0_best_132 : decode cX0_best 132 = .ok (.iadd, 1) := dk_96 (dk_at dksX0_best_5 12 rfl rfl)
theorem dX0_best_133 : decode cX0_best 133 = .ok (.aload_n 0, 1) := dk_42 (dk_at dksX0_best_5 13 rfl rfl)
theorem dX0_best_134 : decode cX0_best 134 = .ok (.getfield 97, 3) := dk_180 0 97 (dk_at dksX0_best_5 14 rfl rfl)
theorem dX0_best_137 : decode cX0_best 137 = .ok (.iload_n 3, 1) := dk_29 (dk_at dksX0_best_5 17 rfl rfl)
theorem dX0_best_138 : decode cX0_best 138 = .ok (.aaload, 1) := dk_50 (dk_at dksX0_best_5 18 rfl rfl)
theorem dX0_best_139 : decode cX0_best 139 = .ok (.iload_n 2, 1) := dk_28 (dk_at dksX0_best_5 19 rfl rfl)
theorem dX0_best_140 : decode cX0_best 140 = .ok (.iaload, 1) := dk_46 (dk_at dksX0_best_5 20 rfl rfl)
theorem dX0_best_141 : decode cX0_best 141 = .ok (.if_icmp .eq 9, 3) := dk_159 0 9 (dk_at dksX0_best_5 21 rfl rfl)
theorem dX0_best_144 : decode cX0_best 144 = .ok (.iinc 4 1, 3) := dk_132 4 1 (dk_at dksX0_best_6 0 rfl rfl)
theorem dX0_best_147 : decode cX0_best 147 = .ok (.goto (-71), 3) := dk_167 255 185 (dk_at dksX0_best_6 3 rfl rfl)
theorem dX0_best_150 : decode cX0_best 150 = .ok (.iload 4, 2) := dk_21 4 (dk_at dksX0_best_6 6 rfl rfl)
theorem dX0_best_152 : decode cX0_best 152 = .ok (.iconst 1, 1) := dk_4 (dk_at dksX0_best_6 8 rfl rfl)
theorem dX0_best_153 : decode cX0_best 153 = .ok (.iadd, 1) := dk_96 (dk_at dksX0_best_6 9 rfl rfl)
theorem dX0_best_154 : decode cX0_best 154 = .ok (.istore_n 2, 1) := dk_61 (dk_at dksX0_best_6 10 rfl rfl)
theorem dX0_best_155 : decode cX0_best 155 = .ok (.iinc 3 1, 3) := dk_132 3 1 (dk_at dksX0_best_6 11 rfl rfl)
theorem dX0_best_158 : decode cX0_best 158 = .ok (.goto (-98), 3) := dk_167 255 158 (dk_at dksX0_best_6 14 rfl rfl)
theorem dX0_best_161 : decode cX0_best 161 = .ok (.iload_n 2, 1) := dk_28 (dk_at dksX0_best_6 17 rfl rfl)
theorem dX0_best_162 : decode cX0_best 162 = .ok (.iconst 1, 1) := dk_4 (dk_at dksX0_best_6 18 rfl rfl)
theorem dX0_best_163 : decode cX0_best 163 = .ok (.isub, 1) := dk_100 (dk_at dksX0_best_6 19 rfl rfl)
theorem dX0_best_164 : decode cX0_best 164 = .ok (.ireturn, 1) := dk_172 (dk_at dksX0_best_6 20 rfl rfl)
abbrev cX0_layAll : ByteArray := prog_1_method_58_code
def yX0_layAll : MethodName := ⟨RX0, "layAll", "()V"⟩
def dkwX0_layAll_1 : List UInt8 := [2, 182, 1, 100, 177]
abbrev dktX0_layAll_1 : List UInt8 := dkwX0_layAll_1 ++ []
def dkwX0_layAll_0 : List UInt8 := [42, 4, 182, 1, 96, 42, 42, 180, 0, 18, 180, 0, 199, 6, 46, 42, 180, 0, 18, 180, 0, 199, 7, 46]
abbrev dktX0_layAll_0 : List UInt8 := dkwX0_layAll_0 ++ dktX0_layAll_1
theorem dksX0_layAll_0 : cX0_layAll.data.toList.drop 0 = dktX0_layAll_0 := by decide +kernel
theorem dksX0_layAll_1 : cX0_layAll.data.toList.drop 24 = dktX0_layAll_1 := dk_seg dksX0_layAll_0 24 rfl rfl
theorem dX0_layAll_0 : decode cX0_layAll 0 = .ok (.aload_n 0, 1) := dk_42 (dk_at dksX0_layAll_0 0 rfl rfl)
theorem dX0_layAll_1 : decode cX0_layAll 1 = .ok (.iconst 1, 1) := dk_4 (dk_at dksX0_layAll_0 1 rfl rfl)
theorem dX0_layAll_2 : decode cX0_layAll 2 = .ok (.invokevirtual 352, 3) := dk_182 1 96 (dk_at dksX0_layAll_0 2 rfl rfl)
theorem dX0_layAll_5 : decode cX0_layAll 5 = .ok (.aload_n 0, 1) := dk_42 (dk_at dksX0_layAll_0 5 rfl rfl)
theorem dX0_layAll_6 : decode cX0_layAll 6 = .ok (.aload_n 0, 1) := dk_42 (dk_at dksX0_layAll_0 6 rfl rfl)
theorem dX0_layAll_7 : decode cX0_layAll 7 = .ok (.getfield 18, 3) := dk_180 0 18 (dk_at dksX0_layAll_0 7 rfl rfl)
theorem dX0_layAll_10 : decode cX0_layAll 10 = .ok (.getfield 199, 3) := dk_180 0 199 (dk_at dksX0_layAll_0 10 rfl rfl)
theorem dX0_layAll_13 : decode cX0_layAll 13 = .ok (.iconst 3, 1) := dk_6 (dk_at dksX0_layAll_0 13 rfl rfl)
theorem dX0_layAll_14 : decode cX0_layAll 14 = .ok (.iaload, 1) := dk_46 (dk_at dksX0_layAll_0 14 rfl rfl)
theorem dX0_layAll_15 : decode cX0_layAll 15 = .ok (.aload_n 0, 1) := dk_42 (dk_at dksX0_layAll_0 15 rfl rfl)
theorem dX0_layAll_16 : decode cX0_layAll 16 = .ok (.getfield 18, 3) := dk_180 0 18 (dk_at dksX0_layAll_0 16 rfl rfl)
theorem dX0_layAll_19 : decode cX0_layAll 19 = .ok (.getfield 199, 3) := dk_180 0 199 (dk_at dksX0_layAll_0 19 rfl rfl)
theorem dX0_layAll_22 : decode cX0_layAll 22 = .ok (.iconst 4, 1) := dk_7 (dk_at dksX0_layAll_0 22 rfl rfl)
theorem dX0_layAll_23 : decode cX0_layAll 23 = .ok (.iaload, 1) := dk_46 (dk_at dksX0_layAll_0 23 rfl rfl)
theorem dX0_layAll_24 : decode cX0_layAll 24 = .ok (.iconst (-1), 1) := dk_2 (dk_at dksX0_layAll_1 0 rfl rfl)
theorem dX0_layAll_25 : decode cX0_layAll 25 = .ok (.invokevirtual 356, 3) := dk_182 1 100 (dk_at dksX0_layAll_1 1 rfl rfl)
theorem dX0_layAll_28 : decode cX0_layAll 28 = .ok (.return_, 1) := dk_177 (dk_at dksX0_layAll_1 4 rfl rfl)
abbrev cX0_layNotes : ByteArray := prog_1_method_54_code
def yX0_layNotes : MethodName := ⟨RX0, "layNotes", "(Z)V"⟩
def dkwX0_layNotes_0 : List UInt8 := [3, 61, 28, 42, 182, 0, 142, 162, 0, 15, 42, 28, 27, 182, 1, 80, 132, 2, 1, 167, 255, 239, 177]
abbrev dktX0_layNotes_0 : List UInt8 := dkwX0_layNotes_0 ++ []
theorem dksX0_layNotes_0 : cX0_layNotes.data.toList.drop 0 = dktX0_layNotes_0 := by decide +kernel
theorem dX0_layNotes_0 : decode cX0_layNotes 0 = .ok (.iconst 0, 1) := dk_3 (dk_at dksX0_layNotes_0 0 rfl rfl)
theorem dX0_layNotes_1 : decode cX0_layNotes 1 = .ok (.istore_n 2, 1) := dk_61 (dk_at dksX0_layNotes_0 1 rfl rfl)
theorem dX0_layNotes_2 : decode cX0_layNotes 2 = .ok (.iload_n 2, 1) := dk_28 (dk_at dksX0_layNotes_0 2 rfl rfl)
theorem dX0_layNotes_3 : decode cX0_layNotes 3 = .ok (.aload_n 0, 1) := dk_42 (dk_at dksX0_layNotes_0 3 rfl rfl)
theorem dX0_layNotes_4 : decode cX0_layNotes 4 = .ok (.invokevirtual 142, 3) := dk_182 0 142 (dk_at dksX0_layNotes_0 4 rfl rfl)
theorem dX0_layNotes_7 : decode cX0_layNotes 7 = .ok (.if_icmp .ge 15, 3) := dk_162 0 15 (dk_at dksX0_layNotes_0 7 rfl rfl)
theorem dX0_layNotes_10 : decode cX0_layNotes 10 = .ok (.aload_n 0, 1) := dk_42 (dk_at dksX0_layNotes_0 10 rfl rfl)
theorem dX0_layNotes_11 : decode cX0_layNotes 11 = .ok (.iload_n 2, 1) := dk_28 (dk_at dksX0_layNotes_0 11 rfl rfl)
theorem dX0_layNotes_12 : decode cX0_layNotes 12 = .ok (.iload_n 1, 1) := dk_27 (dk_at dksX0_layNotes_0 12 rfl rfl)
theorem dX0_layNotes_13 : decode cX0_layNotes 13 = .ok (.invokevirtual 336, 3) := dk_182 1 80 (dk_at dksX0_layNotes_0 13 rfl rfl)
theorem dX0_layNotes_16 : decode cX0_layNotes 16 = .ok (.iinc 2 1, 3) := dk_132 2 1 (dk_at dksX0_layNotes_0 16 rfl rfl)
theorem dX0_layNotes_19 : decode cX0_layNotes 19 = .ok (.goto (-17), 3) := dk_167 255 239 (dk_at dksX0_layNotes_0 19 rfl rfl)
theorem dX0_layNotes_22 : decode cX0_layNotes 22 = .ok (.return_, 1) := dk_177 (dk_at dksX0_layNotes_0 22 rfl rfl)
abbrev cX0_layNote : ByteArray := prog_1_method_53_code
def yX0_layNote : MethodName := ⟨RX0, "layNote", "(IZ)V"⟩
def dkwX0_layNote_5 : List UInt8 := [27, 21, 4, 29, 182, 1, 37, 79, 132, 4, 1, 167, 255, 152, 132, 3, 1, 167, 255, 129, 177]
abbrev dktX0_layNote_5 : List UInt8 := dkwX0_layNote_5 ++ []
def dkwX0_layNote_4 : List UInt8 := [21, 4, 42, 27, 21, 4, 29, 182, 1, 33, 79, 42, 180, 0, 92, 27, 50, 29, 4, 96, 50, 21, 4, 42]
abbrev dktX0_layNote_4 : List UInt8 := dkwX0_layNote_4 ++ dktX0_layNote_5
def dkwX0_layNote_3 : List UInt8 := [50, 29, 4, 96, 50, 21, 4, 51, 154, 0, 6, 167, 0, 45, 42, 180, 0, 89, 27, 50, 29, 4, 96, 50]
abbrev dktX0_layNote_3 : List UInt8 := dkwX0_layNote_3 ++ dktX0_layNote_4
def dkwX0_layNote_2 : List UInt8 := [21, 4, 29, 182, 1, 40, 154, 0, 7, 4, 167, 0, 4, 3, 84, 28, 153, 0, 64, 42, 180, 0, 84, 27]
abbrev dktX0_layNote_2 : List UInt8 := dkwX0_layNote_2 ++ dktX0_layNote_3
def dkwX0_layNote_1 : List UInt8 := [3, 54, 4, 21, 4, 16, 25, 162, 0, 103, 42, 180, 0, 84, 27, 50, 29, 4, 96, 50, 21, 4, 42, 27]
abbrev dktX0_layNote_1 : List UInt8 := dkwX0_layNote_1 ++ dktX0_layNote_2
def dkwX0_layNote_0 : List UInt8 := [27, 154, 0, 7, 2, 167, 0, 4, 3, 62, 29, 27, 154, 0, 7, 2, 167, 0, 5, 16, 24, 163, 0, 119]
abbrev dktX0_layNote_0 : List UInt8 := dkwX0_layNote_0 ++ dktX0_layNote_1
theorem dksX0_layNote_0 : cX0_layNote.data.toList.drop 0 = dktX0_layNote_0 := by decide +kernel
theorem dksX0_layNote_1 : cX0_layNote.data.toList.drop 24 = dktX0_layNote_1 := dk_seg dksX0_layNote_0 24 rfl rfl
theorem dksX0_layNote_2 : cX0_layNote.data.toList.drop 48 = dktX0_layNote_2 := dk_seg dksX0_layNote_1 24 rfl rfl
theorem dksX0_layNote_3 : cX0_layNote.data.toList.drop 72 = dktX0_layNote_3 := dk_seg dksX0_layNote_2 24 rfl rfl
theorem dksX0_layNote_4 : cX0_layNote.data.toList.drop 96 = dktX0_layNote_4 := dk_seg dksX0_layNote_3 24 rfl rfl
theorem dksX0_layNote_5 : cX0_layNote.data.toList.drop 120 = dktX0_layNote_5 := dk_seg dksX0_layNote_4 24 rfl rfl
theorem dX0_layNote_0 : decode cX0_layNote 0 = .ok (.iload_n 1, 1) := dk_27 (dk_at dksX0_layNote_0 0 rfl rfl)
theorem dX0_layNote_1 : decode cX0_layNote 1 = .ok (.ifCond .ne 7, 3) := dk_154 0 7 (dk_at dksX0_layNote_0 1 rfl rfl)
theorem dX0_layNote_4 : decode cX0_layNote 4 = .ok (.iconst (-1), 1) := dk_2 (dk_at dksX0_layNote_0 4 rfl rfl)
theorem dX0_layNote_5 : decode cX0_layNote 5 = .ok (.goto 4, 3) := dk_167 0 4 (dk_at dksX0_layNote_0 5 rfl rfl)
theorem dX0_layNote_8 : decode cX0_layNote 8 = .ok (.iconst 0, 1) := dk_3 (dk_at dksX0_layNote_0 8 rfl rfl)
theorem dX0_layNote_9 : decode cX0_layNote 9 = .ok (.istore_n 3, 1) := dk_62 (dk_at dksX0_layNote_0 9 rfl rfl)
theorem dX0_layNote_10 : decode cX0_layNote 10 = .ok (.iload_n 3, 1) := dk_29 (dk_at dksX0_layNote_0 10 rfl rfl)
theorem dX0_layNote_11 : decode cX0_layNote 11 = .ok (.iload_n 1, 1) := dk_27 (dk_at dksX0_layNote_0 11 rfl rfl)
theorem dX0_layNote_12 : decode cX0_layNote 12 = .ok (.ifCond .ne 7, 3) := dk_154 0 7 (dk_at dksX0_layNote_0 12 rfl rfl)
theorem dX0_layNote_15 : decode cX0_layNote 15 = .ok (.iconst (-1), 1) := dk_2 (dk_at dksX0_layNote_0 15 rfl rfl)
theorem dX0_layNote_16 : decode cX0_layNote 16 = .ok (.goto 5, 3) := dk_167 0 5 (dk_at dksX0_layNote_0 16 rfl rfl)
theorem dX0_layNote_19 : decode cX0_layNote 19 = .ok (.bipush 24, 2) := dk_16 24 (dk_at dksX0_layNote_0 19 rfl rfl)
theorem dX0_layNote_21 : decode cX0_layNote 21 = .ok (.if_icmp .gt 119, 3) := dk_163 0 119 (dk_at dksX0_layNote_0 21 rfl rfl)
theorem dX0_layNote_24 : decode cX0_layNote 24 = .ok (.iconst 0, 1) := dk_3 (dk_at dksX0_layNote_1 0 rfl rfl)
theorem dX0_layNote_25 : decode cX0_layNote 25 = .ok (.istore 4, 2) := dk_54 4 (dk_at dksX0_layNote_1 1 rfl rfl)
theorem dX0_layNote_27 : decode cX0_layNote 27 = .ok (.iload 4, 2) := dk_21 4 (dk_at dksX0_layNote_1 3 rfl rfl)
theorem dX0_layNote_29 : decode cX0_layNote 29 = .ok (.bipush 25, 2) := dk_16 25 (dk_at dksX0_layNote_1 5 rfl rfl)
theorem dX0_layNote_31 : decode cX0_layNote 31 = .ok (.if_icmp .ge 103, 3) := dk_162 0 103 (dk_at dksX0_layNote_1 7 rfl rfl)
theorem dX0_layNote_34 : decode cX0_layNote 34 = .ok (.aload_n 0, 1) := dk_42 (dk_at dksX0_layNote_1 10 rfl rfl)
theorem dX0_layNote_35 : decode cX0_layNote 35 = .ok (.getfield 84, 3) := dk_180 0 84 (dk_at dksX0_layNote_1 11 rfl rfl)
theorem dX0_layNote_38 : decode cX0_layNote 38 = .ok (.iload_n 1, 1) := dk_27 (dk_at dksX0_layNote_1 14 rfl rfl)
theorem dX0_layNote_39 : decode cX0_layNote 39 = .ok (.aaload, 1) := dk_50 (dk_at dksX0_layNote_1 15 rfl rfl)
theorem dX0_layNote_40 : decode cX0_layNote 40 = .ok (.iload_n 3, 1) := dk_29 (dk_at dksX0_layNote_1 16 rfl rfl)
theorem dX0_layNote_41 : decode cX0_layNote 41 = .ok (.iconst 1, 1) := dk_4 (dk_at dksX0_layNote_1 17 rfl rfl)
theorem dX0_layNote_42 : decode cX0_layNote 42 = .ok (.iadd, 1) := dk_96 (dk_at dksX0_layNote_1 18 rfl rfl)
theorem dX0_layNote_43 : decode cX0_layNote 43 = .ok (.aaload, 1) := dk_50 (dk_at dksX0_layNote_1 19 rfl rfl)
theorem dX0_layNote_44 : decode cX0_layNote 44 = .ok (.iload 4, 2) := dk_21 4 (dk_at dksX0_layNote_1 20 rfl rfl)
theorem dX0_layNote_46 : decode cX0_layNote 46 = .ok (.aload_n 0, 1) := dk_42 (dk_at dksX0_layNote_1 22 rfl rfl)
theorem dX0_layNote_47 : decode cX0_layNote 47 = .ok (.iload_n 1, 1) := dk_27 (dk_at dksX0_layNote_1 23 rfl rfl)
theorem dX0_layNote_48 : decode cX0_layNote 48 = .ok (.iload 4, 2) := dk_21 4 (dk_at dksX0_layNote_2 0 rfl rfl)
theorem dX0_layNote_50 : decode cX0_layNote 50 = .ok (.iload_n 3, 1) := dk_29 (dk_at dksX0_layNote_2 2 rfl rfl)
theorem dX0_layNote_51 : decode cX0_layNote 51 = .ok (.invokevirtual 296, 3) := dk_182 1 40 (dk_at dksX0_layNote_2 3 rfl rfl)
theorem dX0_layNote_54 : decode cX0_layNote 54 = .ok (.ifCond .ne 7, 3) := dk_154 0 7 (dk_at dksX0_layNote_2 6 rfl rfl)
theorem dX0_layNote_57 : decode cX0_layNote 57 = .ok (.iconst 1, 1) := dk_4 (dk_at dksX0_layNote_2 9 rfl rfl)
theorem dX0_layNote_58 : decode cX0_layNote 58 = .ok (.goto 4, 3) := dk_167 0 4 (dk_at dksX0_layNote_2 10 rfl rfl)
theorem dX0_layNote_61 : decode cX0_layNote 61 = .ok (.iconst 0, 1) := dk_3 (dk_at dksX0_layNote_2 13 rfl rfl)
theorem dX0_layNote_62 : decode cX0_layNote 62 = .ok (.bastore, 1) := dk_84 (dk_at dksX0_layNote_2 14 rfl rfl)
theorem dX0_layNote_63 : decode cX0_layNote 63 = .ok (.iload_n 2, 1) := dk_28 (dk_at dksX0_layNote_2 15 rfl rfl)
theorem dX0_layNote_64 : decode cX0_layNote 64 = .ok (.ifCond .eq 64, 3) := dk_153 0 64 (dk_at dksX0_layNote_2 16 rfl rfl)
theorem dX0_layNote_67 : decode cX0_layNote 67 = .ok (.aload_n 0, 1) := dk_42 (dk_at dksX0_layNote_2 19 rfl rfl)
theorem dX0_layNote_68 : decode cX0_layNote 68 = .ok (.getfield 84, 3) := dk_180 0 84 (dk_at dksX0_layNote_2 20 rfl rfl)
theorem dX0_layNote_71 : decode cX0_layNote 71 = .ok (.iload_n 1, 1) := dk_27 (dk_at dksX0_layNote_2 23 rfl rfl)
theorem dX0_layNote_72 : decode cX0_layNote 72 = .ok (.aaload, 1) := dk_50 (dk_at dksX0_layNote_3 0 rfl rfl)
theorem dX0_layNote_73 : decode cX0_layNote 73 = .ok (.iload_n 3, 1) := dk_29 (dk_at dksX0_layNote_3 1 rfl rfl)
theorem dX0_layNote_74 : decode cX0_layNote 74 = .ok (.iconst 1, 1) := dk_4 (dk_at dksX0_layNote_3 2 rfl rfl)
theorem dX0_layNote_75 : decode cX0_layNote 75 = .ok (.iadd, 1) := dk_96 (dk_at dksX0_layNote_3 3 rfl rfl)
theorem dX0_layNote_76 : decode cX0_layNote 76 = .ok (.aaload, 1) := dk_50 (dk_at dksX0_layNote_3 4 rfl rfl)
theorem dX0_layNote_77 : decode cX0_layNote 77 = .ok (.iload 4, 2) := dk_21 4 (dk_at dksX0_layNote_3 5 rfl rfl)
theorem dX0_layNote_79 : decode cX0_layNote 79 = .ok (.baload, 1) := dk_51 (dk_at dksX0_layNote_3 7 rfl rfl)
theorem dX0_layNote_80 : decode cX0_layNote 80 = .ok (.ifCond .ne 6, 3) := dk_154 0 6 (dk_at dksX0_layNote_3 8 rfl rfl)
theorem dX0_layNote_83 : decode cX0_layNote 83 = .ok (.goto 45, 3) := dk_167 0 45 (dk_at dksX0_layNote_3 11 rfl rfl)
theorem dX0_layNote_86 : decode cX0_layNote 86 = .ok (.aload_n 0, 1) := dk_42 (dk_at dksX0_layNote_3 14 rfl rfl)
theorem dX0_layNote_87 : decode cX0_layNote 87 = .ok (.getfield 89, 3) := dk_180 0 89 (dk_at dksX0_layNote_3 15 rfl rfl)
theorem dX0_layNote_90 : decode cX0_layNote 90 = .ok (.iload_n 1, 1) := dk_27 (dk_at dksX0_layNote_3 18 rfl rfl)
theorem dX0_layNote_91 : decode cX0_layNote 91 = .ok (.aaload, 1) := dk_50 (dk_at dksX0_layNote_3 19 rfl rfl)
theorem dX0_layNote_92 : decode cX0_layNote 92 = .ok (.iload_n 3, 1) := dk_29 (dk_at dksX0_layNote_3 20 rfl rfl)
theorem dX0_layNote_93 : decode cX0_layNote 93 = .ok (.iconst 1, 1) := dk_4 (dk_at dksX0_layNote_3 21 rfl rfl)
theorem dX0_layNote_94 : decode cX0_layNote 94 = .ok (.iadd, 1) := dk_96 (dk_at dksX0_layNote_3 22 rfl rfl)
theorem dX0_layNote_95 : decode cX0_layNote 95 = .ok (.aaload, 1) := dk_50 (dk_at dksX0_layNote_3 23 rfl rfl)
theorem dX0_layNote_96 : decode cX0_layNote 96 = .ok (.iload 4, 2) := dk_21 4 (dk_at dksX0_layNote_4 0 rfl rfl)
theorem dX0_layNote_98 : decode cX0_layNote 98 = .ok (.aload_n 0, 1) := dk_42 (dk_at dksX0_layNote_4 2 rfl rfl)
theorem dX0_layNote_99 : decode cX0_layNote 99 = .ok (.iload_n 1, 1) := dk_27 (dk_at dksX0_layNote_4 3 rfl rfl)
theorem dX0_layNote_100 : decode cX0_layNote 100 = .ok (.iload 4, 2) := dk_21 4 (dk_at dksX0_layNote_4 4 rfl rfl)
theorem dX0_layNote_102 : decode cX0_layNote 102 = .ok (.iload_n 3, 1) := dk_29 (dk_at dksX0_layNote_4 6 rfl rfl)
theorem dX0_layNote_103 : decode cX0_layNote 103 = .ok (.invokevirtual 289, 3) := dk_182 1 33 (dk_at dksX0_layNote_4 7 rfl rfl)
theorem dX0_layNote_106 : decode cX0_layNote 106 = .ok (.iastore, 1) := dk_79 (dk_at dksX0_layNote_4 10 rfl rfl)
theorem dX0_layNote_107 : decode cX0_layNote 107 = .ok (.aload_n 0, 1) := dk_42 (dk_at dksX0_layNote_4 11 rfl rfl)
theorem dX0_layNote_108 : decode cX0_layNote 108 = .ok (.getfield 92, 3) := dk_180 0 92 (dk_at dksX0_layNote_4 12 rfl rfl)
theorem dX0_layNote_111 : decode cX0_layNote 111 = .ok (.iload_n 1, 1) := dk_27 (dk_at dksX0_layNote_4 15 rfl rfl)
theorem dX0_layNote_112 : decode cX0_layNote 112 = .ok (.aaload, 1) := dk_50 (dk_at dksX0_layNote_4 16 rfl rfl)
theorem dX0_layNote_113 : decode cX0_layNote 113 = .ok (.iload_n 3, 1) := dk_29 (dk_at dksX0_layNote_4 17 rfl rfl)
theorem dX0_layNote_114 : decode cX0_layNote 114 = .ok (.iconst 1, 1) := dk_4 (dk_at dksX0_layNote_4 18 rfl rfl)
theorem dX0_layNote_115 : decode cX0_layNote 115 = .ok (.iadd, 1) := dk_96 (dk_at dksX0_layNote_4 19 rfl rfl)
theorem dX0_layNote_116 : decode cX0_layNote 116 = .ok (.aaload, 1) := dk_50 (dk_at dksX0_layNote_4 20 rfl rfl)
theorem dX0_layNote_117 : decode cX0_layNote 117 = .ok (.iload 4, 2) := dk_21 4 (dk_at dksX0_layNote_4 21 rfl rfl)
theorem dX0_layNote_119 : decode cX0_layNote 119 = .ok (.aload_n 0, 1) := dk_42 (dk_at dksX0_layNote_4 23 rfl rfl)
theorem dX0_layNote_120 : decode cX0_layNote 120 = .ok (.iload_n 1, 1) := dk_27 (dk_at dksX0_layNote_5 0 rfl rfl)
theorem dX0_layNote_121 : decode cX0_layNote 121 = .ok (.iload 4, 2) := dk_21 4 (dk_at dksX0_layNote_5 1 rfl rfl)
theorem dX0_layNote_123 : decode cX0_layNote 123 = .ok (.iload_n 3, 1) := dk_29 (dk_at dksX0_layNote_5 3 rfl rfl)
theorem dX0_layNote_124 : decode cX0_layNote 124 = .ok (.invokevirtual 293, 3) := dk_182 1 37 (dk_at dksX0_layNote_5 4 rfl rfl)
theorem dX0_layNote_127 : decode cX0_layNote 127 = .ok (.iastore, 1) := dk_79 (dk_at dksX0_layNote_5 7 rfl rfl)
theorem dX0_layNote_128 : decode cX0_layNote 128 = .ok (.iinc 4 1, 3) := dk_132 4 1 (dk_at dksX0_layNote_5 8 rfl rfl)
theorem dX0_layNote_131 : decode cX0_layNote 131 = .ok (.goto (-104), 3) := dk_167 255 152 (dk_at dksX0_layNote_5 11 rfl rfl)
theorem dX0_layNote_134 : decode cX0_layNote 134 = .ok (.iinc 3 1, 3) := dk_132 3 1 (dk_at dksX0_layNote_5 14 rfl rfl)
theorem dX0_layNote_137 : decode cX0_layNote 137 = .ok (.goto (-127), 3) := dk_167 255 129 (dk_at dksX0_layNote_5 17 rfl rfl)
theorem dX0_layNote_140 : decode cX0_layNote 140 = .ok (.return_, 1) := dk_177 (dk_at dksX0_layNote_5 20 rfl rfl)
abbrev cX0_layVoices : ByteArray := prog_1_method_55_code
def yX0_layVoices : MethodName := ⟨RX0, "layVoices", "(III)V"⟩
def dkwX0_layVoices_8 : List UInt8 := [132, 6, 1, 167, 255, 213, 132, 5, 255, 167, 255, 199, 177]
abbrev dktX0_layVoices_8 : List UInt8 := dkwX0_layVoices_8 ++ []
def dkwX0_layVoices_7 : List UInt8 := [21, 5, 154, 0, 7, 4, 167, 0, 4, 3, 160, 0, 13, 42, 21, 5, 21, 6, 27, 28, 182, 1, 86]
abbrev dktX0_layVoices_7 : List UInt8 := dkwX0_layVoices_7 ++ dktX0_layVoices_8
def dkwX0_layVoices_6 : List UInt8 := [155, 0, 58, 3, 54, 6, 21, 6, 16, 25, 163, 0, 42, 21, 6, 154, 0, 7, 4, 167, 0, 4, 3]
abbrev dktX0_layVoices_6 : List UInt8 := dkwX0_layVoices_6 ++ dktX0_layVoices_7
def dkwX0_layVoices_5 : List UInt8 := [153, 0, 7, 10, 167, 0, 4, 9, 80, 132, 5, 1, 167, 255, 140, 21, 4, 4, 100, 54, 5, 21, 5]
abbrev dktX0_layVoices_5 : List UInt8 := dkwX0_layVoices_5 ++ dktX0_layVoices_6
def dkwX0_layVoices_4 : List UInt8 := [153, 0, 7, 3, 167, 0, 6, 19, 1, 84, 79, 42, 180, 0, 108, 21, 4, 50, 21, 5, 21, 6]
abbrev dktX0_layVoices_4 : List UInt8 := dkwX0_layVoices_4 ++ dktX0_layVoices_5
def dkwX0_layVoices_3 : List UInt8 := [153, 0, 7, 3, 167, 0, 6, 19, 1, 85, 79, 42, 180, 0, 103, 21, 4, 50, 21, 5, 21, 6]
abbrev dktX0_layVoices_3 : List UInt8 := dkwX0_layVoices_3 ++ dktX0_layVoices_4
def dkwX0_layVoices_2 : List UInt8 := [153, 0, 7, 3, 167, 0, 6, 19, 1, 84, 79, 42, 180, 0, 100, 21, 4, 50, 21, 5, 21, 6]
abbrev dktX0_layVoices_2 : List UInt8 := dkwX0_layVoices_2 ++ dktX0_layVoices_3
def dkwX0_layVoices_1 : List UInt8 := [4, 96, 160, 0, 7, 4, 167, 0, 4, 3, 54, 6, 42, 180, 0, 97, 21, 4, 50, 21, 5, 21, 6]
abbrev dktX0_layVoices_1 : List UInt8 := dkwX0_layVoices_1 ++ dktX0_layVoices_2
def dkwX0_layVoices_0 : List UInt8 := [42, 182, 0, 142, 54, 4, 3, 54, 5, 21, 5, 16, 25, 163, 0, 115, 29, 2, 159, 0, 11, 21, 5, 29]
abbrev dktX0_layVoices_0 : List UInt8 := dkwX0_layVoices_0 ++ dktX0_layVoices_1
theorem dksX0_layVoices_0 : cX0_layVoices.data.toList.drop 0 = dktX0_layVoices_0 := by decide +kernel
theorem dksX0_layVoices_1 : cX0_layVoices.data.toList.drop 24 = dktX0_layVoices_1 := dk_seg dksX0_layVoices_0 24 rfl rfl
theorem dksX0_layVoices_2 : cX0_layVoices.data.toList.drop 47 = dktX0_layVoices_2 := dk_seg dksX0_layVoices_1 23 rfl rfl
theorem dksX0_layVoices_3 : cX0_layVoices.data.toList.drop 69 = dktX0_layVoices_3 := dk_seg dksX0_layVoices_2 22 rfl rfl
theorem dksX0_layVoices_4 : cX0_layVoices.data.toList.drop 91 = dktX0_layVoices_4 := dk_seg dksX0_layVoices_3 22 rfl rfl
theorem dksX0_layVoices_5 : cX0_layVoices.data.toList.drop 113 = dktX0_layVoices_5 := dk_seg dksX0_layVoices_4 22 rfl rfl
theorem dksX0_layVoices_6 : cX0_layVoices.data.toList.drop 136 = dktX0_layVoices_6 := dk_seg dksX0_layVoices_5 23 rfl rfl
theorem dksX0_layVoices_7 : cX0_layVoices.data.toList.drop 159 = dktX0_layVoices_7 := dk_seg dksX0_layVoices_6 23 rfl rfl
theorem dksX0_layVoices_8 : cX0_layVoices.data.toList.drop 182 = dktX0_layVoices_8 := dk_seg dksX0_layVoices_7 23 rfl rfl
theorem dX0_layVoices_0 : decode cX0_layVoices 0 = .ok (.aload_n 0, 1) := dk_42 (dk_at dksX0_layVoices_0 0 rfl rfl)
theorem dX0_layVoices_1 : decode cX0_layVoices 1 = .ok (.invokevirtual 142, 3) := dk_182 0 142 (dk_at dksX0_layVoices_0 1 rfl rfl)
theorem dX0_layVoices_4 : decode cX0_layVoices 4 = .ok (.istore 4, 2) := dk_54 4 (dk_at dksX0_layVoices_0 4 rfl rfl)
theorem dX0_layVoices_6 : decode cX0_layVoices 6 = .ok (.iconst 0, 1) := dk_3 (dk_at dksX0_layVoices_0 6 rfl rfl)
theorem dX0_layVoices_7 : decode cX0_layVoices 7 = .ok (.istore 5, 2) := dk_54 5 (dk_at dksX0_layVoices_0 7 rfl rfl)
theorem dX0_layVoices_9 : decode cX0_layVoices 9 = .ok (.iload 5, 2) := dk_21 5 (dk_at dksX0_layVoices_0 9 rfl rfl)
theorem dX0_layVoices_11 : decode cX0_layVoices 11 = .ok (.bipush 25, 2) := dk_16 25 (dk_at dksX0_layVoices_0 11 rfl rfl)
theorem dX0_layVoices_13 : decode cX0_layVoices 13 = .ok (.if_icmp .gt 115, 3) := dk_163 0 115 (dk_at dksX0_layVoices_0 13 rfl rfl)
theorem dX0_layVoices_16 : decode cX0_layVoices 16 = .ok (.iload_n 3, 1) := dk_29 (dk_at dksX0_layVoices_0 16 rfl rfl)
theorem dX0_layVoices_17 : decode cX0_layVoices 17 = .ok (.iconst (-1), 1) := dk_2 (dk_at dksX0_layVoices_0 17 rfl rfl)
theorem dX0_layVoices_18 : decode cX0_layVoices 18 = .ok (.if_icmp .eq 11, 3) := dk_159 0 11 (dk_at dksX0_layVoices_0 18 rfl rfl)
theorem dX0_layVoices_21 : decode cX0_layVoices 21 = .ok (.iload 5, 2) := dk_21 5 (dk_at dksX0_layVoices_0 21 rfl rfl)
theorem dX0_layVoices_23 : decode cX0_layVoices 23 = .ok (.iload_n 3, 1) := dk_29 (dk_at dksX0_layVoices_0 23 rfl rfl)
theorem dX0_layVoices_24 : decode cX0_layVoices 24 = .ok (.iconst 1, 1) := dk_4 (dk_at dksX0_layVoices_1 0 rfl rfl)
theorem dX0_layVoices_25 : decode cX0_layVoices 25 = .ok (.iadd, 1) := dk_96 (dk_at dksX0_layVoices_1 1 rfl rfl)
theorem dX0_layVoices_26 : decode cX0_layVoices 26 = .ok (.if_icmp .ne 7, 3) := dk_160 0 7 (dk_at dksX0_layVoices_1 2 rfl rfl)
theorem dX0_layVoices_29 : decode cX0_layVoices 29 = .ok (.iconst 1, 1) := dk_4 (dk_at dksX0_layVoices_1 5 rfl rfl)
theorem dX0_layVoices_30 : decode cX0_layVoices 30 = .ok (.goto 4, 3) := dk_167 0 4 (dk_at dksX0_layVoices_1 6 rfl rfl)
theorem dX0_layVoices_33 : decode cX0_layVoices 33 = .ok (.iconst 0, 1) := dk_3 (dk_at dksX0_layVoices_1 9 rfl rfl)
theorem dX0_layVoices_34 : decode cX0_layVoices 34 = .ok (.istore 6, 2) := dk_54 6 (dk_at dksX0_layVoices_1 10 rfl rfl)
theorem dX0_layVoices_36 : decode cX0_layVoices 36 = .ok (.aload_n 0, 1) := dk_42 (dk_at dksX0_layVoices_1 12 rfl rfl)
theorem dX0_layVoices_37 : decode cX0_layVoices 37 = .ok (.getfield 97, 3) := dk_180 0 97 (dk_at dksX0_layVoices_1 13 rfl rfl)
theorem dX0_layVoices_40 : decode cX0_layVoices 40 = .ok (.iload 4, 2) := dk_21 4 (dk_at dksX0_layVoices_1 16 rfl rfl)
theorem dX0_layVoices_42 : decode cX0_layVoices 42 = .ok (.aaload, 1) := dk_50 (dk_at dksX0_layVoices_1 18 rfl rfl)
theorem dX0_layVoices_43 : decode cX0_layVoices 43 = .ok (.iload 5, 2) := dk_21 5 (dk_at dksX0_layVoices_1 19 rfl rfl)
theorem dX0_layVoices_45 : decode cX0_layVoices 45 = .ok (.iload 6, 2) := dk_21 6 (dk_at dksX0_layVoices_1 21 rfl rfl)
theorem dX0_layVoices_47 : decode cX0_layVoices 47 = .ok (.ifCond .eq 7, 3) := dk_153 0 7 (dk_at dksX0_layVoices_2 0 rfl rfl)
theorem dX0_layVoices_50 : decode cX0_layVoices 50 = .ok (.iconst 0, 1) := dk_3 (dk_at dksX0_layVoices_2 3 rfl rfl)
theorem dX0_layVoices_51 : decode cX0_layVoices 51 = .ok (.goto 6, 3) := dk_167 0 6 (dk_at dksX0_layVoices_2 4 rfl rfl)
theorem dX0_layVoices_54 : decode cX0_layVoices 54 = .ok (.ldc_w 340, 3) := dk_19 1 84 (dk_at dksX0_layVoices_2 7 rfl rfl)
theorem dX0_layVoices_57 : decode cX0_layVoices 57 = .ok (.iastore, 1) := dk_79 (dk_at dksX0_layVoices_2 10 rfl rfl)
theorem dX0_layVoices_58 : decode cX0_layVoices 58 = .ok (.aload_n 0, 1) := dk_42 (dk_at dksX0_layVoices_2 11 rfl rfl)
theorem dX0_layVoices_59 : decode cX0_layVoices 59 = .ok (.getfield 100, 3) := dk_180 0 100 (dk_at dksX0_layVoices_2 12 rfl rfl)
theorem dX0_layVoices_62 : decode cX0_layVoices 62 = .ok (.iload 4, 2) := dk_21 4 (dk_at dksX0_layVoices_2 15 rfl rfl)
theorem dX0_layVoices_64 : decode cX0_layVoices 64 = .ok (.aaload, 1) := dk_50 (dk_at dksX0_layVoices_2 17 rfl rfl)
theorem dX0_layVoices_65 : decode cX0_layVoices 65 = .ok (.iload 5, 2) := dk_21 5 (dk_at dksX0_layVoices_2 18 rfl rfl)
theorem dX0_layVoices_67 : decode cX0_layVoices 67 = .ok (.iload 6, 2) := dk_21 6 (dk_at dksX0_layVoices_2 20 rfl rfl)
theorem dX0_layVoices_69 : decode cX0_layVoices 69 = .ok (.ifCond .eq 7, 3) := dk_153 0 7 (dk_at dksX0_layVoices_3 0 rfl rfl)
theorem dX0_layVoices_72 : decode cX0_layVoices 72 = .ok (.iconst 0, 1) := dk_3 (dk_at dksX0_layVoices_3 3 rfl rfl)
theorem dX0_layVoices_73 : decode cX0_layVoices 73 = .ok (.goto 6, 3) := dk_167 0 6 (dk_at dksX0_layVoices_3 4 rfl rfl)
theorem dX0_layVoices_76 : decode cX0_layVoices 76 = .ok (.ldc_w 341, 3) := dk_19 1 85 (dk_at dksX0_layVoices_3 7 rfl rfl)
theorem dX0_layVoices_79 : decode cX0_layVoices 79 = .ok (.iastore, 1) := dk_79 (dk_at dksX0_layVoices_3 10 rfl rfl)
theorem dX0_layVoices_80 : decode cX0_layVoices 80 = .ok (.aload_n 0, 1) := dk_42 (dk_at dksX0_layVoices_3 11 rfl rfl)
theorem dX0_layVoices_81 : decode cX0_layVoices 81 = .ok (.getfield 103, 3) := dk_180 0 103 (dk_at dksX0_layVoices_3 12 rfl rfl)
theorem dX0_layVoices_84 : decode cX0_layVoices 84 = .ok (.iload 4, 2) := dk_21 4 (dk_at dksX0_layVoices_3 15 rfl rfl)
theorem dX0_layVoices_86 : decode cX0_layVoices 86 = .ok (.aaload, 1) := dk_50 (dk_at dksX0_layVoices_3 17 rfl rfl)
theorem dX0_layVoices_87 : decode cX0_layVoices 87 = .ok (.iload 5, 2) := dk_21 5 (dk_at dksX0_layVoices_3 18 rfl rfl)
theorem dX0_layVoices_89 : decode cX0_layVoices 89 = .ok (.iload 6, 2) := dk_21 6 (dk_at dksX0_layVoices_3 20 rfl rfl)
theorem dX0_layVoices_91 : decode cX0_layVoices 91 = .ok (.ifCond .eq 7, 3) := dk_153 0 7 (dk_at dksX0_layVoices_4 0 rfl rfl)
theorem dX0_layVoices_94 : decode cX0_layVoices 94 = .ok (.iconst 0, 1) := dk_3 (dk_at dksX0_layVoices_4 3 rfl rfl)
theorem dX0_layVoices_95 : decode cX0_layVoices 95 = .ok (.goto 6, 3) := dk_167 0 6 (dk_at dksX0_layVoices_4 4 rfl rfl)
theorem dX0_layVoices_98 : decode cX0_layVoices 98 = .ok (.ldc_w 340, 3) := dk_19 1 84 (dk_at dksX0_layVoices_4 7 rfl rfl)
theorem dX0_layVoices_101 : decode cX0_layVoices 101 = .ok (.iastore, 1) := dk_79 (dk_at dksX0_layVoices_4 10 rfl rfl)
theorem dX0_layVoices_102 : decode cX0_layVoices 102 = .ok (.aload_n 0, 1) := dk_42 (dk_at dksX0_layVoices_4 11 rfl rfl)
theorem dX0_layVoices_103 : decode cX0_layVoices 103 = .ok (.getfield 108, 3) := dk_180 0 108 (dk_at dksX0_layVoices_4 12 rfl rfl)
theorem dX0_layVoices_106 : decode cX0_layVoices 106 = .ok (.iload 4, 2) := dk_21 4 (dk_at dksX0_layVoices_4 15 rfl rfl)
theorem dX0_layVoices_108 : decode cX0_layVoices 108 = .ok (.aaload, 1) := dk_50 (dk_at dksX0_layVoices_4 17 rfl rfl)
theorem dX0_layVoices_109 : decode cX0_layVoices 109 = .ok (.iload 5, 2) := dk_21 5 (dk_at dksX0_layVoices_4 18 rfl rfl)
theorem dX0_layVoices_111 : decode cX0_layVoices 111 = .ok (.iload 6, 2) := dk_21 6 (dk_at dksX0_layVoices_4 20 rfl rfl)
theorem dX0_layVoices_113 : decode cX0_layVoices 113 = .ok (.ifCond .eq 7, 3) := dk_153 0 7 (dk_at dksX0_layVoices_5 0 rfl rfl)
theorem dX0_layVoices_116 : decode cX0_layVoices 116 = .ok (.lconst 1, 1) := dk_10 (dk_at dksX0_layVoices_5 3 rfl rfl)
theorem dX0_layVoices_117 : decode cX0_layVoices 117 = .ok (.goto 4, 3) := dk_167 0 4 (dk_at dksX0_layVoices_5 4 rfl rfl)
theorem dX0_layVoices_120 : decode cX0_layVoices 120 = .ok (.lconst 0, 1) := dk_9 (dk_at dksX0_layVoices_5 7 rfl rfl)
theorem dX0_layVoices_121 : decode cX0_layVoices 121 = .ok (.lastore, 1) := dk_80 (dk_at dksX0_layVoices_5 8 rfl rfl)
theorem dX0_layVoices_122 : decode cX0_layVoices 122 = .ok (.iinc 5 1, 3) := dk_132 5 1 (dk_at dksX0_layVoices_5 9 rfl rfl)
theorem dX0_layVoices_125 : decode cX0_layVoices 125 = .ok (.goto (-116), 3) := dk_167 255 140 (dk_at dksX0_layVoices_5 12 rfl rfl)
theorem dX0_layVoices_128 : decode cX0_layVoices 128 = .ok (.iload 4, 2) := dk_21 4 (dk_at dksX0_layVoices_5 15 rfl rfl)
theorem dX0_layVoices_130 : decode cX0_layVoices 130 = .ok (.iconst 1, 1) := dk_4 (dk_at dksX0_layVoices_5 17 rfl rfl)
theorem dX0_layVoices_131 : decode cX0_layVoices 131 = .ok (.isub, 1) := dk_100 (dk_at dksX0_layVoices_5 18 rfl rfl)
theorem dX0_layVoices_132 : decode cX0_layVoices 132 = .ok (.istore 5, 2) := dk_54 5 (dk_at dksX0_layVoices_5 19 rfl rfl)
theorem dX0_layVoices_134 : decode cX0_layVoices 134 = .ok (.iload 5, 2) := dk_21 5 (dk_at dksX0_layVoices_5 21 rfl rfl)
theorem dX0_layVoices_136 : decode cX0_layVoices 136 = .ok (.ifCond .lt 58, 3) := dk_155 0 58 (dk_at dksX0_layVoices_6 0 rfl rfl)
theorem dX0_layVoices_139 : decode cX0_layVoices 139 = .ok (.iconst 0, 1) := dk_3 (dk_at dksX0_layVoices_6 3 rfl rfl)
theorem dX0_layVoices_140 : decode cX0_layVoices 140 = .ok (.istore 6, 2) := dk_54 6 (dk_at dksX0_layVoices_6 4 rfl rfl)
theorem dX0_layVoices_142 : decode cX0_layVoices 142 = .ok (.iload 6, 2) := dk_21 6 (dk_at dksX0_layVoices_6 6 rfl rfl)
theorem dX0_layVoices_144 : decode cX0_layVoices 144 = .ok (.bipush 25, 2) := dk_16 25 (dk_at dksX0_layVoices_6 8 rfl rfl)
theorem dX0_layVoices_146 : decode cX0_layVoices 146 = .ok (.if_icmp .gt 42, 3) := dk_163 0 42 (dk_at dksX0_layVoices_6 10 rfl rfl)
theorem dX0_layVoices_149 : decode cX0_layVoices 149 = .ok (.iload 6, 2) := dk_21 6 (dk_at dksX0_layVoices_6 13 rfl rfl)
theorem dX0_layVoices_151 : decode cX0_layVoices 151 = .ok (.ifCond .ne 7, 3) := dk_154 0 7 (dk_at dksX0_layVoices_6 15 rfl rfl)
theorem dX0_layVoices_154 : decode cX0_layVoices 154 = .ok (.iconst 1, 1) := dk_4 (dk_at dksX0_layVoices_6 18 rfl rfl)
theorem dX0_layVoices_155 : decode cX0_layVoices 155 = .ok (.goto 4, 3) := dk_167 0 4 (dk_at dksX0_layVoices_6 19 rfl rfl)
theorem dX0_layVoices_158 : decode cX0_layVoices 158 = .ok (.iconst 0, 1) := dk_3 (dk_at dksX0_layVoices_6 22 rfl rfl)
theorem dX0_layVoices_159 : decode cX0_layVoices 159 = .ok (.iload 5, 2) := dk_21 5 (dk_at dksX0_layVoices_7 0 rfl rfl)
theorem dX0_layVoices_161 : decode cX0_layVoices 161 = .ok (.ifCond .ne 7, 3) := dk_154 0 7 (dk_at dksX0_layVoices_7 2 rfl rfl)
theorem dX0_layVoices_164 : decode cX0_layVoices 164 = .ok (.iconst 1, 1) := dk_4 (dk_at dksX0_layVoices_7 5 rfl rfl)
theorem dX0_layVoices_165 : decode cX0_layVoices 165 = .ok (.goto 4, 3) := dk_167 0 4 (dk_at dksX0_layVoices_7 6 rfl rfl)
theorem dX0_layVoices_168 : decode cX0_layVoices 168 = .ok (.iconst 0, 1) := dk_3 (dk_at dksX0_layVoices_7 9 rfl rfl)
theorem dX0_layVoices_169 : decode cX0_layVoices 169 = .ok (.if_icmp .ne 13, 3) := dk_160 0 13 (dk_at dksX0_layVoices_7 10 rfl rfl)
theorem dX0_layVoices_172 : decode cX0_layVoices 172 = .ok (.aload_n 0, 1) := dk_42 (dk_at dksX0_layVoices_7 13 rfl rfl)
theorem dX0_layVoices_173 : decode cX0_layVoices 173 = .ok (.iload 5, 2) := dk_21 5 (dk_at dksX0_layVoices_7 14 rfl rfl)
theorem dX0_layVoices_175 : decode cX0_layVoices 175 = .ok (.iload 6, 2) := dk_21 6 (dk_at dksX0_layVoices_7 16 rfl rfl)
theorem dX0_layVoices_177 : decode cX0_layVoices 177 = .ok (.iload_n 1, 1) := dk_27 (dk_at dksX0_layVoices_7 18 rfl rfl)
theorem dX0_layVoices_178 : decode cX0_layVoices 178 = .ok (.iload_n 2, 1) := dk_28 (dk_at dksX0_layVoices_7 19 rfl rfl)
theorem dX0_layVoices_179 : decode cX0_layVoices 179 = .ok (.invokevirtual 342, 3) := dk_182 1 86 (dk_at dksX0_layVoices_7 20 rfl rfl)
theorem dX0_layVoices_182 : decode cX0_layVoices 182 = .ok (.iinc 6 1, 3) := dk_132 6 1 (dk_at dksX0_layVoices_8 0 rfl rfl)
theorem dX0_layVoices_185 : decode cX0_layVoices 185 = .ok (.goto (-43), 3) := dk_167 255 213 (dk_at dksX0_layVoices_8 3 rfl rfl)
theorem dX0_layVoices_188 : decode cX0_layVoices 188 = .ok (.iinc 5 (-1), 3) := dk_132 5 255 (dk_at dksX0_layVoices_8 6 rfl rfl)
theorem dX0_layVoices_191 : decode cX0_layVoices 191 = .ok (.goto (-57), 3) := dk_167 255 199 (dk_at dksX0_layVoices_8 9 rfl rfl)
theorem dX0_layVoices_194 : decode cX0_layVoices 194 = .ok (.return_, 1) := dk_177 (dk_at dksX0_layVoices_8 12 rfl rfl)
abbrev cX0_layFrom : ByteArray := prog_1_method_56_code
def yX0_layFrom : MethodName := ⟨RX0, "layFrom", "(IIII)V"⟩
def dkwX0_layFrom_10 : List UInt8 := [132, 5, 1, 167, 255, 59, 177]
abbrev dktX0_layFrom_10 : List UInt8 := dkwX0_layFrom_10 ++ []
def dkwX0_layFrom_9 : List UInt8 := [42, 180, 0, 108, 27, 50, 28, 92, 47, 42, 180, 0, 108, 27, 4, 96, 50, 21, 5, 4, 96, 47, 97, 80]
abbrev dktX0_layFrom_9 : List UInt8 := dkwX0_layFrom_9 ++ dktX0_layFrom_10
def dkwX0_layFrom_8 : List UInt8 := [27, 21, 5, 182, 1, 93, 42, 180, 0, 103, 27, 4, 96, 50, 21, 5, 4, 96, 46, 96, 184, 0, 120, 79]
abbrev dktX0_layFrom_8 : List UInt8 := dkwX0_layFrom_8 ++ dktX0_layFrom_9
def dkwX0_layFrom_7 : List UInt8 := [4, 96, 46, 96, 184, 1, 90, 79, 42, 180, 0, 103, 27, 50, 28, 42, 180, 0, 103, 27, 50, 28, 46, 42]
abbrev dktX0_layFrom_7 : List UInt8 := dkwX0_layFrom_7 ++ dktX0_layFrom_8
def dkwX0_layFrom_6 : List UInt8 := [50, 28, 46, 42, 180, 0, 92, 27, 50, 28, 50, 21, 5, 46, 42, 180, 0, 100, 27, 4, 96, 50, 21, 5]
abbrev dktX0_layFrom_6 : List UInt8 := dkwX0_layFrom_6 ++ dktX0_layFrom_7
def dkwX0_layFrom_5 : List UInt8 := [96, 50, 21, 5, 4, 96, 46, 96, 184, 0, 120, 79, 42, 180, 0, 100, 27, 50, 28, 42, 180, 0, 100, 27]
abbrev dktX0_layFrom_5 : List UInt8 := dkwX0_layFrom_5 ++ dktX0_layFrom_6
def dkwX0_layFrom_4 : List UInt8 := [180, 0, 97, 27, 50, 28, 46, 42, 180, 0, 89, 27, 50, 28, 50, 21, 5, 46, 42, 180, 0, 97, 27, 4]
abbrev dktX0_layFrom_4 : List UInt8 := dkwX0_layFrom_4 ++ dktX0_layFrom_5
def dkwX0_layFrom_3 : List UInt8 := [4, 96, 50, 21, 5, 4, 96, 47, 9, 148, 154, 0, 6, 167, 0, 155, 42, 180, 0, 97, 27, 50, 28, 42]
abbrev dktX0_layFrom_3 : List UInt8 := dkwX0_layFrom_3 ++ dktX0_layFrom_4
def dkwX0_layFrom_2 : List UInt8 := [21, 4, 163, 0, 196, 42, 180, 0, 84, 27, 50, 28, 50, 21, 5, 51, 153, 0, 176, 42, 180, 0, 108, 27]
abbrev dktX0_layFrom_2 : List UInt8 := dkwX0_layFrom_2 ++ dktX0_layFrom_3
def dkwX0_layFrom_1 : List UInt8 := [180, 0, 103, 27, 50, 28, 19, 1, 84, 79, 42, 180, 0, 108, 27, 50, 28, 9, 80, 29, 54, 5, 21, 5]
abbrev dktX0_layFrom_1 : List UInt8 := dkwX0_layFrom_1 ++ dktX0_layFrom_2
def dkwX0_layFrom_0 : List UInt8 := [42, 180, 0, 97, 27, 50, 28, 19, 1, 84, 79, 42, 180, 0, 100, 27, 50, 28, 19, 1, 85, 79, 42]
abbrev dktX0_layFrom_0 : List UInt8 := dkwX0_layFrom_0 ++ dktX0_layFrom_1
theorem dksX0_layFrom_0 : cX0_layFrom.data.toList.drop 0 = dktX0_layFrom_0 := by decide +kernel
theorem dksX0_layFrom_1 : cX0_layFrom.data.toList.drop 23 = dktX0_layFrom_1 := dk_seg dksX0_layFrom_0 23 rfl rfl
theorem dksX0_layFrom_2 : cX0_layFrom.data.toList.drop 47 = dktX0_layFrom_2 := dk_seg dksX0_layFrom_1 24 rfl rfl
theorem dksX0_layFrom_3 : cX0_layFrom.data.toList.drop 71 = dktX0_layFrom_3 := dk_seg dksX0_layFrom_2 24 rfl rfl
theorem dksX0_layFrom_4 : cX0_layFrom.data.toList.drop 95 = dktX0_layFrom_4 := dk_seg dksX0_layFrom_3 24 rfl rfl
theorem dksX0_layFrom_5 : cX0_layFrom.data.toList.drop 119 = dktX0_layFrom_5 := dk_seg dksX0_layFrom_4 24 rfl rfl
theorem dksX0_layFrom_6 : cX0_layFrom.data.toList.drop 143 = dktX0_layFrom_6 := dk_seg dksX0_layFrom_5 24 rfl rfl
theorem dksX0_layFrom_7 : cX0_layFrom.data.toList.drop 167 = dktX0_layFrom_7 := dk_seg dksX0_layFrom_6 24 rfl rfl
theorem dksX0_layFrom_8 : cX0_layFrom.data.toList.drop 191 = dktX0_layFrom_8 := dk_seg dksX0_layFrom_7 24 rfl rfl
theorem dksX0_layFrom_9 : cX0_layFrom.data.toList.drop 215 = dktX0_layFrom_9 := dk_seg dksX0_layFrom_8 24 rfl rfl
theorem dksX0_layFrom_10 : cX0_layFrom.data.toList.drop 239 = dktX0_layFrom_10 := dk_seg dksX0_layFrom_9 24 rfl rfl
theorem dX0_layFrom_0 : decode cX0_layFrom 0 = .ok (.aload_n 0, 1) := dk_42 (dk_at dksX0_layFrom_0 0 rfl rfl)
theorem dX0_layFrom_1 : decode cX0_layFrom 1 = .ok (.getfield 97, 3) := dk_180 0 97 (dk_at dksX0_layFrom_0 1 rfl rfl)
theorem dX0_layFrom_4 : decode cX0_layFrom 4 = .ok (.iload_n 1, 1) := dk_27 (dk_at dksX0_layFrom_0 4 rfl rfl)
theorem dX0_layFrom_5 : decode cX0_layFrom 5 = .ok (.aaload, 1) := dk_50 (dk_at dksX0_layFrom_0 5 rfl rfl)
theorem dX0_layFrom_6 : decode cX0_layFrom 6 = .ok (.iload_n 2, 1) := dk_28 (dk_at dksX0_layFrom_0 6 rfl rfl)
theorem dX0_layFrom_7 : decode cX0_layFrom 7 = .ok (.ldc_w 340, 3) := dk_19 1 84 (dk_at dksX0_layFrom_0 7 rfl rfl)
theorem dX0_layFrom_10 : decode cX0_layFrom 10 = .ok (.iastore, 1) := dk_79 (dk_at dksX0_layFrom_0 10 rfl rfl)
theorem dX0_layFrom_11 : decode cX0_layFrom 11 = .ok (.aload_n 0, 1) := dk_42 (dk_at dksX0_layFrom_0 11 rfl rfl)
theorem dX0_layFrom_12 : decode cX0_layFrom 12 = .ok (.getfield 100, 3) := dk_180 0 100 (dk_at dksX0_layFrom_0 12 rfl rfl)
theorem dX0_layFrom_15 : decode cX0_layFrom 15 = .ok (.iload_n 1, 1) := dk_27 (dk_at dksX0_layFrom_0 15 rfl rfl)
theorem dX0_layFrom_16 : decode cX0_layFrom 16 = .ok (.aaload, 1) := dk_50 (dk_at dksX0_layFrom_0 16 rfl rfl)
theorem dX0_layFrom_17 : decode cX0_layFrom 17 = .ok (.iload_n 2, 1) := dk_28 (dk_at dksX0_layFrom_0 17 rfl rfl)
theorem dX0_layFrom_18 : decode cX0_layFrom 18 = .ok (.ldc_w 341, 3) := dk_19 1 85 (dk_at dksX0_layFrom_0 18 rfl rfl)
theorem dX0_layFrom_21 : decode cX0_layFrom 21 = .ok (.iastore, 1) := dk_79 (dk_at dksX0_layFrom_0 21 rfl rfl)
theorem dX0_layFrom_22 : decode cX0_layFrom 22 = .ok (.aload_n 0, 1) := dk_42 (dk_at dksX0_layFrom_0 22 rfl rfl)
theorem dX0_layFrom_23 : decode cX0_layFrom 23 = .ok (.getfield 103, 3) := dk_180 0 103 (dk_at dksX0_layFrom_1 0 rfl rfl)
theorem dX0_layFrom_26 : decode cX0_layFrom 26 = .ok (.iload_n 1, 1) := dk_27 (dk_at dksX0_layFrom_1 3 rfl rfl)
theorem dX0_layFrom_27 : decode cX0_layFrom 27 = .ok (.aaload, 1) := dk_50 (dk_at dksX0_layFrom_1 4 rfl rfl)
theorem dX0_layFrom_28 : decode cX0_layFrom 28 = .ok (.iload_n 2, 1) := dk_28 (dk_at dksX0_layFrom_1 5 rfl rfl)
theorem dX0_layFrom_29 : decode cX0_layFrom 29 = .ok (.ldc_w 340, 3) := dk_19 1 84 (dk_at dksX0_layFrom_1 6 rfl rfl)
theorem dX0_layFrom_32 : decode cX0_layFrom 32 = .ok (.iastore, 1) := dk_79 (dk_at dksX0_layFrom_1 9 rfl rfl)
theorem dX0_layFrom_33 : decode cX0_layFrom 33 = .ok (.aload_n 0, 1) := dk_42 (dk_at dksX0_layFrom_1 10 rfl rfl)
theorem dX0_layFrom_34 : decode cX0_layFrom 34 = .ok (.getfield 108, 3) := dk_180 0 108 (dk_at dksX0_layFrom_1 11 rfl rfl)
theorem dX0_layFrom_37 : decode cX0_layFrom 37 = .ok (.iload_n 1, 1) := dk_27 (dk_at dksX0_layFrom_1 14 rfl rfl)
theorem dX0_layFrom_38 : decode cX0_layFrom 38 = .ok (.aaload, 1) := dk_50 (dk_at dksX0_layFrom_1 15 rfl rfl)
theorem dX0_layFrom_39 : decode cX0_layFrom 39 = .ok (.iload_n 2, 1) := dk_28 (dk_at dksX0_layFrom_1 16 rfl rfl)
theorem dX0_layFrom_40 : decode cX0_layFrom 40 = .ok (.lconst 0, 1) := dk_9 (dk_at dksX0_layFrom_1 17 rfl rfl)
theorem dX0_layFrom_41 : decode cX0_layFrom 41 = .ok (.lastore, 1) := dk_80 (dk_at dksX0_layFrom_1 18 rfl rfl)
theorem dX0_layFrom_42 : decode cX0_layFrom 42 = .ok (.iload_n 3, 1) := dk_29 (dk_at dksX0_layFrom_1 19 rfl rfl)
theorem dX0_layFrom_43 : decode cX0_layFrom 43 = .ok (.istore 5, 2) := dk_54 5 (dk_at dksX0_layFrom_1 20 rfl rfl)
theorem dX0_layFrom_45 : decode cX0_layFrom 45 = .ok (.iload 5, 2) := dk_21 5 (dk_at dksX0_layFrom_1 22 rfl rfl)
theorem dX0_layFrom_47 : decode cX0_layFrom 47 = .ok (.iload 4, 2) := dk_21 4 (dk_at dksX0_layFrom_2 0 rfl rfl)
theorem dX0_layFrom_49 : decode cX0_layFrom 49 = .ok (.if_icmp .gt 196, 3) := dk_163 0 196 (dk_at dksX0_layFrom_2 2 rfl rfl)
theorem dX0_layFrom_52 : decode cX0_layFrom 52 = .ok (.aload_n 0, 1) := dk_42 (dk_at dksX0_layFrom_2 5 rfl rfl)
theorem dX0_layFrom_53 : decode cX0_layFrom 53 = .ok (.getfield 84, 3) := dk_180 0 84 (dk_at dksX0_layFrom_2 6 rfl rfl)
theorem dX0_layFrom_56 : decode cX0_layFrom 56 = .ok (.iload_n 1, 1) := dk_27 (dk_at dksX0_layFrom_2 9 rfl rfl)
theorem dX0_layFrom_57 : decode cX0_layFrom 57 = .ok (.aaload, 1) := dk_50 (dk_at dksX0_layFrom_2 10 rfl rfl)
theorem dX0_layFrom_58 : decode cX0_layFrom 58 = .ok (.iload_n 2, 1) := dk_28 (dk_at dksX0_layFrom_2 11 rfl rfl)
theorem dX0_layFrom_59 : decode cX0_layFrom 59 = .ok (.aaload, 1) := dk_50 (dk_at dksX0_layFrom_2 12 rfl rfl)
theorem dX0_layFrom_60 : decode cX0_layFrom 60 = .ok (.iload 5, 2) := dk_21 5 (dk_at dksX0_layFrom_2 13 rfl rfl)
theorem dX0_layFrom_62 : decode cX0_layFrom 62 = .ok (.baload, 1) := dk_51 (dk_at dksX0_layFrom_2 15 rfl rfl)
theorem dX0_layFrom_63 : decode cX0_layFrom 63 = .ok (.ifCond .eq 176, 3) := dk_153 0 176 (dk_at dksX0_layFrom_2 16 rfl rfl)
theorem dX0_layFrom_66 : decode cX0_layFrom 66 = .ok (.aload_n 0, 1) := dk_42 (dk_at dksX0_layFrom_2 19 rfl rfl)
theorem dX0_layFrom_67 : decode cX0_layFrom 67 = .ok (.getfield 108, 3) := dk_180 0 108 (dk_at dksX0_layFrom_2 20 rfl rfl)
theorem dX0_layFrom_70 : decode cX0_layFrom 70 = .ok (.iload_n 1, 1) := dk_27 (dk_at dksX0_layFrom_2 23 rfl rfl)
theorem dX0_layFrom_71 : decode cX0_layFrom 71 = .ok (.iconst 1, 1) := dk_4 (dk_at dksX0_layFrom_3 0 rfl rfl)
theorem dX0_layFrom_72 : decode cX0_layFrom 72 = .ok (.iadd, 1) := dk_96 (dk_at dksX0_layFrom_3 1 rfl rfl)
theorem dX0_layFrom_73 : decode cX0_layFrom 73 = .ok (.aaload, 1) := dk_50 (dk_at dksX0_layFrom_3 2 rfl rfl)
theorem dX0_layFrom_74 : decode cX0_layFrom 74 = .ok (.iload 5, 2) := dk_21 5 (dk_at dksX0_layFrom_3 3 rfl rfl)
theorem dX0_layFrom_76 : decode cX0_layFrom 76 = .ok (.iconst 1, 1) := dk_4 (dk_at dksX0_layFrom_3 5 rfl rfl)
theorem dX0_layFrom_77 : decode cX0_layFrom 77 = .ok (.iadd, 1) := dk_96 (dk_at dksX0_layFrom_3 6 rfl rfl)
theorem dX0_layFrom_78 : decode cX0_layFrom 78 = .ok (.laload, 1) := dk_47 (dk_at dksX0_layFrom_3 7 rfl rfl)
theorem dX0_layFrom_79 : decode cX0_layFrom 79 = .ok (.lconst 0, 1) := dk_9 (dk_at dksX0_layFrom_3 8 rfl rfl)
theorem dX0_layFrom_80 : decode cX0_layFrom 80 = .ok (.lcmp, 1) := dk_148 (dk_at dksX0_layFrom_3 9 rfl rfl)
theorem dX0_layFrom_81 : decode cX0_layFrom 81 = .ok (.ifCond .ne 6, 3) := dk_154 0 6 (dk_at dksX0_layFrom_3 10 rfl rfl)
theorem dX0_layFrom_84 : decode cX0_layFrom 84 = .ok (.goto 155, 3) := dk_167 0 155 (dk_at dksX0_layFrom_3 13 rfl rfl)
theorem dX0_layFrom_87 : decode cX0_layFrom 87 = .ok (.aload_n 0, 1) := dk_42 (dk_at dksX0_layFrom_3 16 rfl rfl)
theorem dX0_layFrom_88 : decode cX0_layFrom 88 = .ok (.getfield 97, 3) := dk_180 0 97 (dk_at dksX0_layFrom_3 17 rfl rfl)
theorem dX0_layFrom_91 : decode cX0_layFrom 91 = .ok (.iload_n 1, 1) := dk_27 (dk_at dksX0_layFrom_3 20 rfl rfl)
theorem dX0_layFrom_92 : decode cX0_layFrom 92 = .ok (.aaload, 1) := dk_50 (dk_at dksX0_layFrom_3 21 rfl rfl)
theorem dX0_layFrom_93 : decode cX0_layFrom 93 = .ok (.iload_n 2, 1) := dk_28 (dk_at dksX0_layFrom_3 22 rfl rfl)
theorem dX0_layFrom_94 : decode cX0_layFrom 94 = .ok (.aload_n 0, 1) := dk_42 (dk_at dksX0_layFrom_3 23 rfl rfl)
theorem dX0_layFrom_95 : decode cX0_layFrom 95 = .ok (.getfield 97, 3) := dk_180 0 97 (dk_at dksX0_layFrom_4 0 rfl rfl)
theorem dX0_layFrom_98 : decode cX0_layFrom 98 = .ok (.iload_n 1, 1) := dk_27 (dk_at dksX0_layFrom_4 3 rfl rfl)
theorem dX0_layFrom_99 : decode cX0_layFrom 99 = .ok (.aaload, 1) := dk_50 (dk_at dksX0_layFrom_4 4 rfl rfl)
theorem dX0_layFrom_100 : decode cX0_layFrom 100 = .ok (.iload_n 2, 1) := dk_28 (dk_at dksX0_layFrom_4 5 rfl rfl)
theorem dX0_layFrom_101 : decode cX0_layFrom 101 = .ok (.iaload, 1) := dk_46 (dk_at dksX0_layFrom_4 6 rfl rfl)
theorem dX0_layFrom_102 : decode cX0_layFrom 102 = .ok (.aload_n 0, 1) := dk_42 (dk_at dksX0_layFrom_4 7 rfl rfl)
theorem dX0_layFrom_103 : decode cX0_layFrom 103 = .ok (.getfield 89, 3) := dk_180 0 89 (dk_at dksX0_layFrom_4 8 rfl rfl)
theorem dX0_layFrom_106 : decode cX0_layFrom 106 = .ok (.iload_n 1, 1) := dk_27 (dk_at dksX0_layFrom_4 11 rfl rfl)
theorem dX0_layFrom_107 : decode cX0_layFrom 107 = .ok (.aaload, 1) := dk_50 (dk_at dksX0_layFrom_4 12 rfl rfl)
theorem dX0_layFrom_108 : decode cX0_layFrom 108 = .ok (.iload_n 2, 1) := dk_28 (dk_at dksX0_layFrom_4 13 rfl rfl)
theorem dX0_layFrom_109 : decode cX0_layFrom 109 = .ok (.aaload, 1) := dk_50 (dk_at dksX0_layFrom_4 14 rfl rfl)
theorem dX0_layFrom_110 : decode cX0_layFrom 110 = .ok (.iload 5, 2) := dk_21 5 (dk_at dksX0_layFrom_4 15 rfl rfl)
theorem dX0_layFrom_112 : decode cX0_layFrom 112 = .ok (.iaload, 1) := dk_46 (dk_at dksX0_layFrom_4 17 rfl rfl)
theorem dX0_layFrom_113 : decode cX0_layFrom 113 = .ok (.aload_n 0, 1) := dk_42 (dk_at dksX0_layFrom_4 18 rfl rfl)
theorem dX0_layFrom_114 : decode cX0_layFrom 114 = .ok (.getfield 97, 3) := dk_180 0 97 (dk_at dksX0_layFrom_4 19 rfl rfl)
theorem dX0_layFrom_117 : decode cX0_layFrom 117 = .ok (.iload_n 1, 1) := dk_27 (dk_at dksX0_layFrom_4 22 rfl rfl)
theorem dX0_layFrom_118 : decode cX0_layFrom 118 = .ok (.iconst 1, 1) := dk_4 (dk_at dksX0_layFrom_4 23 rfl rfl)
theorem dX0_layFrom_119 : decode cX0_layFrom 119 = .ok (.iadd, 1) := dk_96 (dk_at dksX0_layFrom_5 0 rfl rfl)
theorem dX0_layFrom_120 : decode cX0_layFrom 120 = .ok (.aaload, 1) := dk_50 (dk_at dksX0_layFrom_5 1 rfl rfl)
theorem dX0_layFrom_121 : decode cX0_layFrom 121 = .ok (.iload 5, 2) := dk_21 5 (dk_at dksX0_layFrom_5 2 rfl rfl)
theorem dX0_layFrom_123 : decode cX0_layFrom 123 = .ok (.iconst 1, 1) := dk_4 (dk_at dksX0_layFrom_5 4 rfl rfl)
theorem dX0_layFrom_124 : decode cX0_layFrom 124 = .ok (.iadd, 1) := dk_96 (dk_at dksX0_layFrom_5 5 rfl rfl)
theorem dX0_layFrom_125 : decode cX0_layFrom 125 = .ok (.iaload, 1) := dk_46 (dk_at dksX0_layFrom_5 6 rfl rfl)
theorem dX0_layFrom_126 : decode cX0_layFrom 126 = .ok (.iadd, 1) := dk_96 (dk_at dksX0_layFrom_5 7 rfl rfl)
theorem dX0_layFrom_127 : decode cX0_layFrom 127 = .ok (.invokestatic 120, 3) := dk_184 0 120 (dk_at dksX0_layFrom_5 8 rfl rfl)
theorem dX0_layFrom_130 : decode cX0_layFrom 130 = .ok (.iastore, 1) := dk_79 (dk_at dksX0_layFrom_5 11 rfl rfl)
theorem dX0_layFrom_131 : decode cX0_layFrom 131 = .ok (.aload_n 0, 1) := dk_42 (dk_at dksX0_layFrom_5 12 rfl rfl)
theorem dX0_layFrom_132 : decode cX0_layFrom 132 = .ok (.getfield 100, 3) := dk_180 0 100 (dk_at dksX0_layFrom_5 13 rfl rfl)
theorem dX0_layFrom_135 : decode cX0_layFrom 135 = .ok (.iload_n 1, 1) := dk_27 (dk_at dksX0_layFrom_5 16 rfl rfl)
theorem dX0_layFrom_136 : decode cX0_layFrom 136 = .ok (.aaload, 1) := dk_50 (dk_at dksX0_layFrom_5 17 rfl rfl)
theorem dX0_layFrom_137 : decode cX0_layFrom 137 = .ok (.iload_n 2, 1) := dk_28 (dk_at dksX0_layFrom_5 18 rfl rfl)
theorem dX0_layFrom_138 : decode cX0_layFrom 138 = .ok (.aload_n 0, 1) := dk_42 (dk_at dksX0_layFrom_5 19 rfl rfl)
theorem dX0_layFrom_139 : decode cX0_layFrom 139 = .ok (.getfield 100, 3) := dk_180 0 100 (dk_at dksX0_layFrom_5 20 rfl rfl)
theorem dX0_layFrom_142 : decode cX0_layFrom 142 = .ok (.iload_n 1, 1) := dk_27 (dk_at dksX0_layFrom_5 23 rfl rfl)
theorem dX0_layFrom_143 : decode cX0_layFrom 143 = .ok (.aaload, 1) := dk_50 (dk_at dksX0_layFrom_6 0 rfl rfl)
theorem dX0_layFrom_144 : decode cX0_layFrom 144 = .ok (.iload_n 2, 1) := dk_28 (dk_at dksX0_layFrom_6 1 rfl rfl)
theorem dX0_layFrom_145 : decode cX0_layFrom 145 = .ok (.iaload, 1) := dk_46 (dk_at dksX0_layFrom_6 2 rfl rfl)
theorem dX0_layFrom_146 : decode cX0_layFrom 146 = .ok (.aload_n 0, 1) := dk_42 (dk_at dksX0_layFrom_6 3 rfl rfl)
theorem dX0_layFrom_147 : decode cX0_layFrom 147 = .ok (.getfield 92, 3) := dk_180 0 92 (dk_at dksX0_layFrom_6 4 rfl rfl)
theorem dX0_layFrom_150 : decode cX0_layFrom 150 = .ok (.iload_n 1, 1) := dk_27 (dk_at dksX0_layFrom_6 7 rfl rfl)
theorem dX0_layFrom_151 : decode cX0_layFrom 151 = .ok (.aaload, 1) := dk_50 (dk_at dksX0_layFrom_6 8 rfl rfl)
theorem dX0_layFrom_152 : decode cX0_layFrom 152 = .ok (.iload_n 2, 1) := dk_28 (dk_at dksX0_layFrom_6 9 rfl rfl)
theorem dX0_layFrom_153 : decode cX0_layFrom 153 = .ok (.aaload, 1) := dk_50 (dk_at dksX0_layFrom_6 10 rfl rfl)
theorem dX0_layFrom_154 : decode cX0_layFrom 154 = .ok (.iload 5, 2) := dk_21 5 (dk_at dksX0_layFrom_6 11 rfl rfl)
theorem dX0_layFrom_156 : decode cX0_layFrom 156 = .ok (.iaload, 1) := dk_46 (dk_at dksX0_layFrom_6 13 rfl rfl)
theorem dX0_layFrom_157 : decode cX0_layFrom 157 = .ok (.aload_n 0, 1) := dk_42 (dk_at dksX0_layFrom_6 14 rfl rfl)
theorem dX0_layFrom_158 : decode cX0_layFrom 158 = .ok (.getfield 100, 3) := dk_180 0 100 (dk_at dksX0_layFrom_6 15 rfl rfl)
theorem dX0_layFrom_161 : decode cX0_layFrom 161 = .ok (.iload_n 1, 1) := dk_27 (dk_at dksX0_layFrom_6 18 rfl rfl)
theorem dX0_layFrom_162 : decode cX0_layFrom 162 = .ok (.iconst 1, 1) := dk_4 (dk_at dksX0_layFrom_6 19 rfl rfl)
theorem dX0_layFrom_163 : decode cX0_layFrom 163 = .ok (.iadd, 1) := dk_96 (dk_at dksX0_layFrom_6 20 rfl rfl)
theorem dX0_layFrom_164 : decode cX0_layFrom 164 = .ok (.aaload, 1) := dk_50 (dk_at dksX0_layFrom_6 21 rfl rfl)
theorem dX0_layFrom_165 : decode cX0_layFrom 165 = .ok (.iload 5, 2) := dk_21 5 (dk_at dksX0_layFrom_6 22 rfl rfl)
theorem dX0_layFrom_167 : decode cX0_layFrom 167 = .ok (.iconst 1, 1) := dk_4 (dk_at dksX0_layFrom_7 0 rfl rfl)
theorem dX0_layFrom_168 : decode cX0_layFrom 168 = .ok (.iadd, 1) := dk_96 (dk_at dksX0_layFrom_7 1 rfl rfl)
theorem dX0_layFrom_169 : decode cX0_layFrom 169 = .ok (.iaload, 1) := dk_46 (dk_at dksX0_layFrom_7 2 rfl rfl)
theorem dX0_layFrom_170 : decode cX0_layFrom 170 = .ok (.iadd, 1) := dk_96 (dk_at dksX0_layFrom_7 3 rfl rfl)
theorem dX0_layFrom_171 : decode cX0_layFrom 171 = .ok (.invokestatic 346, 3) := dk_184 1 90 (dk_at dksX0_layFrom_7 4 rfl rfl)
theorem dX0_layFrom_174 : decode cX0_layFrom 174 = .ok (.iastore, 1) := dk_79 (dk_at dksX0_layFrom_7 7 rfl rfl)
theorem dX0_layFrom_175 : decode cX0_layFrom 175 = .ok (.aload_n 0, 1) := dk_42 (dk_at dksX0_layFrom_7 8 rfl rfl)
theorem dX0_layFrom_176 : decode cX0_layFrom 176 = .ok (.getfield 103, 3) := dk_180 0 103 (dk_at dksX0_layFrom_7 9 rfl rfl)
theorem dX0_layFrom_179 : decode cX0_layFrom 179 = .ok (.iload_n 1, 1) := dk_27 (dk_at dksX0_layFrom_7 12 rfl rfl)
theorem dX0_layFrom_180 : decode cX0_layFrom 180 = .ok (.aaload, 1) := dk_50 (dk_at dksX0_layFrom_7 13 rfl rfl)
theorem dX0_layFrom_181 : decode cX0_layFrom 181 = .ok (.iload_n 2, 1) := dk_28 (dk_at dksX0_layFrom_7 14 rfl rfl)
theorem dX0_layFrom_182 : decode cX0_layFrom 182 = .ok (.aload_n 0, 1) := dk_42 (dk_at dksX0_layFrom_7 15 rfl rfl)
theorem dX0_layFrom_183 : decode cX0_layFrom 183 = .ok (.getfield 103, 3) := dk_180 0 103 (dk_at dksX0_layFrom_7 16 rfl rfl)
theorem dX0_layFrom_186 : decode cX0_layFrom 186 = .ok (.iload_n 1, 1) := dk_27 (dk_at dksX0_layFrom_7 19 rfl rfl)
theorem dX0_layFrom_187 : decode cX0_layFrom 187 = .ok (.aaload, 1) := dk_50 (dk_at dksX0_layFrom_7 20 rfl rfl)
theorem dX0_layFrom_188 : decode cX0_layFrom 188 = .ok (.iload_n 2, 1) := dk_28 (dk_at dksX0_layFrom_7 21 rfl rfl)
theorem dX0_layFrom_189 : decode cX0_layFrom 189 = .ok (.iaload, 1) := dk_46 (dk_at dksX0_layFrom_7 22 rfl rfl)
theorem dX0_layFrom_190 : decode cX0_layFrom 190 = .ok (.aload_n 0, 1) := dk_42 (dk_at dksX0_layFrom_7 23 rfl rfl)
theorem dX0_layFrom_191 : decode cX0_layFrom 191 = .ok (.iload_n 1, 1) := dk_27 (dk_at dksX0_layFrom_8 0 rfl rfl)
theorem dX0_layFrom_192 : decode cX0_layFrom 192 = .ok (.iload 5, 2) := dk_21 5 (dk_at dksX0_layFrom_8 1 rfl rfl)
theorem dX0_layFrom_194 : decode cX0_layFrom 194 = .ok (.invokevirtual 349, 3) := dk_182 1 93 (dk_at dksX0_layFrom_8 3 rfl rfl)
theorem dX0_layFrom_197 : decode cX0_layFrom 197 = .ok (.aload_n 0, 1) := dk_42 (dk_at dksX0_layFrom_8 6 rfl rfl)
theorem dX0_layFrom_198 : decode cX0_layFrom 198 = .ok (.getfield 103, 3) := dk_180 0 103 (dk_at dksX0_layFrom_8 7 rfl rfl)
theorem dX0_layFrom_201 : decode cX0_layFrom 201 = .ok (.iload_n 1, 1) := dk_27 (dk_at dksX0_layFrom_8 10 rfl rfl)
theorem dX0_layFrom_202 : decode cX0_layFrom 202 = .ok (.iconst 1, 1) := dk_4 (dk_at dksX0_layFrom_8 11 rfl rfl)
theorem dX0_layFrom_203 : decode cX0_layFrom 203 = .ok (.iadd, 1) := dk_96 (dk_at dksX0_layFrom_8 12 rfl rfl)
theorem dX0_layFrom_204 : decode cX0_layFrom 204 = .ok (.aaload, 1) := dk_50 (dk_at dksX0_layFrom_8 13 rfl rfl)
theorem dX0_layFrom_205 : decode cX0_layFrom 205 = .ok (.iload 5, 2) := dk_21 5 (dk_at dksX0_layFrom_8 14 rfl rfl)
theorem dX0_layFrom_207 : decode cX0_layFrom 207 = .ok (.iconst 1, 1) := dk_4 (dk_at dksX0_layFrom_8 16 rfl rfl)
theorem dX0_layFrom_208 : decode cX0_layFrom 208 = .ok (.iadd, 1) := dk_96 (dk_at dksX0_layFrom_8 17 rfl rfl)
theorem dX0_layFrom_209 : decode cX0_layFrom 209 = .ok (.iaload, 1) := dk_46 (dk_at dksX0_layFrom_8 18 rfl rfl)
theorem dX0_layFrom_210 : decode cX0_layFrom 210 = .ok (.iadd, 1) := dk_96 (dk_at dksX0_layFrom_8 19 rfl rfl)
theorem dX0_layFrom_211 : decode cX0_layFrom 211 = .ok (.invokestatic 120, 3) := dk_184 0 120 (dk_at dksX0_layFrom_8 20 rfl rfl)
theorem dX0_layFrom_214 : decode cX0_layFrom 214 = .ok (.iastore, 1) := dk_79 (dk_at dksX0_layFrom_8 23 rfl rfl)
theorem dX0_layFrom_215 : decode cX0_layFrom 215 = .ok (.aload_n 0, 1) := dk_42 (dk_at dksX0_layFrom_9 0 rfl rfl)
theorem dX0_layFrom_216 : decode cX0_layFrom 216 = .ok (.getfield 108, 3) := dk_180 0 108 (dk_at dksX0_layFrom_9 1 rfl rfl)
theorem dX0_layFrom_219 : decode cX0_layFrom 219 = .ok (.iload_n 1, 1) := dk_27 (dk_at dksX0_layFrom_9 4 rfl rfl)
theorem dX0_layFrom_220 : decode cX0_layFrom 220 = .ok (.aaload, 1) := dk_50 (dk_at dksX0_layFrom_9 5 rfl rfl)
theorem dX0_layFrom_221 : decode cX0_layFrom 221 = .ok (.iload_n 2, 1) := dk_28 (dk_at dksX0_layFrom_9 6 rfl rfl)
theorem dX0_layFrom_222 : decode cX0_layFrom 222 = .ok (.dup2, 1) := dk_92 (dk_at dksX0_layFrom_9 7 rfl rfl)
theorem dX0_layFrom_223 : decode cX0_layFrom 223 = .ok (.laload, 1) := dk_47 (dk_at dksX0_layFrom_9 8 rfl rfl)
theorem dX0_layFrom_224 : decode cX0_layFrom 224 = .ok (.aload_n 0, 1) := dk_42 (dk_at dksX0_layFrom_9 9 rfl rfl)
theorem dX0_layFrom_225 : decode cX0_layFrom 225 = .ok (.getfield 108, 3) := dk_180 0 108 (dk_at dksX0_layFrom_9 10 rfl rfl)
theorem dX0_layFrom_228 : decode cX0_layFrom 228 = .ok (.iload_n 1, 1) := dk_27 (dk_at dksX0_layFrom_9 13 rfl rfl)
theorem dX0_layFrom_229 : decode cX0_layFrom 229 = .ok (.iconst 1, 1) := dk_4 (dk_at dksX0_layFrom_9 14 rfl rfl)
theorem dX0_layFrom_230 : decode cX0_layFrom 230 = .ok (.iadd, 1) := dk_96 (dk_at dksX0_layFrom_9 15 rfl rfl)
theorem dX0_layFrom_231 : decode cX0_layFrom 231 = .ok (.aaload, 1) := dk_50 (dk_at dksX0_layFrom_9 16 rfl rfl)
theorem dX0_layFrom_232 : decode cX0_layFrom 232 = .ok (.iload 5, 2) := dk_21 5 (dk_at dksX0_layFrom_9 17 rfl rfl)
theorem dX0_layFrom_234 : decode cX0_layFrom 234 = .ok (.iconst 1, 1) := dk_4 (dk_at dksX0_layFrom_9 19 rfl rfl)
theorem dX0_layFrom_235 : decode cX0_layFrom 235 = .ok (.iadd, 1) := dk_96 (dk_at dksX0_layFrom_9 20 rfl rfl)
theorem dX0_layFrom_236 : decode cX0_layFrom 236 = .ok (.laload, 1) := dk_47 (dk_at dksX0_layFrom_9 21 rfl rfl)
theorem dX0_layFrom_237 : decode cX0_layFrom 237 = .ok (.ladd, 1) := dk_97 (dk_at dksX0_layFrom_9 22 rfl rfl)
theorem dX0_layFrom_238 : decode cX0_layFrom 238 = .ok (.lastore, 1) := dk_80 (dk_at dksX0_layFrom_9 23 rfl rfl)
theorem dX0_layFrom_239 : decode cX0_layFrom 239 = .ok (.iinc 5 1, 3) := dk_132 5 1 (dk_at dksX0_layFrom_10 0 rfl rfl)
theorem dX0_layFrom_242 : decode cX0_layFrom 242 = .ok (.goto (-197), 3) := dk_167 255 59 (dk_at dksX0_layFrom_10 3 rfl rfl)
theorem dX0_layFrom_245 : decode cX0_layFrom 245 = .ok (.return_, 1) := dk_177 (dk_at dksX0_layFrom_10 6 rfl rfl)
abbrev cX0_differs : ByteArray := prog_1_method_57_code
def yX0_differs : MethodName := ⟨RX0, "differs", "(II)I"⟩
def dkwX0_differs_0 : List UInt8 := [42, 182, 0, 157, 180, 0, 163, 27, 46, 28, 160, 0, 7, 3, 167, 0, 4, 4, 172]
abbrev dktX0_differs_0 : List UInt8 := dkwX0_differs_0 ++ []
theorem dksX0_differs_0 : cX0_differs.data.toList.drop 0 = dktX0_differs_0 := by decide +kernel
theorem dX0_differs_0 : decode cX0_differs 0 = .ok (.aload_n 0, 1) := dk_42 (dk_at dksX0_differs_0 0 rfl rfl)
theorem dX0_differs_1 : decode cX0_differs 1 = .ok (.invokevirtual 157, 3) := dk_182 0 157 (dk_at dksX0_differs_0 1 rfl rfl)
theorem dX0_differs_4 : decode cX0_differs 4 = .ok (.getfield 163, 3) := dk_180 0 163 (dk_at dksX0_differs_0 4 rfl rfl)
theorem dX0_differs_7 : decode cX0_differs 7 = .ok (.iload_n 1, 1) := dk_27 (dk_at dksX0_differs_0 7 rfl rfl)
theorem dX0_differs_8 : decode cX0_differs 8 = .ok (.iaload, 1) := dk_46 (dk_at dksX0_differs_0 8 rfl rfl)
theorem dX0_differs_9 : decode cX0_differs 9 = .ok (.iload_n 2, 1) := dk_28 (dk_at dksX0_differs_0 9 rfl rfl)
theorem dX0_differs_10 : decode cX0_differs 10 = .ok (.if_icmp .ne 7, 3) := dk_160 0 7 (dk_at dksX0_differs_0 10 rfl rfl)
theorem dX0_differs_13 : decode cX0_differs 13 = .ok (.iconst 0, 1) := dk_3 (dk_at dksX0_differs_0 13 rfl rfl)
theorem dX0_differs_14 : decode cX0_differs 14 = .ok (.goto 4, 3) := dk_167 0 4 (dk_at dksX0_differs_0 14 rfl rfl)
theorem dX0_differs_17 : decode cX0_differs 17 = .ok (.iconst 1, 1) := dk_4 (dk_at dksX0_differs_0 17 rfl rfl)
theorem dX0_differs_18 : decode cX0_differs 18 = .ok (.ireturn, 1) := dk_172 (dk_at dksX0_differs_0 18 rfl rfl)
abbrev cX0_isThere : ByteArray := prog_1_method_59_code
def yX0_isThere : MethodName := ⟨RX0, "isThere", "()Z"⟩
def dkwX0_isThere_0 : List UInt8 := [42, 180, 0, 108, 3, 50, 3, 47, 9, 148, 158, 0, 7, 4, 167, 0, 4, 3, 172]
abbrev dktX0_isThere_0 : List UInt8 := dkwX0_isThere_0 ++ []
theorem dksX0_isThere_0 : cX0_isThere.data.toList.drop 0 = dktX0_isThere_0 := by decide +kernel
theorem dX0_isThere_0 : decode cX0_isThere 0 = .ok (.aload_n 0, 1) := dk_42 (dk_at dksX0_isThere_0 0 rfl rfl)
theorem dX0_isThere_1 : decode cX0_isThere 1 = .ok (.getfield 108, 3) := dk_180 0 108 (dk_at dksX0_isThere_0 1 rfl rfl)
theorem dX0_isThere_4 : decode cX0_isThere 4 = .ok (.iconst 0, 1) := dk_3 (dk_at dksX0_isThere_0 4 rfl rfl)
theorem dX0_isThere_5 : decode cX0_isThere 5 = .ok (.aaload, 1) := dk_50 (dk_at dksX0_isThere_0 5 rfl rfl)
theorem dX0_isThere_6 : decode cX0_isThere 6 = .ok (.iconst 0, 1) := dk_3 (dk_at dksX0_isThere_0 6 rfl rfl)
theorem dX0_isThere_7 : decode cX0_isThere 7 = .ok (.laload, 1) := dk_47 (dk_at dksX0_isThere_0 7 rfl rfl)
theorem dX0_isThere_8 : decode cX0_isThere 8 = .ok (.lconst 0, 1) := dk_9 (dk_at dksX0_isThere_0 8 rfl rfl)
theorem dX0_isThere_9 : decode cX0_isThere 9 = .ok (.lcmp, 1) := dk_148 (dk_at dksX0_isThere_0 9 rfl rfl)
theorem dX0_isThere_10 : decode cX0_isThere 10 = .ok (.ifCond .le 7, 3) := dk_158 0 7 (dk_at dksX0_isThere_0 10 rfl rfl)
theorem dX0_isThere_13 : decode cX0_isThere 13 = .ok (.iconst 1, 1) := dk_4 (dk_at dksX0_isThere_0 13 rfl rfl)
theorem dX0_isThere_14 : decode cX0_isThere 14 = .ok (.goto 4, 3) := dk_167 0 4 (dk_at dksX0_isThere_0 14 rfl rfl)
theorem dX0_isThere_17 : decode cX0_isThere 17 = .ok (.iconst 0, 1) := dk_3 (dk_at dksX0_isThere_0 17 rfl rfl)
theorem dX0_isThere_18 : decode cX0_isThere 18 = .ok (.ireturn, 1) := dk_172 (dk_at dksX0_isThere_0 18 rfl rfl)
abbrev cX0_between : ByteArray := prog_1_method_61_code
def yX0_between : MethodName := ⟨RX0, "between", "(II)I"⟩
def dkwX0_between_5 : List UInt8 := [96, 46, 96, 172]
abbrev dktX0_between_5 : List UInt8 := dkwX0_between_5 ++ []
def dkwX0_between_4 : List UInt8 := [148, 154, 0, 5, 2, 172, 42, 180, 0, 89, 3, 50, 3, 50, 27, 46, 42, 180, 0, 97, 4, 50, 27, 4]
abbrev dktX0_between_4 : List UInt8 := dkwX0_between_4 ++ dktX0_between_5
def dkwX0_between_3 : List UInt8 := [42, 180, 0, 84, 3, 50, 3, 50, 27, 51, 153, 0, 18, 42, 180, 0, 108, 4, 50, 27, 4, 96, 47, 9]
abbrev dktX0_between_3 : List UInt8 := dkwX0_between_3 ++ dktX0_between_4
def dkwX0_between_2 : List UInt8 := [182, 1, 96, 42, 29, 21, 4, 28, 182, 1, 100, 27, 133, 29, 133, 21, 4, 133, 184, 0, 5, 153, 0, 31]
abbrev dktX0_between_2 : List UInt8 := dkwX0_between_2 ++ dktX0_between_3
def dkwX0_between_1 : List UInt8 := [180, 0, 18, 180, 0, 199, 6, 46, 62, 42, 180, 0, 18, 180, 0, 199, 7, 46, 54, 4, 42, 4]
abbrev dktX0_between_1 : List UInt8 := dkwX0_between_1 ++ dktX0_between_2
def dkwX0_between_0 : List UInt8 := [27, 184, 0, 153, 153, 0, 17, 28, 184, 0, 153, 153, 0, 10, 42, 182, 0, 142, 154, 0, 5, 2, 172, 42]
abbrev dktX0_between_0 : List UInt8 := dkwX0_between_0 ++ dktX0_between_1
theorem dksX0_between_0 : cX0_between.data.toList.drop 0 = dktX0_between_0 := by decide +kernel
theorem dksX0_between_1 : cX0_between.data.toList.drop 24 = dktX0_between_1 := dk_seg dksX0_between_0 24 rfl rfl
theorem dksX0_between_2 : cX0_between.data.toList.drop 46 = dktX0_between_2 := dk_seg dksX0_between_1 22 rfl rfl
theorem dksX0_between_3 : cX0_between.data.toList.drop 70 = dktX0_between_3 := dk_seg dksX0_between_2 24 rfl rfl
theorem dksX0_between_4 : cX0_between.data.toList.drop 94 = dktX0_between_4 := dk_seg dksX0_between_3 24 rfl rfl
theorem dksX0_between_5 : cX0_between.data.toList.drop 118 = dktX0_between_5 := dk_seg dksX0_between_4 24 rfl rfl
theorem dX0_between_0 : decode cX0_between 0 = .ok (.iload_n 1, 1) := dk_27 (dk_at dksX0_between_0 0 rfl rfl)
theorem dX0_between_1 : decode cX0_between 1 = .ok (.invokestatic 153, 3) := dk_184 0 153 (dk_at dksX0_between_0 1 rfl rfl)
theorem dX0_between_4 : decode cX0_between 4 = .ok (.ifCond .eq 17, 3) := dk_153 0 17 (dk_at dksX0_between_0 4 rfl rfl)
theorem dX0_between_7 : decode cX0_between 7 = .ok (.iload_n 2, 1) := dk_28 (dk_at dksX0_between_0 7 rfl rfl)
theorem dX0_between_8 : decode cX0_between 8 = .ok (.invokestatic 153, 3) := dk_184 0 153 (dk_at dksX0_between_0 8 rfl rfl)
theorem dX0_between_11 : decode cX0_between 11 = .ok (.ifCond .eq 10, 3) := dk_153 0 10 (dk_at dksX0_between_0 11 rfl rfl)
theorem dX0_between_14 : decode cX0_between 14 = .ok (.aload_n 0, 1) := dk_42 (dk_at dksX0_between_0 14 rfl rfl)
theorem dX0_between_15 : decode cX0_between 15 = .ok (.invokevirtual 142, 3) := dk_182 0 142 (dk_at dksX0_between_0 15 rfl rfl)
theorem dX0_between_18 : decode cX0_between 18 = .ok (.ifCond .ne 5, 3) := dk_154 0 5 (dk_at dksX0_between_0 18 rfl rfl)
theorem dX0_between_21 : decode cX0_between 21 = .ok (.iconst (-1), 1) := dk_2 (dk_at dksX0_between_0 21 rfl rfl)
theorem dX0_between_22 : decode cX0_between 22 = .ok (.ireturn, 1) := dk_172 (dk_at dksX0_between_0 22 rfl rfl)
theorem dX0_between_23 : decode cX0_between 23 = .ok (.aload_n 0, 1) := dk_42 (dk_at dksX0_between_0 23 rfl rfl)
theorem dX0_between_24 : decode cX0_between 24 = .ok (.getfield 18, 3) := dk_180 0 18 (dk_at dksX0_between_1 0 rfl rfl)
theorem dX0_between_27 : decode cX0_between 27 = .ok (.getfield 199, 3) := dk_180 0 199 (dk_at dksX0_between_1 3 rfl rfl)
theorem dX0_between_30 : decode cX0_between 30 = .ok (.iconst 3, 1) := dk_6 (dk_at dksX0_between_1 6 rfl rfl)
theorem dX0_between_31 : decode cX0_between 31 = .ok (.iaload, 1) := dk_46 (dk_at dksX0_between_1 7 rfl rfl)
theorem dX0_between_32 : decode cX0_between 32 = .ok (.istore_n 3, 1) := dk_62 (dk_at dksX0_between_1 8 rfl rfl)
theorem dX0_between_33 : decode cX0_between 33 = .ok (.aload_n 0, 1) := dk_42 (dk_at dksX0_between_1 9 rfl rfl)
theorem dX0_between_34 : decode cX0_between 34 = .ok (.getfield 18, 3) := dk_180 0 18 (dk_at dksX0_between_1 10 rfl rfl)
theorem dX0_between_37 : decode cX0_between 37 = .ok (.getfield 199, 3) := dk_180 0 199 (dk_at dksX0_between_1 13 rfl rfl)
theorem dX0_between_40 : decode cX0_between 40 = .ok (.iconst 4, 1) := dk_7 (dk_at dksX0_between_1 16 rfl rfl)
theorem dX0_between_41 : decode cX0_between 41 = .ok (.iaload, 1) := dk_46 (dk_at dksX0_between_1 17 rfl rfl)
theorem dX0_between_42 : decode cX0_between 42 = .ok (.istore 4, 2) := dk_54 4 (dk_at dksX0_between_1 18 rfl rfl)
theorem dX0_between_44 : decode cX0_between 44 = .ok (.aload_n 0, 1) := dk_42 (dk_at dksX0_between_1 20 rfl rfl)
theorem dX0_between_45 : decode cX0_between 45 = .ok (.iconst 1, 1) := dk_4 (dk_at dksX0_between_1 21 rfl rfl)
theorem dX0_between_46 : decode cX0_between 46 = .ok (.invokevirtual 352, 3) := dk_182 1 96 (dk_at dksX0_between_2 0 rfl rfl)
theorem dX0_between_49 : decode cX0_between 49 = .ok (.aload_n 0, 1) := dk_42 (dk_at dksX0_between_2 3 rfl rfl)
theorem dX0_between_50 : decode cX0_between 50 = .ok (.iload_n 3, 1) := dk_29 (dk_at dksX0_between_2 4 rfl rfl)
theorem dX0_between_51 : decode cX0_between 51 = .ok (.iload 4, 2) := dk_21 4 (dk_at dksX0_between_2 5 rfl rfl)
theorem dX0_between_53 : decode cX0_between 53 = .ok (.iload_n 2, 1) := dk_28 (dk_at dksX0_between_2 7 rfl rfl)
theorem dX0_between_54 : decode cX0_between 54 = .ok (.invokevirtual 356, 3) := dk_182 1 100 (dk_at dksX0_between_2 8 rfl rfl)
theorem dX0_between_57 : decode cX0_between 57 = .ok (.iload_n 1, 1) := dk_27 (dk_at dksX0_between_2 11 rfl rfl)
theorem dX0_between_58 : decode cX0_between 58 = .ok (.i2l, 1) := dk_133 (dk_at dksX0_between_2 12 rfl rfl)
theorem dX0_between_59 : decode cX0_between 59 = .ok (.iload_n 3, 1) := dk_29 (dk_at dksX0_between_2 13 rfl rfl)
theorem dX0_between_60 : decode cX0_between 60 = .ok (.i2l, 1) := dk_133 (dk_at dksX0_between_2 14 rfl rfl)
theorem dX0_between_61 : decode cX0_between 61 = .ok (.iload 4, 2) := dk_21 4 (dk_at dksX0_between_2 15 rfl rfl)
theorem dX0_between_63 : decode cX0_between 63 = .ok (.i2l, 1) := dk_133 (dk_at dksX0_between_2 17 rfl rfl)
theorem dX0_between_64 : decode cX0_between 64 = .ok (.invokestatic 5, 3) := dk_184 0 5 (dk_at dksX0_between_2 18 rfl rfl)
theorem dX0_between_67 : decode cX0_between 67 = .ok (.ifCond .eq 31, 3) := dk_153 0 31 (dk_at dksX0_between_2 21 rfl rfl)
theorem dX0_between_70 : decode cX0_between 70 = .ok (.aload_n 0, 1) := dk_42 (dk_at dksX0_between_3 0 rfl rfl)
theorem dX0_between_71 : decode cX0_between 71 = .ok (.getfield 84, 3) := dk_180 0 84 (dk_at dksX0_between_3 1 rfl rfl)
theorem dX0_between_74 : decode cX0_between 74 = .ok (.iconst 0, 1) := dk_3 (dk_at dksX0_between_3 4 rfl rfl)
theorem dX0_between_75 : decode cX0_between 75 = .ok (.aaload, 1) := dk_50 (dk_at dksX0_between_3 5 rfl rfl)
theorem dX0_between_76 : decode cX0_between 76 = .ok (.iconst 0, 1) := dk_3 (dk_at dksX0_between_3 6 rfl rfl)
theorem dX0_between_77 : decode cX0_between 77 = .ok (.aaload, 1) := dk_50 (dk_at dksX0_between_3 7 rfl rfl)
theorem dX0_between_78 : decode cX0_between 78 = .ok (.iload_n 1, 1) := dk_27 (dk_at dksX0_between_3 8 rfl rfl)
theorem dX0_between_79 : decode cX0_between 79 = .ok (.baload, 1) := dk_51 (dk_at dksX0_between_3 9 rfl rfl)
theorem dX0_between_80 : decode cX0_between 80 = .ok (.ifCond .eq 18, 3) := dk_153 0 18 (dk_at dksX0_between_3 10 rfl rfl)
theorem dX0_between_83 : decode cX0_between 83 = .ok (.aload_n 0, 1) := dk_42 (dk_at dksX0_between_3 13 rfl rfl)
theorem dX0_between_84 : decode cX0_between 84 = .ok (.getfield 108, 3) := dk_180 0 108 (dk_at dksX0_between_3 14 rfl rfl)
theorem dX0_between_87 : decode cX0_between 87 = .ok (.iconst 1, 1) := dk_4 (dk_at dksX0_between_3 17 rfl rfl)
theorem dX0_between_88 : decode cX0_between 88 = .ok (.aaload, 1) := dk_50 (dk_at dksX0_between_3 18 rfl rfl)
theorem dX0_between_89 : decode cX0_between 89 = .ok (.iload_n 1, 1) := dk_27 (dk_at dksX0_between_3 19 rfl rfl)
theorem dX0_between_90 : decode cX0_between 90 = .ok (.iconst 1, 1) := dk_4 (dk_at dksX0_between_3 20 rfl rfl)
theorem dX0_between_91 : decode cX0_between 91 = .ok (.iadd, 1) := dk_96 (dk_at dksX0_between_3 21 rfl rfl)
theorem dX0_between_92 : decode cX0_between 92 = .ok (.laload, 1) := dk_47 (dk_at dksX0_between_3 22 rfl rfl)
theorem dX0_between_93 : decode cX0_between 93 = .ok (.lconst 0, 1) := dk_9 (dk_at dksX0_between_3 23 rfl rfl)
theorem dX0_between_94 : decode cX0_between 94 = .ok (.lcmp, 1) := dk_148 (dk_at dksX0_between_4 0 rfl rfl)
theorem dX0_between_95 : decode cX0_between 95 = .ok (.ifCond .ne 5, 3) := dk_154 0 5 (dk_at dksX0_between_4 1 rfl rfl)
theorem dX0_between_98 : decode cX0_between 98 = .ok (.iconst (-1), 1) := dk_2 (dk_at dksX0_between_4 4 rfl rfl)
theorem dX0_between_99 : decode cX0_between 99 = .ok (.ireturn, 1) := dk_172 (dk_at dksX0_between_4 5 rfl rfl)
theorem dX0_between_100 : decode cX0_between 100 = .ok (.aload_n 0, 1) := dk_42 (dk_at dksX0_between_4 6 rfl rfl)
theorem dX0_between_101 : decode cX0_between 101 = .ok (.getfield 89, 3) := dk_180 0 89 (dk_at dksX0_between_4 7 rfl rfl)
theorem dX0_between_104 : decode cX0_between 104 = .ok (.iconst 0, 1) := dk_3 (dk_at dksX0_between_4 10 rfl rfl)
theorem dX0_between_105 : decode cX0_between 105 = .ok (.aaload, 1) := dk_50 (dk_at dksX0_between_4 11 rfl rfl)
theorem dX0_between_106 : decode cX0_between 106 = .ok (.iconst 0, 1) := dk_3 (dk_at dksX0_between_4 12 rfl rfl)
theorem dX0_between_107 : decode cX0_between 107 = .ok (.aaload, 1) := dk_50 (dk_at dksX0_between_4 13 rfl rfl)
theorem dX0_between_108 : decode cX0_between 108 = .ok (.iload_n 1, 1) := dk_27 (dk_at dksX0_between_4 14 rfl rfl)
theorem dX0_between_109 : decode cX0_between 109 = .ok (.iaload, 1) := dk_46 (dk_at dksX0_between_4 15 rfl rfl)
theorem dX0_between_110 : decode cX0_between 110 = .ok (.aload_n 0, 1) := dk_42 (dk_at dksX0_between_4 16 rfl rfl)
theorem dX0_between_111 : decode cX0_between 111 = .ok (.getfield 97, 3) := dk_180 0 97 (dk_at dksX0_between_4 17 rfl rfl)
theorem dX0_between_114 : decode cX0_between 114 = .ok (.iconst 1, 1) := dk_4 (dk_at dksX0_between_4 20 rfl rfl)
theorem dX0_between_115 : decode cX0_between 115 = .ok (.aaload, 1) := dk_50 (dk_at dksX0_between_4 21 rfl rfl)
theorem dX0_between_116 : decode cX0_between 116 = .ok (.iload_n 1, 1) := dk_27 (dk_at dksX0_between_4 22 rfl rfl)
theorem dX0_between_117 : decode cX0_between 117 = .ok (.iconst 1, 1) := dk_4 (dk_at dksX0_between_4 23 rfl rfl)
theorem dX0_between_118 : decode cX0_between 118 = .ok (.iadd, 1) := dk_96 (dk_at dksX0_between_5 0 rfl rfl)
theorem dX0_between_119 : decode cX0_between 119 = .ok (.iaload, 1) := dk_46 (dk_at dksX0_between_5 1 rfl rfl)
theorem dX0_between_120 : decode cX0_between 120 = .ok (.iadd, 1) := dk_96 (dk_at dksX0_between_5 2 rfl rfl)
theorem dX0_between_121 : decode cX0_between 121 = .ok (.ireturn, 1) := dk_172 (dk_at dksX0_between_5 3 rfl rfl)
abbrev cX0_richest : ByteArray := prog_1_method_62_code
def yX0_richest : MethodName := ⟨RX0, "richest", "()I"⟩
def dkwX0_richest_0 : List UInt8 := [42, 182, 1, 103, 42, 182, 1, 106, 153, 0, 14, 42, 180, 0, 100, 3, 50, 3, 46, 167, 0, 4, 2, 172]
abbrev dktX0_richest_0 : List UInt8 := dkwX0_richest_0 ++ []
theorem dksX0_richest_0 : cX0_richest.data.toList.drop 0 = dktX0_richest_0 := by decide +kernel
theorem dX0_richest_0 : decode cX0_richest 0 = .ok (.aload_n 0, 1) := dk_42 (dk_at dksX0_richest_0 0 rfl rfl)
theorem dX0_richest_1 : decode cX0_richest 1 = .ok (.invokevirtual 359, 3) := dk_182 1 103 (dk_at dksX0_richest_0 1 rfl rfl)
theorem dX0_richest_4 : decode cX0_richest 4 = .ok (.aload_n 0, 1) := dk_42 (dk_at dksX0_richest_0 4 rfl rfl)
theorem dX0_richest_5 : decode cX0_richest 5 = .ok (.invokevirtual 362, 3) := dk_182 1 106 (dk_at dksX0_richest_0 5 rfl rfl)
theorem dX0_richest_8 : decode cX0_richest 8 = .ok (.ifCond .eq 14, 3) := dk_153 0 14 (dk_at dksX0_richest_0 8 rfl rfl)
theorem dX0_richest_11 : decode cX0_richest 11 = .ok (.aload_n 0, 1) := dk_42 (dk_at dksX0_richest_0 11 rfl rfl)
theorem dX0_richest_12 : decode cX0_richest 12 = .ok (.getfield 100, 3) := dk_180 0 100 (dk_at dksX0_richest_0 12 rfl rfl)
theorem dX0_richest_15 : decode cX0_richest 15 = .ok (.iconst 0, 1) := dk_3 (dk_at dksX0_richest_0 15 rfl rfl)
theorem dX0_richest_16 : decode cX0_richest 16 = .ok (.aaload, 1) := dk_50 (dk_at dksX0_richest_0 16 rfl rfl)
theorem dX0_richest_17 : decode cX0_richest 17 = .ok (.iconst 0, 1) := dk_3 (dk_at dksX0_richest_0 17 rfl rfl)
theorem dX0_richest_18 : decode cX0_richest 18 = .ok (.iaload, 1) := dk_46 (dk_at dksX0_richest_0 18 rfl rfl)
theorem dX0_richest_19 : decode cX0_richest 19 = .ok (.goto 4, 3) := dk_167 0 4 (dk_at dksX0_richest_0 19 rfl rfl)
theorem dX0_richest_22 : decode cX0_richest 22 = .ok (.iconst (-1), 1) := dk_2 (dk_at dksX0_richest_0 22 rfl rfl)
theorem dX0_richest_23 : decode cX0_richest 23 = .ok (.ireturn, 1) := dk_172 (dk_at dksX0_richest_0 23 rfl rfl)
abbrev cX0_ways : ByteArray := prog_1_method_63_code
def yX0_ways : MethodName := ⟨RX0, "ways", "()J"⟩
def dkwX0_ways_0 : List UInt8 := [42, 182, 1, 103, 42, 180, 0, 108, 3, 50, 3, 47, 173]
abbrev dktX0_ways_0 : List UInt8 := dkwX0_ways_0 ++ []
theorem dksX0_ways_0 : cX0_ways.data.toList.drop 0 = dktX0_ways_0 := by decide +kernel
theorem dX0_ways_0 : decode cX0_ways 0 = .ok (.aload_n 0, 1) := dk_42 (dk_at dksX0_ways_0 0 rfl rfl)
theorem dX0_ways_1 : decode cX0_ways 1 = .ok (.invokevirtual 359, 3) := dk_182 1 103 (dk_at dksX0_ways_0 1 rfl rfl)
theorem dX0_ways_4 : decode cX0_ways 4 = .ok (.aload_n 0, 1) := dk_42 (dk_at dksX0_ways_0 4 rfl rfl)
theorem dX0_ways_5 : decode cX0_ways 5 = .ok (.getfield 108, 3) := dk_180 0 108 (dk_at dksX0_ways_0 5 rfl rfl)
theorem dX0_ways_8 : decode cX0_ways 8 = .ok (.iconst 0, 1) := dk_3 (dk_at dksX0_ways_0 8 rfl rfl)
theorem dX0_ways_9 : decode cX0_ways 9 = .ok (.aaload, 1) := dk_50 (dk_at dksX0_ways_0 9 rfl rfl)
theorem dX0_ways_10 : decode cX0_ways 10 = .ok (.iconst 0, 1) := dk_3 (dk_at dksX0_ways_0 10 rfl rfl)
theorem dX0_ways_11 : decode cX0_ways 11 = .ok (.laload, 1) := dk_47 (dk_at dksX0_ways_0 11 rfl rfl)
theorem dX0_ways_12 : decode cX0_ways 12 = .ok (.lreturn, 1) := dk_173 (dk_at dksX0_ways_0 12 rfl rfl)
abbrev cX0_mend : ByteArray := prog_1_method_64_code
def yX0_mend : MethodName := ⟨RX0, "mend", "(I)I"⟩
def dkwX0_mend_6 : List UInt8 := [167, 255, 189, 21, 4, 4, 96, 61, 132, 3, 1, 167, 255, 162, 28, 4, 100, 172]
abbrev dktX0_mend_6 : List UInt8 := dkwX0_mend_6 ++ []
def dkwX0_mend_5 : List UInt8 := [4, 96, 50, 21, 4, 4, 96, 46, 96, 42, 180, 0, 103, 29, 50, 28, 46, 159, 0, 9, 132, 4, 1]
abbrev dktX0_mend_5 : List UInt8 := dkwX0_mend_5 ++ dktX0_mend_6
def dkwX0_mend_4 : List UInt8 := [96, 50, 21, 4, 4, 96, 47, 9, 148, 153, 0, 35, 42, 29, 21, 4, 182, 1, 93, 42, 180, 0, 103, 29]
abbrev dktX0_mend_4 : List UInt8 := dkwX0_mend_4 ++ dktX0_mend_5
def dkwX0_mend_3 : List UInt8 := [6, 46, 54, 4, 42, 180, 0, 84, 29, 50, 28, 50, 21, 4, 51, 153, 0, 53, 42, 180, 0, 108, 29, 4]
abbrev dktX0_mend_3 : List UInt8 := dkwX0_mend_3 ++ dktX0_mend_4
def dkwX0_mend_2 : List UInt8 := [50, 3, 46, 167, 0, 4, 2, 172, 3, 61, 3, 62, 29, 27, 163, 0, 95, 42, 180, 0, 18, 180, 0, 199]
abbrev dktX0_mend_2 : List UInt8 := dkwX0_mend_2 ++ dktX0_mend_3
def dkwX0_mend_1 : List UInt8 := [27, 2, 159, 0, 10, 42, 182, 1, 106, 154, 0, 23, 42, 182, 1, 106, 153, 0, 14, 42, 180, 0, 103, 3]
abbrev dktX0_mend_1 : List UInt8 := dkwX0_mend_1 ++ dktX0_mend_2
def dkwX0_mend_0 : List UInt8 := [27, 2, 161, 0, 16, 27, 42, 182, 0, 142, 161, 0, 10, 27, 2, 159, 0, 5, 2, 172, 42, 182, 1, 103]
abbrev dktX0_mend_0 : List UInt8 := dkwX0_mend_0 ++ dktX0_mend_1
theorem dksX0_mend_0 : cX0_mend.data.toList.drop 0 = dktX0_mend_0 := by decide +kernel
theorem dksX0_mend_1 : cX0_mend.data.toList.drop 24 = dktX0_mend_1 := dk_seg dksX0_mend_0 24 rfl rfl
theorem dksX0_mend_2 : cX0_mend.data.toList.drop 48 = dktX0_mend_2 := dk_seg dksX0_mend_1 24 rfl rfl
theorem dksX0_mend_3 : cX0_mend.data.toList.drop 72 = dktX0_mend_3 := dk_seg dksX0_mend_2 24 rfl rfl
theorem dksX0_mend_4 : cX0_mend.data.toList.drop 96 = dktX0_mend_4 := dk_seg dksX0_mend_3 24 rfl rfl
theorem dksX0_mend_5 : cX0_mend.data.toList.drop 120 = dktX0_mend_5 := dk_seg dksX0_mend_4 24 rfl rfl
theorem dksX0_mend_6 : cX0_mend.data.toList.drop 143 = dktX0_mend_6 := dk_seg dksX0_mend_5 23 rfl rfl
theorem dX0_mend_0 : decode cX0_mend 0 = .ok (.iload_n 1, 1) := dk_27 (dk_at dksX0_mend_0 0 rfl rfl)
theorem dX0_mend_1 : decode cX0_mend 1 = .ok (.iconst (-1), 1) := dk_2 (dk_at dksX0_mend_0 1 rfl rfl)
theorem dX0_mend_2 : decode cX0_mend 2 = .ok (.if_icmp .lt 16, 3) := dk_161 0 16 (dk_at dksX0_mend_0 2 rfl rfl)
theorem dX0_mend_5 : decode cX0_mend 5 = .ok (.iload_n 1, 1) := dk_27 (dk_at dksX0_mend_0 5 rfl rfl)
theorem dX0_mend_6 : decode cX0_mend 6 = .ok (.aload_n 0, 1) := dk_42 (dk_at dksX0_mend_0 6 rfl rfl)
theorem dX0_mend_7 : decode cX0_mend 7 = .ok (.invokevirtual 142, 3) := dk_182 0 142 (dk_at dksX0_mend_0 7 rfl rfl)
theorem dX0_mend_10 : decode cX0_mend 10 = .ok (.if_icmp .lt 10, 3) := dk_161 0 10 (dk_at dksX0_mend_0 10 rfl rfl)
theorem dX0_mend_13 : decode cX0_mend 13 = .ok (.iload_n 1, 1) := dk_27 (dk_at dksX0_mend_0 13 rfl rfl)
theorem dX0_mend_14 : decode cX0_mend 14 = .ok (.iconst (-1), 1) := dk_2 (dk_at dksX0_mend_0 14 rfl rfl)
theorem dX0_mend_15 : decode cX0_mend 15 = .ok (.if_icmp .eq 5, 3) := dk_159 0 5 (dk_at dksX0_mend_0 15 rfl rfl)
theorem dX0_mend_18 : decode cX0_mend 18 = .ok (.iconst (-1), 1) := dk_2 (dk_at dksX0_mend_0 18 rfl rfl)
theorem dX0_mend_19 : decode cX0_mend 19 = .ok (.ireturn, 1) := dk_172 (dk_at dksX0_mend_0 19 rfl rfl)
theorem dX0_mend_20 : decode cX0_mend 20 = .ok (.aload_n 0, 1) := dk_42 (dk_at dksX0_mend_0 20 rfl rfl)
theorem dX0_mend_21 : decode cX0_mend 21 = .ok (.invokevirtual 359, 3) := dk_182 1 103 (dk_at dksX0_mend_0 21 rfl rfl)
theorem dX0_mend_24 : decode cX0_mend 24 = .ok (.iload_n 1, 1) := dk_27 (dk_at dksX0_mend_1 0 rfl rfl)
theorem dX0_mend_25 : decode cX0_mend 25 = .ok (.iconst (-1), 1) := dk_2 (dk_at dksX0_mend_1 1 rfl rfl)
theorem dX0_mend_26 : decode cX0_mend 26 = .ok (.if_icmp .eq 10, 3) := dk_159 0 10 (dk_at dksX0_mend_1 2 rfl rfl)
theorem dX0_mend_29 : decode cX0_mend 29 = .ok (.aload_n 0, 1) := dk_42 (dk_at dksX0_mend_1 5 rfl rfl)
theorem dX0_mend_30 : decode cX0_mend 30 = .ok (.invokevirtual 362, 3) := dk_182 1 106 (dk_at dksX0_mend_1 6 rfl rfl)
theorem dX0_mend_33 : decode cX0_mend 33 = .ok (.ifCond .ne 23, 3) := dk_154 0 23 (dk_at dksX0_mend_1 9 rfl rfl)
theorem dX0_mend_36 : decode cX0_mend 36 = .ok (.aload_n 0, 1) := dk_42 (dk_at dksX0_mend_1 12 rfl rfl)
theorem dX0_mend_37 : decode cX0_mend 37 = .ok (.invokevirtual 362, 3) := dk_182 1 106 (dk_at dksX0_mend_1 13 rfl rfl)
theorem dX0_mend_40 : decode cX0_mend 40 = .ok (.ifCond .eq 14, 3) := dk_153 0 14 (dk_at dksX0_mend_1 16 rfl rfl)
theorem dX0_mend_43 : decode cX0_mend 43 = .ok (.aload_n 0, 1) := dk_42 (dk_at dksX0_mend_1 19 rfl rfl)
theorem dX0_mend_44 : decode cX0_mend 44 = .ok (.getfield 103, 3) := dk_180 0 103 (dk_at dksX0_mend_1 20 rfl rfl)
theorem dX0_mend_47 : decode cX0_mend 47 = .ok (.iconst 0, 1) := dk_3 (dk_at dksX0_mend_1 23 rfl rfl)
theorem dX0_mend_48 : decode cX0_mend 48 = .ok (.aaload, 1) := dk_50 (dk_at dksX0_mend_2 0 rfl rfl)
theorem dX0_mend_49 : decode cX0_mend 49 = .ok (.iconst 0, 1) := dk_3 (dk_at dksX0_mend_2 1 rfl rfl)
theorem dX0_mend_50 : decode cX0_mend 50 = .ok (.iaload, 1) := dk_46 (dk_at dksX0_mend_2 2 rfl rfl)
theorem dX0_mend_51 : decode cX0_mend 51 = .ok (.goto 4, 3) := dk_167 0 4 (dk_at dksX0_mend_2 3 rfl rfl)
theorem dX0_mend_54 : decode cX0_mend 54 = .ok (.iconst (-1), 1) := dk_2 (dk_at dksX0_mend_2 6 rfl rfl)
theorem dX0_mend_55 : decode cX0_mend 55 = .ok (.ireturn, 1) := dk_172 (dk_at dksX0_mend_2 7 rfl rfl)
theorem dX0_mend_56 : decode cX0_mend 56 = .ok (.iconst 0, 1) := dk_3 (dk_at dksX0_mend_2 8 rfl rfl)
theorem dX0_mend_57 : decode cX0_mend 57 = .ok (.istore_n 2, 1) := dk_61 (dk_at dksX0_mend_2 9 rfl rfl)
theorem dX0_mend_58 : decode cX0_mend 58 = .ok (.iconst 0, 1) := dk_3 (dk_at dksX0_mend_2 10 rfl rfl)
theorem dX0_mend_59 : decode cX0_mend 59 = .ok (.istore_n 3, 1) := dk_62 (dk_at dksX0_mend_2 11 rfl rfl)
theorem dX0_mend_60 : decode cX0_mend 60 = .ok (.iload_n 3, 1) := dk_29 (dk_at dksX0_mend_2 12 rfl rfl)
theorem dX0_mend_61 : decode cX0_mend 61 = .ok (.iload_n 1, 1) := dk_27 (dk_at dksX0_mend_2 13 rfl rfl)
theorem dX0_mend_62 : decode cX0_mend 62 = .ok (.if_icmp .gt 95, 3) := dk_163 0 95 (dk_at dksX0_mend_2 14 rfl rfl)
theorem dX0_mend_65 : decode cX0_mend 65 = .ok (.aload_n 0, 1) := dk_42 (dk_at dksX0_mend_2 17 rfl rfl)
theorem dX0_mend_66 : decode cX0_mend 66 = .ok (.getfield 18, 3) := dk_180 0 18 (dk_at dksX0_mend_2 18 rfl rfl)
theorem dX0_mend_69 : decode cX0_mend 69 = .ok (.getfield 199, 3) := dk_180 0 199 (dk_at dksX0_mend_2 21 rfl rfl)
theorem dX0_mend_72 : decode cX0_mend 72 = .ok (.iconst 3, 1) := dk_6 (dk_at dksX0_mend_3 0 rfl rfl)
theorem dX0_mend_73 : decode cX0_mend 73 = .ok (.iaload, 1) := dk_46 (dk_at dksX0_mend_3 1 rfl rfl)
theorem dX0_mend_74 : decode cX0_mend 74 = .ok (.istore 4, 2) := dk_54 4 (dk_at dksX0_mend_3 2 rfl rfl)
theorem dX0_mend_76 : decode cX0_mend 76 = .ok (.aload_n 0, 1) := dk_42 (dk_at dksX0_mend_3 4 rfl rfl)
theorem dX0_mend_77 : decode cX0_mend 77 = .ok (.getfield 84, 3) := dk_180 0 84 (dk_at dksX0_mend_3 5 rfl rfl)
theorem dX0_mend_80 : decode cX0_mend 80 = .ok (.iload_n 3, 1) := dk_29 (dk_at dksX0_mend_3 8 rfl rfl)
theorem dX0_mend_81 : decode cX0_mend 81 = .ok (.aaload, 1) := dk_50 (dk_at dksX0_mend_3 9 rfl rfl)
theorem dX0_mend_82 : decode cX0_mend 82 = .ok (.iload_n 2, 1) := dk_28 (dk_at dksX0_mend_3 10 rfl rfl)
theorem dX0_mend_83 : decode cX0_mend 83 = .ok (.aaload, 1) := dk_50 (dk_at dksX0_mend_3 11 rfl rfl)
theorem dX0_mend_84 : decode cX0_mend 84 = .ok (.iload 4, 2) := dk_21 4 (dk_at dksX0_mend_3 12 rfl rfl)
theorem dX0_mend_86 : decode cX0_mend 86 = .ok (.baload, 1) := dk_51 (dk_at dksX0_mend_3 14 rfl rfl)
theorem dX0_mend_87 : decode cX0_mend 87 = .ok (.ifCond .eq 53, 3) := dk_153 0 53 (dk_at dksX0_mend_3 15 rfl rfl)
theorem dX0_mend_90 : decode cX0_mend 90 = .ok (.aload_n 0, 1) := dk_42 (dk_at dksX0_mend_3 18 rfl rfl)
theorem dX0_mend_91 : decode cX0_mend 91 = .ok (.getfield 108, 3) := dk_180 0 108 (dk_at dksX0_mend_3 19 rfl rfl)
theorem dX0_mend_94 : decode cX0_mend 94 = .ok (.iload_n 3, 1) := dk_29 (dk_at dksX0_mend_3 22 rfl rfl)
theorem dX0_mend_95 : decode cX0_mend 95 = .ok (.iconst 1, 1) := dk_4 (dk_at dksX0_mend_3 23 rfl rfl)
theorem dX0_mend_96 : decode cX0_mend 96 = .ok (.iadd, 1) := dk_96 (dk_at dksX0_mend_4 0 rfl rfl)
theorem dX0_mend_97 : decode cX0_mend 97 = .ok (.aaload, 1) := dk_50 (dk_at dksX0_mend_4 1 rfl rfl)
theorem dX0_mend_98 : decode cX0_mend 98 = .ok (.iload 4, 2) := dk_21 4 (dk_at dksX0_mend_4 2 rfl rfl)
theorem dX0_mend_100 : decode cX0_mend 100 = .ok (.iconst 1, 1) := dk_4 (dk_at dksX0_mend_4 4 rfl rfl)
theorem dX0_mend_101 : decode cX0_mend 101 = .ok (.iadd, 1) := dk_96 (dk_at dksX0_mend_4 5 rfl rfl)
theorem dX0_mend_102 : decode cX0_mend 102 = .ok (.laload, 1) := dk_47 (dk_at dksX0_mend_4 6 rfl rfl)
theorem dX0_mend_103 : decode cX0_mend 103 = .ok (.lconst 0, 1) := dk_9 (dk_at dksX0_mend_4 7 rfl rfl)
theorem dX0_mend_104 : decode cX0_mend 104 = .ok (.lcmp, 1) := dk_148 (dk_at dksX0_mend_4 8 rfl rfl)
theorem dX0_mend_105 : decode cX0_mend 105 = .ok (.ifCond .eq 35, 3) := dk_153 0 35 (dk_at dksX0_mend_4 9 rfl rfl)
theorem dX0_mend_108 : decode cX0_mend 108 = .ok (.aload_n 0, 1) := dk_42 (dk_at dksX0_mend_4 12 rfl rfl)
theorem dX0_mend_109 : decode cX0_mend 109 = .ok (.iload_n 3, 1) := dk_29 (dk_at dksX0_mend_4 13 rfl rfl)
theorem dX0_mend_110 : decode cX0_mend 110 = .ok (.iload 4, 2) := dk_21 4 (dk_at dksX0_mend_4 14 rfl rfl)
theorem dX0_mend_112 : decode cX0_mend 112 = .ok (.invokevirtual 349, 3) := dk_182 1 93 (dk_at dksX0_mend_4 16 rfl rfl)
theorem dX0_mend_115 : decode cX0_mend 115 = .ok (.aload_n 0, 1) := dk_42 (dk_at dksX0_mend_4 19 rfl rfl)
theorem dX0_mend_116 : decode cX0_mend 116 = .ok (.getfield 103, 3) := dk_180 0 103 (dk_at dksX0_mend_4 20 rfl rfl)
theorem dX0_mend_119 : decode cX0_mend 119 = .ok (.iload_n 3, 1) := dk_29 (dk_at dksX0_mend_4 23 rfl rfl)
theorem dX0_mend_120 : decode cX0_mend 120 = .ok (.iconst 1, 1) := dk_4 (dk_at dksX0_mend_5 0 rfl rfl)
theorem dX0_mend_121 : decode cX0_mend 121 = .ok (.iadd, 1) := dk_96 (dk_at dksX0_mend_5 1 rfl rfl)
theorem dX0_mend_122 : decode cX0_mend 122 = .ok (.aaload, 1) := dk_50 (dk_at dksX0_mend_5 2 rfl rfl)
theorem dX0_mend_123 : decode cX0_mend 123 = .ok (.iload 4, 2) := dk_21 4 (dk_at dksX0_mend_5 3 rfl rfl)
theorem dX0_mend_125 : decode cX0_mend 125 = .ok (.iconst 1, 1) := dk_4 (dk_at dksX0_mend_5 5 rfl rfl)
theorem dX0_mend_126 : decode cX0_mend 126 = .ok (.iadd, 1) := dk_96 (dk_at dksX0_mend_5 6 rfl rfl)
theorem dX0_mend_127 : decode cX0_mend 127 = .ok (.iaload, 1) := dk_46 (dk_at dksX0_mend_5 7 rfl rfl)
theorem dX0_mend_128 : decode cX0_mend 128 = .ok (.iadd, 1) := dk_96 (dk_at dksX0_mend_5 8 rfl rfl)
theorem dX0_mend_129 : decode cX0_mend 129 = .ok (.aload_n 0, 1) := dk_42 (dk_at dksX0_mend_5 9 rfl rfl)
theorem dX0_mend_130 : decode cX0_mend 130 = .ok (.getfield 103, 3) := dk_180 0 103 (dk_at dksX0_mend_5 10 rfl rfl)
theorem dX0_mend_133 : decode cX0_mend 133 = .ok (.iload_n 3, 1) := dk_29 (dk_at dksX0_mend_5 13 rfl rfl)
theorem dX0_mend_134 : decode cX0_mend 134 = .ok (.aaload, 1) := dk_50 (dk_at dksX0_mend_5 14 rfl rfl)
theorem dX0_mend_135 : decode cX0_mend 135 = .ok (.iload_n 2, 1) := dk_28 (dk_at dksX0_mend_5 15 rfl rfl)
theorem dX0_mend_136 : decode cX0_mend 136 = .ok (.iaload, 1) := dk_46 (dk_at dksX0_mend_5 16 rfl rfl)
theorem dX0_mend_137 : decode cX0_mend 137 = .ok (.if_icmp .eq 9, 3) := dk_159 0 9 (dk_at dksX0_mend_5 17 rfl rfl)
theorem dX0_mend_140 : decode cX0_mend 140 = .ok (.iinc 4 1, 3) := dk_132 4 1 (dk_at dksX0_mend_5 20 rfl rfl)
theorem dX0_mend_143 : decode cX0_mend 143 = .ok (.goto (-67), 3) := dk_167 255 189 (dk_at dksX0_mend_6 0 rfl rfl)
theorem dX0_mend_146 : decode cX0_mend 146 = .ok (.iload 4, 2) := dk_21 4 (dk_at dksX0_mend_6 3 rfl rfl)
theorem dX0_mend_148 : decode cX0_mend 148 = .ok (.iconst 1, 1) := dk_4 (dk_at dksX0_mend_6 5 rfl rfl)
theorem dX0_mend_149 : decode cX0_mend 149 = .ok (.iadd, 1) := dk_96 (dk_at dksX0_mend_6 6 rfl rfl)
theorem dX0_mend_150 : decode cX0_mend 150 = .ok (.istore_n 2, 1) := dk_61 (dk_at dksX0_mend_6 7 rfl rfl)
theorem dX0_mend_151 : decode cX0_mend 151 = .ok (.iinc 3 1, 3) := dk_132 3 1 (dk_at dksX0_mend_6 8 rfl rfl)
theorem dX0_mend_154 : decode cX0_mend 154 = .ok (.goto (-94), 3) := dk_167 255 162 (dk_at dksX0_mend_6 11 rfl rfl)
theorem dX0_mend_157 : decode cX0_mend 157 = .ok (.iload_n 2, 1) := dk_28 (dk_at dksX0_mend_6 14 rfl rfl)
theorem dX0_mend_158 : decode cX0_mend 158 = .ok (.iconst 1, 1) := dk_4 (dk_at dksX0_mend_6 15 rfl rfl)
theorem dX0_mend_159 : decode cX0_mend 159 = .ok (.isub, 1) := dk_100 (dk_at dksX0_mend_6 16 rfl rfl)
theorem dX0_mend_160 : decode cX0_mend 160 = .ok (.ireturn, 1) := dk_172 (dk_at dksX0_mend_6 17 rfl rfl)
abbrev cX0_compass : ByteArray := prog_1_method_65_code
def yX0_compass : MethodName := ⟨RX0, "compass", "(I)I"⟩
def dkwX0_compass_4 : List UInt8 := [132, 5, 1, 167, 255, 213, 132, 4, 1, 167, 255, 196, 2, 172]
abbrev dktX0_compass_4 : List UInt8 := dkwX0_compass_4 ++ []
def dkwX0_compass_3 : List UInt8 := [182, 1, 100, 42, 182, 1, 106, 153, 0, 15, 27, 154, 0, 8, 21, 4, 167, 0, 5, 21, 5, 172]
abbrev dktX0_compass_3 : List UInt8 := dkwX0_compass_3 ++ dktX0_compass_4
def dkwX0_compass_2 : List UInt8 := [163, 0, 58, 28, 54, 5, 21, 5, 21, 4, 96, 29, 163, 0, 40, 42, 21, 5, 21, 5, 21, 4, 96, 2]
abbrev dktX0_compass_2 : List UInt8 := dkwX0_compass_2 ++ dktX0_compass_3
def dkwX0_compass_1 : List UInt8 := [180, 0, 18, 180, 0, 199, 7, 46, 62, 42, 3, 182, 1, 96, 3, 54, 4, 21, 4, 29, 28, 100]
abbrev dktX0_compass_1 : List UInt8 := dkwX0_compass_1 ++ dktX0_compass_2
def dkwX0_compass_0 : List UInt8 := [27, 133, 9, 10, 184, 0, 5, 154, 0, 5, 2, 172, 42, 180, 0, 18, 180, 0, 199, 6, 46, 61, 42]
abbrev dktX0_compass_0 : List UInt8 := dkwX0_compass_0 ++ dktX0_compass_1
theorem dksX0_compass_0 : cX0_compass.data.toList.drop 0 = dktX0_compass_0 := by decide +kernel
theorem dksX0_compass_1 : cX0_compass.data.toList.drop 23 = dktX0_compass_1 := dk_seg dksX0_compass_0 23 rfl rfl
theorem dksX0_compass_2 : cX0_compass.data.toList.drop 45 = dktX0_compass_2 := dk_seg dksX0_compass_1 22 rfl rfl
theorem dksX0_compass_3 : cX0_compass.data.toList.drop 69 = dktX0_compass_3 := dk_seg dksX0_compass_2 24 rfl rfl
theorem dksX0_compass_4 : cX0_compass.data.toList.drop 91 = dktX0_compass_4 := dk_seg dksX0_compass_3 22 rfl rfl
theorem dX0_compass_0 : decode cX0_compass 0 = .ok (.iload_n 1, 1) := dk_27 (dk_at dksX0_compass_0 0 rfl rfl)
theorem dX0_compass_1 : decode cX0_compass 1 = .ok (.i2l, 1) := dk_133 (dk_at dksX0_compass_0 1 rfl rfl)
theorem dX0_compass_2 : decode cX0_compass 2 = .ok (.lconst 0, 1) := dk_9 (dk_at dksX0_compass_0 2 rfl rfl)
theorem dX0_compass_3 : decode cX0_compass 3 = .ok (.lconst 1, 1) := dk_10 (dk_at dksX0_compass_0 3 rfl rfl)
theorem dX0_compass_4 : decode cX0_compass 4 = .ok (.invokestatic 5, 3) := dk_184 0 5 (dk_at dksX0_compass_0 4 rfl rfl)
theorem dX0_compass_7 : decode cX0_compass 7 = .ok (.ifCond .ne 5, 3) := dk_154 0 5 (dk_at dksX0_compass_0 7 rfl rfl)
theorem dX0_compass_10 : decode cX0_compass 10 = .ok (.iconst (-1), 1) := dk_2 (dk_at dksX0_compass_0 10 rfl rfl)
theorem dX0_compass_11 : decode cX0_compass 11 = .ok (.ireturn, 1) := dk_172 (dk_at dksX0_compass_0 11 rfl rfl)
theorem dX0_compass_12 : decode cX0_compass 12 = .ok (.aload_n 0, 1) := dk_42 (dk_at dksX0_compass_0 12 rfl rfl)
theorem dX0_compass_13 : decode cX0_compass 13 = .ok (.getfield 18, 3) := dk_180 0 18 (dk_at dksX0_compass_0 13 rfl rfl)
theorem dX0_compass_16 : decode cX0_compass 16 = .ok (.getfield 199, 3) := dk_180 0 199 (dk_at dksX0_compass_0 16 rfl rfl)
theorem dX0_compass_19 : decode cX0_compass 19 = .ok (.iconst 3, 1) := dk_6 (dk_at dksX0_compass_0 19 rfl rfl)
theorem dX0_compass_20 : decode cX0_compass 20 = .ok (.iaload, 1) := dk_46 (dk_at dksX0_compass_0 20 rfl rfl)
theorem dX0_compass_21 : decode cX0_compass 21 = .ok (.istore_n 2, 1) := dk_61 (dk_at dksX0_compass_0 21 rfl rfl)
theorem dX0_compass_22 : decode cX0_compass 22 = .ok (.aload_n 0, 1) := dk_42 (dk_at dksX0_compass_0 22 rfl rfl)
theorem dX0_compass_23 : decode cX0_compass 23 = .ok (.getfield 18, 3) := dk_180 0 18 (dk_at dksX0_compass_1 0 rfl rfl)
theorem dX0_compass_26 : decode cX0_compass 26 = .ok (.getfield 199, 3) := dk_180 0 199 (dk_at dksX0_compass_1 3 rfl rfl)
theorem dX0_compass_29 : decode cX0_compass 29 = .ok (.iconst 4, 1) := dk_7 (dk_at dksX0_compass_1 6 rfl rfl)
theorem dX0_compass_30 : decode cX0_compass 30 = .ok (.iaload, 1) := dk_46 (dk_at dksX0_compass_1 7 rfl rfl)
theorem dX0_compass_31 : decode cX0_compass 31 = .ok (.istore_n 3, 1) := dk_62 (dk_at dksX0_compass_1 8 rfl rfl)
theorem dX0_compass_32 : decode cX0_compass 32 = .ok (.aload_n 0, 1) := dk_42 (dk_at dksX0_compass_1 9 rfl rfl)
theorem dX0_compass_33 : decode cX0_compass 33 = .ok (.iconst 0, 1) := dk_3 (dk_at dksX0_compass_1 10 rfl rfl)
theorem dX0_compass_34 : decode cX0_compass 34 = .ok (.invokevirtual 352, 3) := dk_182 1 96 (dk_at dksX0_compass_1 11 rfl rfl)
theorem dX0_compass_37 : decode cX0_compass 37 = .ok (.iconst 0, 1) := dk_3 (dk_at dksX0_compass_1 14 rfl rfl)
theorem dX0_compass_38 : decode cX0_compass 38 = .ok (.istore 4, 2) := dk_54 4 (dk_at dksX0_compass_1 15 rfl rfl)
theorem dX0_compass_40 : decode cX0_compass 40 = .ok (.iload 4, 2) := dk_21 4 (dk_at dksX0_compass_1 17 rfl rfl)
theorem dX0_compass_42 : decode cX0_compass 42 = .ok (.iload_n 3, 1) := dk_29 (dk_at dksX0_compass_1 19 rfl rfl)
theorem dX0_compass_43 : decode cX0_compass 43 = .ok (.iload_n 2, 1) := dk_28 (dk_at dksX0_compass_1 20 rfl rfl)
theorem dX0_compass_44 : decode cX0_compass 44 = .ok (.isub, 1) := dk_100 (dk_at dksX0_compass_1 21 rfl rfl)
theorem dX0_compass_45 : decode cX0_compass 45 = .ok (.if_icmp .gt 58, 3) := dk_163 0 58 (dk_at dksX0_compass_2 0 rfl rfl)
theorem dX0_compass_48 : decode cX0_compass 48 = .ok (.iload_n 2, 1) := dk_28 (dk_at dksX0_compass_2 3 rfl rfl)
theorem dX0_compass_49 : decode cX0_compass 49 = .ok (.istore 5, 2) := dk_54 5 (dk_at dksX0_compass_2 4 rfl rfl)
theorem dX0_compass_51 : decode cX0_compass 51 = .ok (.iload 5, 2) := dk_21 5 (dk_at dksX0_compass_2 6 rfl rfl)
theorem dX0_compass_53 : decode cX0_compass 53 = .ok (.iload 4, 2) := dk_21 4 (dk_at dksX0_compass_2 8 rfl rfl)
theorem dX0_compass_55 : decode cX0_compass 55 = .ok (.iadd, 1) := dk_96 (dk_at dksX0_compass_2 10 rfl rfl)
theorem dX0_compass_56 : decode cX0_compass 56 = .ok (.iload_n 3, 1) := dk_29 (dk_at dksX0_compass_2 11 rfl rfl)
theorem dX0_compass_57 : decode cX0_compass 57 = .ok (.if_icmp .gt 40, 3) := dk_163 0 40 (dk_at dksX0_compass_2 12 rfl rfl)
theorem dX0_compass_60 : decode cX0_compass 60 = .ok (.aload_n 0, 1) := dk_42 (dk_at dksX0_compass_2 15 rfl rfl)
theorem dX0_compass_61 : decode cX0_compass 61 = .ok (.iload 5, 2) := dk_21 5 (dk_at dksX0_compass_2 16 rfl rfl)
theorem dX0_compass_63 : decode cX0_compass 63 = .ok (.iload 5, 2) := dk_21 5 (dk_at dksX0_compass_2 18 rfl rfl)
theorem dX0_compass_65 : decode cX0_compass 65 = .ok (.iload 4, 2) := dk_21 4 (dk_at dksX0_compass_2 20 rfl rfl)
theorem dX0_compass_67 : decode cX0_compass 67 = .ok (.iadd, 1) := dk_96 (dk_at dksX0_compass_2 22 rfl rfl)
theorem dX0_compass_68 : decode cX0_compass 68 = .ok (.iconst (-1), 1) := dk_2 (dk_at dksX0_compass_2 23 rfl rfl)
theorem dX0_compass_69 : decode cX0_compass 69 = .ok (.invokevirtual 356, 3) := dk_182 1 100 (dk_at dksX0_compass_3 0 rfl rfl)
theorem dX0_compass_72 : decode cX0_compass 72 = .ok (.aload_n 0, 1) := dk_42 (dk_at dksX0_compass_3 3 rfl rfl)
theorem dX0_compass_73 : decode cX0_compass 73 = .ok (.invokevirtual 362, 3) := dk_182 1 106 (dk_at dksX0_compass_3 4 rfl rfl)
theorem dX0_compass_76 : decode cX0_compass 76 = .ok (.ifCond .eq 15, 3) := dk_153 0 15 (dk_at dksX0_compass_3 7 rfl rfl)
theorem dX0_compass_79 : decode cX0_compass 79 = .ok (.iload_n 1, 1) := dk_27 (dk_at dksX0_compass_3 10 rfl rfl)
theorem dX0_compass_80 : decode cX0_compass 80 = .ok (.ifCond .ne 8, 3) := dk_154 0 8 (dk_at dksX0_compass_3 11 rfl rfl)
theorem dX0_compass_83 : decode cX0_compass 83 = .ok (.iload 4, 2) := dk_21 4 (dk_at dksX0_compass_3 14 rfl rfl)
theorem dX0_compass_85 : decode cX0_compass 85 = .ok (.goto 5, 3) := dk_167 0 5 (dk_at dksX0_compass_3 16 rfl rfl)
theorem dX0_compass_88 : decode cX0_compass 88 = .ok (.iload 5, 2) := dk_21 5 (dk_at dksX0_compass_3 19 rfl rfl)
theorem dX0_compass_90 : decode cX0_compass 90 = .ok (.ireturn, 1) := dk_172 (dk_at dksX0_compass_3 21 rfl rfl)
theorem dX0_compass_91 : decode cX0_compass 91 = .ok (.iinc 5 1, 3) := dk_132 5 1 (dk_at dksX0_compass_4 0 rfl rfl)
theorem dX0_compass_94 : decode cX0_compass 94 = .ok (.goto (-43), 3) := dk_167 255 213 (dk_at dksX0_compass_4 3 rfl rfl)
theorem dX0_compass_97 : decode cX0_compass 97 = .ok (.iinc 4 1, 3) := dk_132 4 1 (dk_at dksX0_compass_4 6 rfl rfl)
theorem dX0_compass_100 : decode cX0_compass 100 = .ok (.goto (-60), 3) := dk_167 255 196 (dk_at dksX0_compass_4 9 rfl rfl)
theorem dX0_compass_103 : decode cX0_compass 103 = .ok (.iconst (-1), 1) := dk_2 (dk_at dksX0_compass_4 12 rfl rfl)
theorem dX0_compass_104 : decode cX0_compass 104 = .ok (.ireturn, 1) := dk_172 (dk_at dksX0_compass_4 13 rfl rfl)
abbrev cX0_cheapest : ByteArray := prog_1_method_67_code
def yX0_cheapest : MethodName := ⟨RX0, "cheapest", "(II)I"⟩
def dkwX0_cheapest_8 : List UInt8 := [21, 4, 172]
abbrev dktX0_cheapest_8 : List UInt8 := dkwX0_cheapest_8 ++ []
def dkwX0_cheapest_7 : List UInt8 := [182, 0, 157, 180, 0, 160, 27, 29, 79, 21, 5, 2, 159, 0, 7, 28, 154, 0, 8, 21, 5, 167, 0, 5]
abbrev dktX0_cheapest_7 : List UInt8 := dkwX0_cheapest_7 ++ dktX0_cheapest_8
def dkwX0_cheapest_6 : List UInt8 := [167, 0, 17, 42, 180, 0, 97, 3, 50, 3, 46, 54, 4, 21, 6, 54, 5, 132, 6, 1, 167, 255, 142, 42]
abbrev dktX0_cheapest_6 : List UInt8 := dkwX0_cheapest_6 ++ dktX0_cheapest_7
def dkwX0_cheapest_5 : List UInt8 := [182, 1, 100, 42, 182, 1, 106, 153, 0, 33, 42, 180, 0, 97, 3, 50, 3, 46, 21, 4, 161, 0, 6]
abbrev dktX0_cheapest_5 : List UInt8 := dkwX0_cheapest_5 ++ dktX0_cheapest_6
def dkwX0_cheapest_4 : List UInt8 := [182, 1, 80, 42, 42, 180, 0, 18, 180, 0, 199, 6, 46, 42, 180, 0, 18, 180, 0, 199, 7, 46, 2]
abbrev dktX0_cheapest_4 : List UInt8 := dkwX0_cheapest_4 ++ dktX0_cheapest_5
def dkwX0_cheapest_3 : List UInt8 := [79, 42, 27, 4, 182, 1, 80, 27, 4, 96, 42, 182, 0, 142, 162, 0, 11, 42, 27, 4, 96, 4]
abbrev dktX0_cheapest_3 : List UInt8 := dkwX0_cheapest_3 ++ dktX0_cheapest_4
def dkwX0_cheapest_2 : List UInt8 := [16, 25, 162, 0, 113, 21, 6, 29, 160, 0, 6, 167, 0, 98, 42, 182, 0, 157, 180, 0, 160, 27, 21, 6]
abbrev dktX0_cheapest_2 : List UInt8 := dkwX0_cheapest_2 ++ dktX0_cheapest_3
def dkwX0_cheapest_1 : List UInt8 := [180, 0, 160, 27, 46, 62, 19, 1, 84, 54, 4, 2, 54, 5, 42, 4, 182, 1, 96, 3, 54, 6, 21, 6]
abbrev dktX0_cheapest_1 : List UInt8 := dkwX0_cheapest_1 ++ dktX0_cheapest_2
def dkwX0_cheapest_0 : List UInt8 := [42, 27, 182, 0, 172, 153, 0, 13, 28, 133, 9, 10, 184, 0, 5, 154, 0, 5, 2, 172, 42, 182, 0, 157]
abbrev dktX0_cheapest_0 : List UInt8 := dkwX0_cheapest_0 ++ dktX0_cheapest_1
theorem dksX0_cheapest_0 : cX0_cheapest.data.toList.drop 0 = dktX0_cheapest_0 := by decide +kernel
theorem dksX0_cheapest_1 : cX0_cheapest.data.toList.drop 24 = dktX0_cheapest_1 := dk_seg dksX0_cheapest_0 24 rfl rfl
theorem dksX0_cheapest_2 : cX0_cheapest.data.toList.drop 48 = dktX0_cheapest_2 := dk_seg dksX0_cheapest_1 24 rfl rfl
theorem dksX0_cheapest_3 : cX0_cheapest.data.toList.drop 72 = dktX0_cheapest_3 := dk_seg dksX0_cheapest_2 24 rfl rfl
theorem dksX0_cheapest_4 : cX0_cheapest.data.toList.drop 94 = dktX0_cheapest_4 := dk_seg dksX0_cheapest_3 22 rfl rfl
theorem dksX0_cheapest_5 : cX0_cheapest.data.toList.drop 117 = dktX0_cheapest_5 := dk_seg dksX0_cheapest_4 23 rfl rfl
theorem dksX0_cheapest_6 : cX0_cheapest.data.toList.drop 140 = dktX0_cheapest_6 := dk_seg dksX0_cheapest_5 23 rfl rfl
theorem dksX0_cheapest_7 : cX0_cheapest.data.toList.drop 164 = dktX0_cheapest_7 := dk_seg dksX0_cheapest_6 24 rfl rfl
theorem dksX0_cheapest_8 : cX0_cheapest.data.toList.drop 188 = dktX0_cheapest_8 := dk_seg dksX0_cheapest_7 24 rfl rfl
theorem dX0_cheapest_0 : decode cX0_cheapest 0 = .ok (.aload_n 0, 1) := dk_42 (dk_at dksX0_cheapest_0 0 rfl rfl)
theorem dX0_cheapest_1 : decode cX0_cheapest 1 = .ok (.iload_n 1, 1) := dk_27 (dk_at dksX0_cheapest_0 1 rfl rfl)
theorem dX0_cheapest_2 : decode cX0_cheapest 2 = .ok (.invokevirtual 172, 3) := dk_182 0 172 (dk_at dksX0_cheapest_0 2 rfl rfl)
theorem dX0_cheapest_5 : decode cX0_cheapest 5 = .ok (.ifCond .eq 13, 3) := dk_153 0 13 (dk_at dksX0_cheapest_0 5 rfl rfl)
theorem dX0_cheapest_8 : decode cX0_cheapest 8 = .ok (.iload_n 2, 1) := dk_28 (dk_at dksX0_cheapest_0 8 rfl rfl)
theorem dX0_cheapest_9 : decode cX0_cheapest 9 = .ok (.i2l, 1) := dk_133 (dk_at dksX0_cheapest_0 9 rfl rfl)
theorem dX0_cheapest_10 : decode cX0_cheapest 10 = .ok (.lconst 0, 1) := dk_9 (dk_at dksX0_cheapest_0 10 rfl rfl)
theorem dX0_cheapest_11 : decode cX0_cheapest 11 = .ok (.lconst 1, 1) := dk_10 (dk_at dksX0_cheapest_0 11 rfl rfl)
theorem dX0_cheapest_12 : decode cX0_cheapest 12 = .ok (.invokestatic 5, 3) := dk_184 0 5 (dk_at dksX0_cheapest_0 12 rfl rfl)
theorem dX0_cheapest_15 : decode cX0_cheapest 15 = .ok (.ifCond .ne 5, 3) := dk_154 0 5 (dk_at dksX0_cheapest_0 15 rfl rfl)
theorem dX0_cheapest_18 : decode cX0_cheapest 18 = .ok (.iconst (-1), 1) := dk_2 (dk_at dksX0_cheapest_0 18 rfl rfl)
theorem dX0_cheapest_19 : decode cX0_cheapest 19 = .ok (.ireturn, 1) := dk_172 (dk_at dksX0_cheapest_0 19 rfl rfl)
theorem dX0_cheapest_20 : decode cX0_cheapest 20 = .ok (.aload_n 0, 1) := dk_42 (dk_at dksX0_cheapest_0 20 rfl rfl)
theorem dX0_cheapest_21 : decode cX0_cheapest 21 = .ok (.invokevirtual 157, 3) := dk_182 0 157 (dk_at dksX0_cheapest_0 21 rfl rfl)
theorem dX0_cheapest_24 : decode cX0_cheapest 24 = .ok (.getfield 160, 3) := dk_180 0 160 (dk_at dksX0_cheapest_1 0 rfl rfl)
theorem dX0_cheapest_27 : decode cX0_cheapest 27 = .ok (.iload_n 1, 1) := dk_27 (dk_at dksX0_cheapest_1 3 rfl rfl)
theorem dX0_cheapest_28 : decode cX0_cheapest 28 = .ok (.iaload, 1) := dk_46 (dk_at dksX0_cheapest_1 4 rfl rfl)
theorem dX0_cheapest_29 : decode cX0_cheapest 29 = .ok (.istore_n 3, 1) := dk_62 (dk_at dksX0_cheapest_1 5 rfl rfl)
theorem dX0_cheapest_30 : decode cX0_cheapest 30 = .ok (.ldc_w 340, 3) := dk_19 1 84 (dk_at dksX0_cheapest_1 6 rfl rfl)
theorem dX0_cheapest_33 : decode cX0_cheapest 33 = .ok (.istore 4, 2) := dk_54 4 (dk_at dksX0_cheapest_1 9 rfl rfl)
theorem dX0_cheapest_35 : decode cX0_cheapest 35 = .ok (.iconst (-1), 1) := dk_2 (dk_at dksX0_cheapest_1 11 rfl rfl)
theorem dX0_cheapest_36 : decode cX0_cheapest 36 = .ok (.istore 5, 2) := dk_54 5 (dk_at dksX0_cheapest_1 12 rfl rfl)
theorem dX0_cheapest_38 : decode cX0_cheapest 38 = .ok (.aload_n 0, 1) := dk_42 (dk_at dksX0_cheapest_1 14 rfl rfl)
theorem dX0_cheapest_39 : decode cX0_cheapest 39 = .ok (.iconst 1, 1) := dk_4 (dk_at dksX0_cheapest_1 15 rfl rfl)
theorem dX0_cheapest_40 : decode cX0_cheapest 40 = .ok (.invokevirtual 352, 3) := dk_182 1 96 (dk_at dksX0_cheapest_1 16 rfl rfl)
theorem dX0_cheapest_43 : decode cX0_cheapest 43 = .ok (.iconst 0, 1) := dk_3 (dk_at dksX0_cheapest_1 19 rfl rfl)
theorem dX0_cheapest_44 : decode cX0_cheapest 44 = .ok (.istore 6, 2) := dk_54 6 (dk_at dksX0_cheapest_1 20 rfl rfl)
theorem dX0_cheapest_46 : decode cX0_cheapest 46 = .ok (.iload 6, 2) := dk_21 6 (dk_at dksX0_cheapest_1 22 rfl rfl)
theorem dX0_cheapest_48 : decode cX0_cheapest 48 = .ok (.bipush 25, 2) := dk_16 25 (dk_at dksX0_cheapest_2 0 rfl rfl)
theorem dX0_cheapest_50 : decode cX0_cheapest 50 = .ok (.if_icmp .ge 113, 3) := dk_162 0 113 (dk_at dksX0_cheapest_2 2 rfl rfl)
theorem dX0_cheapest_53 : decode cX0_cheapest 53 = .ok (.iload 6, 2) := dk_21 6 (dk_at dksX0_cheapest_2 5 rfl rfl)
theorem dX0_cheapest_55 : decode cX0_cheapest 55 = .ok (.iload_n 3, 1) := dk_29 (dk_at dksX0_cheapest_2 7 rfl rfl)
theorem dX0_cheapest_56 : decode cX0_cheapest 56 = .ok (.if_icmp .ne 6, 3) := dk_160 0 6 (dk_at dksX0_cheapest_2 8 rfl rfl)
theorem dX0_cheapest_59 : decode cX0_cheapest 59 = .ok (.goto 98, 3) := dk_167 0 98 (dk_at dksX0_cheapest_2 11 rfl rfl)
theorem dX0_cheapest_62 : decode cX0_cheapest 62 = .ok (.aload_n 0, 1) := dk_42 (dk_at dksX0_cheapest_2 14 rfl rfl)
theorem dX0_cheapest_63 : decode cX0_cheapest 63 = .ok (.invokevirtual 157, 3) := dk_182 0 157 (dk_at dksX0_cheapest_2 15 rfl rfl)
theorem dX0_cheapest_66 : decode cX0_cheapest 66 = .ok (.getfield 160, 3) := dk_180 0 160 (dk_at dksX0_cheapest_2 18 rfl rfl)
theorem dX0_cheapest_69 : decode cX0_cheapest 69 = .ok (.iload_n 1, 1) := dk_27 (dk_at dksX0_cheapest_2 21 rfl rfl)
theorem dX0_cheapest_70 : decode cX0_cheapest 70 = .ok (.iload 6, 2) := dk_21 6 (dk_at dksX0_cheapest_2 22 rfl rfl)
theorem dX0_cheapest_72 : decode cX0_cheapest 72 = .ok (.iastore, 1) := dk_79 (dk_at dksX0_cheapest_3 0 rfl rfl)
theorem dX0_cheapest_73 : decode cX0_cheapest 73 = .ok (.aload_n 0, 1) := dk_42 (dk_at dksX0_cheapest_3 1 rfl rfl)
theorem dX0_cheapest_74 : decode cX0_cheapest 74 = .ok (.iload_n 1, 1) := dk_27 (dk_at dksX0_cheapest_3 2 rfl rfl)
theorem dX0_cheapest_75 : decode cX0_cheapest 75 = .ok (.iconst 1, 1) := dk_4 (dk_at dksX0_cheapest_3 3 rfl rfl)
theorem dX0_cheapest_76 : decode cX0_cheapest 76 = .ok (.invokevirtual 336, 3) := dk_182 1 80 (dk_at dksX0_cheapest_3 4 rfl rfl)
theorem dX0_cheapest_79 : decode cX0_cheapest 79 = .ok (.iload_n 1, 1) := dk_27 (dk_at dksX0_cheapest_3 7 rfl rfl)
theorem dX0_cheapest_80 : decode cX0_cheapest 80 = .ok (.iconst 1, 1) := dk_4 (dk_at dksX0_cheapest_3 8 rfl rfl)
theorem dX0_cheapest_81 : decode cX0_cheapest 81 = .ok (.iadd, 1) := dk_96 (dk_at dksX0_cheapest_3 9 rfl rfl)
theorem dX0_cheapest_82 : decode cX0_cheapest 82 = .ok (.aload_n 0, 1) := dk_42 (dk_at dksX0_cheapest_3 10 rfl rfl)
theorem dX0_cheapest_83 : decode cX0_cheapest 83 = .ok (.invokevirtual 142, 3) := dk_182 0 142 (dk_at dksX0_cheapest_3 11 rfl rfl)
theorem dX0_cheapest_86 : decode cX0_cheapest 86 = .ok (.if_icmp .ge 11, 3) := dk_162 0 11 (dk_at dksX0_cheapest_3 14 rfl rfl)
theorem dX0_cheapest_89 : decode cX0_cheapest 89 = .ok (.aload_n 0, 1) := dk_42 (dk_at dksX0_cheapest_3 17 rfl rfl)
theorem dX0_cheapest_90 : decode cX0_cheapest 90 = .ok (.iload_n 1, 1) := dk_27 (dk_at dksX0_cheapest_3 18 rfl rfl)
theorem dX0_cheapest_91 : decode cX0_cheapest 91 = .ok (.iconst 1, 1) := dk_4 (dk_at dksX0_cheapest_3 19 rfl rfl)
theorem dX0_cheapest_92 : decode cX0_cheapest 92 = .ok (.iadd, 1) := dk_96 (dk_at dksX0_cheapest_3 20 rfl rfl)
theorem dX0_cheapest_93 : decode cX0_cheapest 93 = .ok (.iconst 1, 1) := dk_4 (dk_at dksX0_cheapest_3 21 rfl rfl)
theorem dX0_cheapest_94 : decode cX0_cheapest 94 = .ok (.invokevirtual 336, 3) := dk_182 1 80 (dk_at dksX0_cheapest_4 0 rfl rfl)
theorem dX0_cheapest_97 : decode cX0_cheapest 97 = .ok (.aload_n 0, 1) := dk_42 (dk_at dksX0_cheapest_4 3 rfl rfl)
theorem dX0_cheapest_98 : decode cX0_cheapest 98 = .ok (.aload_n 0, 1) := dk_42 (dk_at dksX0_cheapest_4 4 rfl rfl)
theorem dX0_cheapest_99 : decode cX0_cheapest 99 = .ok (.getfield 18, 3) := dk_180 0 18 (dk_at dksX0_cheapest_4 5 rfl rfl)
theorem dX0_cheapest_102 : decode cX0_cheapest 102 = .ok (.getfield 199, 3) := dk_180 0 199 (dk_at dksX0_cheapest_4 8 rfl rfl)
theorem dX0_cheapest_105 : decode cX0_cheapest 105 = .ok (.iconst 3, 1) := dk_6 (dk_at dksX0_cheapest_4 11 rfl rfl)
theorem dX0_cheapest_106 : decode cX0_cheapest 106 = .ok (.iaload, 1) := dk_46 (dk_at dksX0_cheapest_4 12 rfl rfl)
theorem dX0_cheapest_107 : decode cX0_cheapest 107 = .ok (.aload_n 0, 1) := dk_42 (dk_at dksX0_cheapest_4 13 rfl rfl)
theorem dX0_cheapest_108 : decode cX0_cheapest 108 = .ok (.getfield 18, 3) := dk_180 0 18 (dk_at dksX0_cheapest_4 14 rfl rfl)
theorem dX0_cheapest_111 : decode cX0_cheapest 111 = .ok (.getfield 199, 3) := dk_180 0 199 (dk_at dksX0_cheapest_4 17 rfl rfl)
theorem dX0_cheapest_114 : decode cX0_cheapest 114 = .ok (.iconst 4, 1) := dk_7 (dk_at dksX0_cheapest_4 20 rfl rfl)
theorem dX0_cheapest_115 : decode cX0_cheapest 115 = .ok (.iaload, 1) := dk_46 (dk_at dksX0_cheapest_4 21 rfl rfl)
theorem dX0_cheapest_116 : decode cX0_cheapest 116 = .ok (.iconst (-1), 1) := dk_2 (dk_at dksX0_cheapest_4 22 rfl rfl)
theorem dX0_cheapest_117 : decode cX0_cheapest 117 = .ok (.invokevirtual 356, 3) := dk_182 1 100 (dk_at dksX0_cheapest_5 0 rfl rfl)
theorem dX0_cheapest_120 : decode cX0_cheapest 120 = .ok (.aload_n 0, 1) := dk_42 (dk_at dksX0_cheapest_5 3 rfl rfl)
theorem dX0_cheapest_121 : decode cX0_cheapest 121 = .ok (.invokevirtual 362, 3) := dk_182 1 106 (dk_at dksX0_cheapest_5 4 rfl rfl)
theorem dX0_cheapest_124 : decode cX0_cheapest 124 = .ok (.ifCond .eq 33, 3) := dk_153 0 33 (dk_at dksX0_cheapest_5 7 rfl rfl)
theorem dX0_cheapest_127 : decode cX0_cheapest 127 = .ok (.aload_n 0, 1) := dk_42 (dk_at dksX0_cheapest_5 10 rfl rfl)
theorem dX0_cheapest_128 : decode cX0_cheapest 128 = .ok (.getfield 97, 3) := dk_180 0 97 (dk_at dksX0_cheapest_5 11 rfl rfl)
theorem dX0_cheapest_131 : decode cX0_cheapest 131 = .ok (.iconst 0, 1) := dk_3 (dk_at dksX0_cheapest_5 14 rfl rfl)
theorem dX0_cheapest_132 : decode cX0_cheapest 132 = .ok (.aaload, 1) := dk_50 (dk_at dksX0_cheapest_5 15 rfl rfl)
theorem dX0_cheapest_133 : decode cX0_cheapest 133 = .ok (.iconst 0, 1) := dk_3 (dk_at dksX0_cheapest_5 16 rfl rfl)
theorem dX0_cheapest_134 : decode cX0_cheapest 134 = .ok (.iaload, 1) := dk_46 (dk_at dksX0_cheapest_5 17 rfl rfl)
theorem dX0_cheapest_135 : decode cX0_cheapest 135 = .ok (.iload 4, 2) := dk_21 4 (dk_at dksX0_cheapest_5 18 rfl rfl)
theorem dX0_cheapest_137 : decode cX0_cheapest 137 = .ok (.if_icmp .lt 6, 3) := dk_161 0 6 (dk_at dksX0_cheapest_5 20 rfl rfl)
theorem dX0_cheapest_140 : decode cX0_cheapest 140 = .ok (.goto 17, 3) := dk_167 0 17 (dk_at dksX0_cheapest_6 0 rfl rfl)
theorem dX0_cheapest_143 : decode cX0_cheapest 143 = .ok (.aload_n 0, 1) := dk_42 (dk_at dksX0_cheapest_6 3 rfl rfl)
theorem dX0_cheapest_144 : decode cX0_cheapest 144 = .ok (.getfield 97, 3) := dk_180 0 97 (dk_at dksX0_cheapest_6 4 rfl rfl)
theorem dX0_cheapest_147 : decode cX0_cheapest 147 = .ok (.iconst 0, 1) := dk_3 (dk_at dksX0_cheapest_6 7 rfl rfl)
theorem dX0_cheapest_148 : decode cX0_cheapest 148 = .ok (.aaload, 1) := dk_50 (dk_at dksX0_cheapest_6 8 rfl rfl)
theorem dX0_cheapest_149 : decode cX0_cheapest 149 = .ok (.iconst 0, 1) := dk_3 (dk_at dksX0_cheapest_6 9 rfl rfl)
theorem dX0_cheapest_150 : decode cX0_cheapest 150 = .ok (.iaload, 1) := dk_46 (dk_at dksX0_cheapest_6 10 rfl rfl)
theorem dX0_cheapest_151 : decode cX0_cheapest 151 = .ok (.istore 4, 2) := dk_54 4 (dk_at dksX0_cheapest_6 11 rfl rfl)
theorem dX0_cheapest_153 : decode cX0_cheapest 153 = .ok (.iload 6, 2) := dk_21 6 (dk_at dksX0_cheapest_6 13 rfl rfl)
theorem dX0_cheapest_155 : decode cX0_cheapest 155 = .ok (.istore 5, 2) := dk_54 5 (dk_at dksX0_cheapest_6 15 rfl rfl)
theorem dX0_cheapest_157 : decode cX0_cheapest 157 = .ok (.iinc 6 1, 3) := dk_132 6 1 (dk_at dksX0_cheapest_6 17 rfl rfl)
theorem dX0_cheapest_160 : decode cX0_cheapest 160 = .ok (.goto (-114), 3) := dk_167 255 142 (dk_at dksX0_cheapest_6 20 rfl rfl)
theorem dX0_cheapest_163 : decode cX0_cheapest 163 = .ok (.aload_n 0, 1) := dk_42 (dk_at dksX0_cheapest_6 23 rfl rfl)
theorem dX0_cheapest_164 : decode cX0_cheapest 164 = .ok (.invokevirtual 157, 3) := dk_182 0 157 (dk_at dksX0_cheapest_7 0 rfl rfl)
theorem dX0_cheapest_167 : decode cX0_cheapest 167 = .ok (.getfield 160, 3) := dk_180 0 160 (dk_at dksX0_cheapest_7 3 rfl rfl)
theorem dX0_cheapest_170 : decode cX0_cheapest 170 = .ok (.iload_n 1, 1) := dk_27 (dk_at dksX0_cheapest_7 6 rfl rfl)
theorem dX0_cheapest_171 : decode cX0_cheapest 171 = .ok (.iload_n 3, 1) := dk_29 (dk_at dksX0_cheapest_7 7 rfl rfl)
theorem dX0_cheapest_172 : decode cX0_cheapest 172 = .ok (.iastore, 1) := dk_79 (dk_at dksX0_cheapest_7 8 rfl rfl)
theorem dX0_cheapest_173 : decode cX0_cheapest 173 = .ok (.iload 5, 2) := dk_21 5 (dk_at dksX0_cheapest_7 9 rfl rfl)
theorem dX0_cheapest_175 : decode cX0_cheapest 175 = .ok (.iconst (-1), 1) := dk_2 (dk_at dksX0_cheapest_7 11 rfl rfl)
theorem dX0_cheapest_176 : decode cX0_cheapest 176 = .ok (.if_icmp .eq 7, 3) := dk_159 0 7 (dk_at dksX0_cheapest_7 12 rfl rfl)
theorem dX0_cheapest_179 : decode cX0_cheapest 179 = .ok (.iload_n 2, 1) := dk_28 (dk_at dksX0_cheapest_7 15 rfl rfl)
theorem dX0_cheapest_180 : decode cX0_cheapest 180 = .ok (.ifCond .ne 8, 3) := dk_154 0 8 (dk_at dksX0_cheapest_7 16 rfl rfl)
theorem dX0_cheapest_183 : decode cX0_cheapest 183 = .ok (.iload 5, 2) := dk_21 5 (dk_at dksX0_cheapest_7 19 rfl rfl)
theorem dX0_cheapest_185 : decode cX0_cheapest 185 = .ok (.goto 5, 3) := dk_167 0 5 (dk_at dksX0_cheapest_7 21 rfl rfl)
theorem dX0_cheapest_188 : decode cX0_cheapest 188 = .ok (.iload 4, 2) := dk_21 4 (dk_at dksX0_cheapest_8 0 rfl rfl)
theorem dX0_cheapest_190 : decode cX0_cheapest 190 = .ok (.ireturn, 1) := dk_172 (dk_at dksX0_cheapest_8 2 rfl rfl)
abbrev cX0_compare : ByteArray := prog_1_method_68_code
def yX0_compare : MethodName := ⟨RX0, "compare", "(I)I"⟩
def dkwX0_compare_1 : List UInt8 := [181, 1, 1, 42, 182, 1, 110, 62, 42, 180, 0, 18, 28, 181, 1, 1, 29, 172]
abbrev dktX0_compare_1 : List UInt8 := dkwX0_compare_1 ++ []
def dkwX0_compare_0 : List UInt8 := [42, 27, 182, 0, 254, 154, 0, 5, 2, 172, 42, 180, 0, 18, 180, 1, 1, 61, 42, 180, 0, 18, 27]
abbrev dktX0_compare_0 : List UInt8 := dkwX0_compare_0 ++ dktX0_compare_1
theorem dksX0_compare_0 : cX0_compare.data.toList.drop 0 = dktX0_compare_0 := by decide +kernel
theorem dksX0_compare_1 : cX0_compare.data.toList.drop 23 = dktX0_compare_1 := dk_seg dksX0_compare_0 23 rfl rfl
theorem dX0_compare_0 : decode cX0_compare 0 = .ok (.aload_n 0, 1) := dk_42 (dk_at dksX0_compare_0 0 rfl rfl)
theorem dX0_compare_1 : decode cX0_compare 1 = .ok (.iload_n 1, 1) := dk_27 (dk_at dksX0_compare_0 1 rfl rfl)
theorem dX0_compare_2 : decode cX0_compare 2 = .ok (.invokevirtual 254, 3) := dk_182 0 254 (dk_at dksX0_compare_0 2 rfl rfl)
theorem dX0_compare_5 : decode cX0_compare 5 = .ok (.ifCond .ne 5, 3) := dk_154 0 5 (dk_at dksX0_compare_0 5 rfl rfl)
theorem dX0_compare_8 : decode cX0_compare 8 = .ok (.iconst (-1), 1) := dk_2 (dk_at dksX0_compare_0 8 rfl rfl)
theorem dX0_compare_9 : decode cX0_compare 9 = .ok (.ireturn, 1) := dk_172 (dk_at dksX0_compare_0 9 rfl rfl)
theorem dX0_compare_10 : decode cX0_compare 10 = .ok (.aload_n 0, 1) := dk_42 (dk_at dksX0_compare_0 10 rfl rfl)
theorem dX0_compare_11 : decode cX0_compare 11 = .ok (.getfield 18, 3) := dk_180 0 18 (dk_at dksX0_compare_0 11 rfl rfl)
theorem dX0_compare_14 : decode cX0_compare 14 = .ok (.getfield 257, 3) := dk_180 1 1 (dk_at dksX0_compare_0 14 rfl rfl)
theorem dX0_compare_17 : decode cX0_compare 17 = .ok (.istore_n 2, 1) := dk_61 (dk_at dksX0_compare_0 17 rfl rfl)
theorem dX0_compare_18 : decode cX0_compare 18 = .ok (.aload_n 0, 1) := dk_42 (dk_at dksX0_compare_0 18 rfl rfl)
theorem dX0_compare_19 : decode cX0_compare 19 = .ok (.getfield 18, 3) := dk_180 0 18 (dk_at dksX0_compare_0 19 rfl rfl)
theorem dX0_compare_22 : decode cX0_compare 22 = .ok (.iload_n 1, 1) := dk_27 (dk_at dksX0_compare_0 22 rfl rfl)
theorem dX0_compare_23 : decode cX0_compare 23 = .ok (.putfield 257, 3) := dk_181 1 1 (dk_at dksX0_compare_1 0 rfl rfl)
theorem dX0_compare_26 : decode cX0_compare 26 = .ok (.aload_n 0, 1) := dk_42 (dk_at dksX0_compare_1 3 rfl rfl)
theorem dX0_compare_27 : decode cX0_compare 27 = .ok (.invokevirtual 366, 3) := dk_182 1 110 (dk_at dksX0_compare_1 4 rfl rfl)
theorem dX0_compare_30 : decode cX0_compare 30 = .ok (.istore_n 3, 1) := dk_62 (dk_at dksX0_compare_1 7 rfl rfl)
theorem dX0_compare_31 : decode cX0_compare 31 = .ok (.aload_n 0, 1) := dk_42 (dk_at dksX0_compare_1 8 rfl rfl)
theorem dX0_compare_32 : decode cX0_compare 32 = .ok (.getfield 18, 3) := dk_180 0 18 (dk_at dksX0_compare_1 9 rfl rfl)
theorem dX0_compare_35 : decode cX0_compare 35 = .ok (.iload_n 2, 1) := dk_28 (dk_at dksX0_compare_1 12 rfl rfl)
theorem dX0_compare_36 : decode cX0_compare 36 = .ok (.putfield 257, 3) := dk_181 1 1 (dk_at dksX0_compare_1 13 rfl rfl)
theorem dX0_compare_39 : decode cX0_compare 39 = .ok (.iload_n 3, 1) := dk_29 (dk_at dksX0_compare_1 16 rfl rfl)
theorem dX0_compare_40 : decode cX0_compare 40 = .ok (.ireturn, 1) := dk_172 (dk_at dksX0_compare_1 17 rfl rfl)
abbrev cX0_bestCosts : ByteArray := prog_1_method_66_code
def yX0_bestCosts : MethodName := ⟨RX0, "bestCosts", "()I"⟩
def dkwX0_bestCosts_0 : List UInt8 := [42, 182, 1, 103, 42, 182, 1, 106, 153, 0, 14, 42, 180, 0, 97, 3, 50, 3, 46, 167, 0, 4, 2, 172]
abbrev dktX0_bestCosts_0 : List UInt8 := dkwX0_bestCosts_0 ++ []
theorem dksX0_bestCosts_0 : cX0_bestCosts.data.toList.drop 0 = dktX0_bestCosts_0 := by decide +kernel
theorem dX0_bestCosts_0 : decode cX0_bestCosts 0 = .ok (.aload_n 0, 1) := dk_42 (dk_at dksX0_bestCosts_0 0 rfl rfl)
theorem dX0_bestCosts_1 : decode cX0_bestCosts 1 = .ok (.invokevirtual 359, 3) := dk_182 1 103 (dk_at dksX0_bestCosts_0 1 rfl rfl)
theorem dX0_bestCosts_4 : decode cX0_bestCosts 4 = .ok (.aload_n 0, 1) := dk_42 (dk_at dksX0_bestCosts_0 4 rfl rfl)
theorem dX0_bestCosts_5 : decode cX0_bestCosts 5 = .ok (.invokevirtual 362, 3) := dk_182 1 106 (dk_at dksX0_bestCosts_0 5 rfl rfl)
theorem dX0_bestCosts_8 : decode cX0_bestCosts 8 = .ok (.ifCond .eq 14, 3) := dk_153 0 14 (dk_at dksX0_bestCosts_0 8 rfl rfl)
theorem dX0_bestCosts_11 : decode cX0_bestCosts 11 = .ok (.aload_n 0, 1) := dk_42 (dk_at dksX0_bestCosts_0 11 rfl rfl)
theorem dX0_bestCosts_12 : decode cX0_bestCosts 12 = .ok (.getfield 97, 3) := dk_180 0 97 (dk_at dksX0_bestCosts_0 12 rfl rfl)
theorem dX0_bestCosts_15 : decode cX0_bestCosts 15 = .ok (.iconst 0, 1) := dk_3 (dk_at dksX0_bestCosts_0 15 rfl rfl)
theorem dX0_bestCosts_16 : decode cX0_bestCosts 16 = .ok (.aaload, 1) := dk_50 (dk_at dksX0_bestCosts_0 16 rfl rfl)
theorem dX0_bestCosts_17 : decode cX0_bestCosts 17 = .ok (.iconst 0, 1) := dk_3 (dk_at dksX0_bestCosts_0 17 rfl rfl)
theorem dX0_bestCosts_18 : decode cX0_bestCosts 18 = .ok (.iaload, 1) := dk_46 (dk_at dksX0_bestCosts_0 18 rfl rfl)
theorem dX0_bestCosts_19 : decode cX0_bestCosts 19 = .ok (.goto 4, 3) := dk_167 0 4 (dk_at dksX0_bestCosts_0 19 rfl rfl)
theorem dX0_bestCosts_22 : decode cX0_bestCosts 22 = .ok (.iconst (-1), 1) := dk_2 (dk_at dksX0_bestCosts_0 22 rfl rfl)
theorem dX0_bestCosts_23 : decode cX0_bestCosts 23 = .ok (.ireturn, 1) := dk_172 (dk_at dksX0_bestCosts_0 23 rfl rfl)
abbrev cX0_canon : ByteArray := prog_1_method_70_code
def yX0_canon : MethodName := ⟨RX0, "canon", "(II)I"⟩
def dkwX0_canon_3 : List UInt8 := [167, 255, 222, 28, 2, 160, 0, 7, 29, 167, 0, 6, 17, 252, 24, 172]
abbrev dktX0_canon_3 : List UInt8 := dkwX0_canon_3 ++ []
def dkwX0_canon_2 : List UInt8 := [182, 1, 115, 154, 0, 6, 167, 0, 14, 29, 28, 160, 0, 6, 21, 4, 172, 132, 3, 1, 132, 4, 1]
abbrev dktX0_canon_2 : List UInt8 := dkwX0_canon_2 ++ dktX0_canon_3
def dkwX0_canon_1 : List UInt8 := [162, 0, 7, 17, 252, 24, 172, 3, 62, 16, 232, 54, 4, 21, 4, 16, 24, 163, 0, 33, 42, 27, 21, 4]
abbrev dktX0_canon_1 : List UInt8 := dkwX0_canon_1 ++ dktX0_canon_2
def dkwX0_canon_0 : List UInt8 := [27, 133, 10, 20, 1, 113, 184, 0, 5, 153, 0, 16, 27, 42, 182, 0, 142, 162, 0, 8, 28, 2]
abbrev dktX0_canon_0 : List UInt8 := dkwX0_canon_0 ++ dktX0_canon_1
theorem dksX0_canon_0 : cX0_canon.data.toList.drop 0 = dktX0_canon_0 := by decide +kernel
theorem dksX0_canon_1 : cX0_canon.data.toList.drop 22 = dktX0_canon_1 := dk_seg dksX0_canon_0 22 rfl rfl
theorem dksX0_canon_2 : cX0_canon.data.toList.drop 46 = dktX0_canon_2 := dk_seg dksX0_canon_1 24 rfl rfl
theorem dksX0_canon_3 : cX0_canon.data.toList.drop 69 = dktX0_canon_3 := dk_seg dksX0_canon_2 23 rfl rfl
theorem dX0_canon_0 : decode cX0_canon 0 = .ok (.iload_n 1, 1) := dk_27 (dk_at dksX0_canon_0 0 rfl rfl)
theorem dX0_canon_1 : decode cX0_canon 1 = .ok (.i2l, 1) := dk_133 (dk_at dksX0_canon_0 1 rfl rfl)
theorem dX0_canon_2 : decode cX0_canon 2 = .ok (.lconst 1, 1) := dk_10 (dk_at dksX0_canon_0 2 rfl rfl)
theorem dX0_canon_3 : decode cX0_canon 3 = .ok (.ldc2_w 369, 3) := dk_20 1 113 (dk_at dksX0_canon_0 3 rfl rfl)
theorem dX0_canon_6 : decode cX0_canon 6 = .ok (.invokestatic 5, 3) := dk_184 0 5 (dk_at dksX0_canon_0 6 rfl rfl)
theorem dX0_canon_9 : decode cX0_canon 9 = .ok (.ifCond .eq 16, 3) := dk_153 0 16 (dk_at dksX0_canon_0 9 rfl rfl)
theorem dX0_canon_12 : decode cX0_canon 12 = .ok (.iload_n 1, 1) := dk_27 (dk_at dksX0_canon_0 12 rfl rfl)
theorem dX0_canon_13 : decode cX0_canon 13 = .ok (.aload_n 0, 1) := dk_42 (dk_at dksX0_canon_0 13 rfl rfl)
theorem dX0_canon_14 : decode cX0_canon 14 = .ok (.invokevirtual 142, 3) := dk_182 0 142 (dk_at dksX0_canon_0 14 rfl rfl)
theorem dX0_canon_17 : decode cX0_canon 17 = .ok (.if_icmp .ge 8, 3) := dk_162 0 8 (dk_at dksX0_canon_0 17 rfl rfl)
theorem dX0_canon_20 : decode cX0_canon 20 = .ok (.iload_n 2, 1) := dk_28 (dk_at dksX0_canon_0 20 rfl rfl)
theorem dX0_canon_21 : decode cX0_canon 21 = .ok (.iconst (-1), 1) := dk_2 (dk_at dksX0_canon_0 21 rfl rfl)
theorem dX0_canon_22 : decode cX0_canon 22 = .ok (.if_icmp .ge 7, 3) := dk_162 0 7 (dk_at dksX0_canon_1 0 rfl rfl)
theorem dX0_canon_25 : decode cX0_canon 25 = .ok (.sipush (-1000), 3) := dk_17 252 24 (dk_at dksX0_canon_1 3 rfl rfl)
theorem dX0_canon_28 : decode cX0_canon 28 = .ok (.ireturn, 1) := dk_172 (dk_at dksX0_canon_1 6 rfl rfl)
theorem dX0_canon_29 : decode cX0_canon 29 = .ok (.iconst 0, 1) := dk_3 (dk_at dksX0_canon_1 7 rfl rfl)
theorem dX0_canon_30 : decode cX0_canon 30 = .ok (.istore_n 3, 1) := dk_62 (dk_at dksX0_canon_1 8 rfl rfl)
theorem dX0_canon_31 : decode cX0_canon 31 = .ok (.bipush (-24), 2) := dk_16 232 (dk_at dksX0_canon_1 9 rfl rfl)
theorem dX0_canon_33 : decode cX0_canon 33 = .ok (.istore 4, 2) := dk_54 4 (dk_at dksX0_canon_1 11 rfl rfl)
theorem dX0_canon_35 : decode cX0_canon 35 = .ok (.iload 4, 2) := dk_21 4 (dk_at dksX0_canon_1 13 rfl rfl)
theorem dX0_canon_37 : decode cX0_canon 37 = .ok (.bipush 24, 2) := dk_16 24 (dk_at dksX0_canon_1 15 rfl rfl)
theorem dX0_canon_39 : decode cX0_canon 39 = .ok (.if_icmp .gt 33, 3) := dk_163 0 33 (dk_at dksX0_canon_1 17 rfl rfl)
theorem dX0_canon_42 : decode cX0_canon 42 = .ok (.aload_n 0, 1) := dk_42 (dk_at dksX0_canon_1 20 rfl rfl)
theorem dX0_canon_43 : decode cX0_canon 43 = .ok (.iload_n 1, 1) := dk_27 (dk_at dksX0_canon_1 21 rfl rfl)
theorem dX0_canon_44 : decode cX0_canon 44 = .ok (.iload 4, 2) := dk_21 4 (dk_at dksX0_canon_1 22 rfl rfl)
theorem dX0_canon_46 : decode cX0_canon 46 = .ok (.invokevirtual 371, 3) := dk_182 1 115 (dk_at dksX0_canon_2 0 rfl rfl)
theorem dX0_canon_49 : decode cX0_canon 49 = .ok (.ifCond .ne 6, 3) := dk_154 0 6 (dk_at dksX0_canon_2 3 rfl rfl)
theorem dX0_canon_52 : decode cX0_canon 52 = .ok (.goto 14, 3) := dk_167 0 14 (dk_at dksX0_canon_2 6 rfl rfl)
theorem dX0_canon_55 : decode cX0_canon 55 = .ok (.iload_n 3, 1) := dk_29 (dk_at dksX0_canon_2 9 rfl rfl)
theorem dX0_canon_56 : decode cX0_canon 56 = .ok (.iload_n 2, 1) := dk_28 (dk_at dksX0_canon_2 10 rfl rfl)
theorem dX0_canon_57 : decode cX0_canon 57 = .ok (.if_icmp .ne 6, 3) := dk_160 0 6 (dk_at dksX0_canon_2 11 rfl rfl)
theorem dX0_canon_60 : decode cX0_canon 60 = .ok (.iload 4, 2) := dk_21 4 (dk_at dksX0_canon_2 14 rfl rfl)
theorem dX0_canon_62 : decode cX0_canon 62 = .ok (.ireturn, 1) := dk_172 (dk_at dksX0_canon_2 16 rfl rfl)
theorem dX0_canon_63 : decode cX0_canon 63 = .ok (.iinc 3 1, 3) := dk_132 3 1 (dk_at dksX0_canon_2 17 rfl rfl)
theorem dX0_canon_66 : decode cX0_canon 66 = .ok (.iinc 4 1, 3) := dk_132 4 1 (dk_at dksX0_canon_2 20 rfl rfl)
theorem dX0_canon_69 : decode cX0_canon 69 = .ok (.goto (-34), 3) := dk_167 255 222 (dk_at dksX0_canon_3 0 rfl rfl)
theorem dX0_canon_72 : decode cX0_canon 72 = .ok (.iload_n 2, 1) := dk_28 (dk_at dksX0_canon_3 3 rfl rfl)
theorem dX0_canon_73 : decode cX0_canon 73 = .ok (.iconst (-1), 1) := dk_2 (dk_at dksX0_canon_3 4 rfl rfl)
theorem dX0_canon_74 : decode cX0_canon 74 = .ok (.if_icmp .ne 7, 3) := dk_160 0 7 (dk_at dksX0_canon_3 5 rfl rfl)
theorem dX0_canon_77 : decode cX0_canon 77 = .ok (.iload_n 3, 1) := dk_29 (dk_at dksX0_canon_3 8 rfl rfl)
theorem dX0_canon_78 : decode cX0_canon 78 = .ok (.goto 6, 3) := dk_167 0 6 (dk_at dksX0_canon_3 9 rfl rfl)
theorem dX0_canon_81 : decode cX0_canon 81 = .ok (.sipush (-1000), 3) := dk_17 252 24 (dk_at dksX0_canon_3 12 rfl rfl)
theorem dX0_canon_84 : decode cX0_canon 84 = .ok (.ireturn, 1) := dk_172 (dk_at dksX0_canon_3 15 rfl rfl)
abbrev cX0_goesInCanon : ByteArray := prog_1_method_69_code
def yX0_goesInCanon : MethodName := ⟨RX0, "goesInCanon", "(II)Z"⟩
def dkwX0_goesInCanon_3 : List UInt8 := [3, 172, 132, 3, 1, 167, 255, 182, 4, 172]
abbrev dktX0_goesInCanon_3 : List UInt8 := dkwX0_goesInCanon_3 ++ []
def dkwX0_goesInCanon_2 : List UInt8 := [28, 96, 54, 5, 21, 4, 184, 0, 153, 153, 0, 15, 42, 29, 21, 4, 21, 5, 182, 1, 40, 153, 0, 5]
abbrev dktX0_goesInCanon_2 : List UInt8 := dkwX0_goesInCanon_2 ++ dktX0_goesInCanon_3
def dkwX0_goesInCanon_1 : List UInt8 := [54, 4, 29, 27, 160, 0, 7, 2, 167, 0, 18, 42, 182, 0, 157, 180, 0, 160, 29, 27, 100, 4, 100, 46]
abbrev dktX0_goesInCanon_1 : List UInt8 := dkwX0_goesInCanon_1 ++ dktX0_goesInCanon_2
def dkwX0_goesInCanon_0 : List UInt8 := [27, 62, 29, 42, 182, 0, 142, 162, 0, 72, 42, 182, 0, 157, 180, 0, 160, 29, 27, 100, 46, 28, 96]
abbrev dktX0_goesInCanon_0 : List UInt8 := dkwX0_goesInCanon_0 ++ dktX0_goesInCanon_1
theorem dksX0_goesInCanon_0 : cX0_goesInCanon.data.toList.drop 0 = dktX0_goesInCanon_0 := by decide +kernel
theorem dksX0_goesInCanon_1 : cX0_goesInCanon.data.toList.drop 23 = dktX0_goesInCanon_1 := dk_seg dksX0_goesInCanon_0 23 rfl rfl
theorem dksX0_goesInCanon_2 : cX0_goesInCanon.data.toList.drop 47 = dktX0_goesInCanon_2 := dk_seg dksX0_goesInCanon_1 24 rfl rfl
theorem dksX0_goesInCanon_3 : cX0_goesInCanon.data.toList.drop 71 = dktX0_goesInCanon_3 := dk_seg dksX0_goesInCanon_2 24 rfl rfl
theorem dX0_goesInCanon_0 : decode cX0_goesInCanon 0 = .ok (.iload_n 1, 1) := dk_27 (dk_at dksX0_goesInCanon_0 0 rfl rfl)
theorem dX0_goesInCanon_1 : decode cX0_goesInCanon 1 = .ok (.istore_n 3, 1) := dk_62 (dk_at dksX0_goesInCanon_0 1 rfl rfl)
theorem dX0_goesInCanon_2 : decode cX0_goesInCanon 2 = .ok (.iload_n 3, 1) := dk_29 (dk_at dksX0_goesInCanon_0 2 rfl rfl)
theorem dX0_goesInCanon_3 : decode cX0_goesInCanon 3 = .ok (.aload_n 0, 1) := dk_42 (dk_at dksX0_goesInCanon_0 3 rfl rfl)
theorem dX0_goesInCanon_4 : decode cX0_goesInCanon 4 = .ok (.invokevirtual 142, 3) := dk_182 0 142 (dk_at dksX0_goesInCanon_0 4 rfl rfl)
theorem dX0_goesInCanon_7 : decode cX0_goesInCanon 7 = .ok (.if_icmp .ge 72, 3) := dk_162 0 72 (dk_at dksX0_goesInCanon_0 7 rfl rfl)
theorem dX0_goesInCanon_10 : decode cX0_goesInCanon 10 = .ok (.aload_n 0, 1) := dk_42 (dk_at dksX0_goesInCanon_0 10 rfl rfl)
theorem dX0_goesInCanon_11 : decode cX0_goesInCanon 11 = .ok (.invokevirtual 157, 3) := dk_182 0 157 (dk_at dksX0_goesInCanon_0 11 rfl rfl)
theorem dX0_goesInCanon_14 : decode cX0_goesInCanon 14 = .ok (.getfield 160, 3) := dk_180 0 160 (dk_at dksX0_goesInCanon_0 14 rfl rfl)
theorem dX0_goesInCanon_17 : decode cX0_goesInCanon 17 = .ok (.iload_n 3, 1) := dk_29 (dk_at dksX0_goesInCanon_0 17 rfl rfl)
theorem dX0_goesInCanon_18 : decode cX0_goesInCanon 18 = .ok (.iload_n 1, 1) := dk_27 (dk_at dksX0_goesInCanon_0 18 rfl rfl)
theorem dX0_goesInCanon_19 : decode cX0_goesInCanon 19 = .ok (.isub, 1) := dk_100 (dk_at dksX0_goesInCanon_0 19 rfl rfl)
theorem dX0_goesInCanon_20 : decode cX0_goesInCanon 20 = .ok (.iaload, 1) := dk_46 (dk_at dksX0_goesInCanon_0 20 rfl rfl)
theorem dX0_goesInCanon_21 : decode cX0_goesInCanon 21 = .ok (.iload_n 2, 1) := dk_28 (dk_at dksX0_goesInCanon_0 21 rfl rfl)
theorem dX0_goesInCanon_22 : decode cX0_goesInCanon 22 = .ok (.iadd, 1) := dk_96 (dk_at dksX0_goesInCanon_0 22 rfl rfl)
theorem dX0_goesInCanon_23 : decode cX0_goesInCanon 23 = .ok (.istore 4, 2) := dk_54 4 (dk_at dksX0_goesInCanon_1 0 rfl rfl)
theorem dX0_goesInCanon_25 : decode cX0_goesInCanon 25 = .ok (.iload_n 3, 1) := dk_29 (dk_at dksX0_goesInCanon_1 2 rfl rfl)
theorem dX0_goesInCanon_26 : decode cX0_goesInCanon 26 = .ok (.iload_n 1, 1) := dk_27 (dk_at dksX0_goesInCanon_1 3 rfl rfl)
theorem dX0_goesInCanon_27 : decode cX0_goesInCanon 27 = .ok (.if_icmp .ne 7, 3) := dk_160 0 7 (dk_at dksX0_goesInCanon_1 4 rfl rfl)
theorem dX0_goesInCanon_30 : decode cX0_goesInCanon 30 = .ok (.iconst (-1), 1) := dk_2 (dk_at dksX0_goesInCanon_1 7 rfl rfl)
theorem dX0_goesInCanon_31 : decode cX0_goesInCanon 31 = .ok (.goto 18, 3) := dk_167 0 18 (dk_at dksX0_goesInCanon_1 8 rfl rfl)
theorem dX0_goesInCanon_34 : decode cX0_goesInCanon 34 = .ok (.aload_n 0, 1) := dk_42 (dk_at dksX0_goesInCanon_1 11 rfl rfl)
theorem dX0_goesInCanon_35 : decode cX0_goesInCanon 35 = .ok (.invokevirtual 157, 3) := dk_182 0 157 (dk_at dksX0_goesInCanon_1 12 rfl rfl)
theorem dX0_goesInCanon_38 : decode cX0_goesInCanon 38 = .ok (.getfield 160, 3) := dk_180 0 160 (dk_at dksX0_goesInCanon_1 15 rfl rfl)
theorem dX0_goesInCanon_41 : decode cX0_goesInCanon 41 = .ok (.iload_n 3, 1) := dk_29 (dk_at dksX0_goesInCanon_1 18 rfl rfl)
theorem dX0_goesInCanon_42 : decode cX0_goesInCanon 42 = .ok (.iload_n 1, 1) := dk_27 (dk_at dksX0_goesInCanon_1 19 rfl rfl)
theorem dX0_goesInCanon_43 : decode cX0_goesInCanon 43 = .ok (.isub, 1) := dk_100 (dk_at dksX0_goesInCanon_1 20 rfl rfl)
theorem dX0_goesInCanon_44 : decode cX0_goesInCanon 44 = .ok (.iconst 1, 1) := dk_4 (dk_at dksX0_goesInCanon_1 21 rfl rfl)
theorem dX0_goesInCanon_45 : decode cX0_goesInCanon 45 = .ok (.isub, 1) := dk_100 (dk_at dksX0_goesInCanon_1 22 rfl rfl)
theorem dX0_goesInCanon_46 : decode cX0_goesInCanon 46 = .ok (.iaload, 1) := dk_46 (dk_at dksX0_goesInCanon_1 23 rfl rfl)
theorem dX0_goesInCanon_47 : decode cX0_goesInCanon 47 = .ok (.iload_n 2, 1) := dk_28 (dk_at dksX0_goesInCanon_2 0 rfl rfl)
theorem dX0_goesInCanon_48 : decode cX0_goesInCanon 48 = .ok (.iadd, 1) := dk_96 (dk_at dksX0_goesInCanon_2 1 rfl rfl)
theorem dX0_goesInCanon_49 : decode cX0_goesInCanon 49 = .ok (.istore 5, 2) := dk_54 5 (dk_at dksX0_goesInCanon_2 2 rfl rfl)
theorem dX0_goesInCanon_51 : decode cX0_goesInCanon 51 = .ok (.iload 4, 2) := dk_21 4 (dk_at dksX0_goesInCanon_2 4 rfl rfl)
theorem dX0_goesInCanon_53 : decode cX0_goesInCanon 53 = .ok (.invokestatic 153, 3) := dk_184 0 153 (dk_at dksX0_goesInCanon_2 6 rfl rfl)
theorem dX0_goesInCanon_56 : decode cX0_goesInCanon 56 = .ok (.ifCond .eq 15, 3) := dk_153 0 15 (dk_at dksX0_goesInCanon_2 9 rfl rfl)
theorem dX0_goesInCanon_59 : decode cX0_goesInCanon 59 = .ok (.aload_n 0, 1) := dk_42 (dk_at dksX0_goesInCanon_2 12 rfl rfl)
theorem dX0_goesInCanon_60 : decode cX0_goesInCanon 60 = .ok (.iload_n 3, 1) := dk_29 (dk_at dksX0_goesInCanon_2 13 rfl rfl)
theorem dX0_goesInCanon_61 : decode cX0_goesInCanon 61 = .ok (.iload 4, 2) := dk_21 4 (dk_at dksX0_goesInCanon_2 14 rfl rfl)
theorem dX0_goesInCanon_63 : decode cX0_goesInCanon 63 = .ok (.iload 5, 2) := dk_21 5 (dk_at dksX0_goesInCanon_2 16 rfl rfl)
theorem dX0_goesInCanon_65 : decode cX0_goesInCanon 65 = .ok (.invokevirtual 296, 3) := dk_182 1 40 (dk_at dksX0_goesInCanon_2 18 rfl rfl)
theorem dX0_goesInCanon_68 : decode cX0_goesInCanon 68 = .ok (.ifCond .eq 5, 3) := dk_153 0 5 (dk_at dksX0_goesInCanon_2 21 rfl rfl)
theorem dX0_goesInCanon_71 : decode cX0_goesInCanon 71 = .ok (.iconst 0, 1) := dk_3 (dk_at dksX0_goesInCanon_3 0 rfl rfl)
theorem dX0_goesInCanon_72 : decode cX0_goesInCanon 72 = .ok (.ireturn, 1) := dk_172 (dk_at dksX0_goesInCanon_3 1 rfl rfl)
theorem dX0_goesInCanon_73 : decode cX0_goesInCanon 73 = .ok (.iinc 3 1, 3) := dk_132 3 1 (dk_at dksX0_goesInCanon_3 2 rfl rfl)
theorem dX0_goesInCanon_76 : decode cX0_goesInCanon 76 = .ok (.goto (-74), 3) := dk_167 255 182 (dk_at dksX0_goesInCanon_3 5 rfl rfl)
theorem dX0_goesInCanon_79 : decode cX0_goesInCanon 79 = .ok (.iconst 1, 1) := dk_4 (dk_at dksX0_goesInCanon_3 8 rfl rfl)
theorem dX0_goesInCanon_80 : decode cX0_goesInCanon 80 = .ok (.ireturn, 1) := dk_172 (dk_at dksX0_goesInCanon_3 9 rfl rfl)
abbrev cX0_parallels : ByteArray := prog_1_method_71_code
def yX0_parallels : MethodName := ⟨RX0, "parallels", "(I)I"⟩
def dkwX0_parallels_3 : List UInt8 := [167, 0, 4, 3, 128, 61, 132, 3, 1, 167, 255, 195, 28, 172]
abbrev dktX0_parallels_3 : List UInt8 := dkwX0_parallels_3 ++ []
def dkwX0_parallels_2 : List UInt8 := [182, 0, 184, 184, 1, 19, 16, 12, 112, 27, 160, 0, 17, 42, 29, 182, 0, 187, 153, 0, 9, 4, 29, 120]
abbrev dktX0_parallels_2 : List UInt8 := dkwX0_parallels_2 ++ dktX0_parallels_3
def dkwX0_parallels_1 : List UInt8 := [162, 0, 59, 28, 42, 29, 182, 0, 184, 184, 1, 19, 16, 12, 112, 27, 160, 0, 34, 42, 29, 4, 100]
abbrev dktX0_parallels_1 : List UInt8 := dkwX0_parallels_1 ++ dktX0_parallels_2
def dkwX0_parallels_0 : List UInt8 := [27, 133, 9, 20, 1, 113, 184, 0, 5, 154, 0, 5, 2, 172, 3, 61, 4, 62, 29, 42, 182, 0, 142]
abbrev dktX0_parallels_0 : List UInt8 := dkwX0_parallels_0 ++ dktX0_parallels_1
theorem dksX0_parallels_0 : cX0_parallels.data.toList.drop 0 = dktX0_parallels_0 := by decide +kernel
theorem dksX0_parallels_1 : cX0_parallels.data.toList.drop 23 = dktX0_parallels_1 := dk_seg dksX0_parallels_0 23 rfl rfl
theorem dksX0_parallels_2 : cX0_parallels.data.toList.drop 46 = dktX0_parallels_2 := dk_seg dksX0_parallels_1 23 rfl rfl
theorem dksX0_parallels_3 : cX0_parallels.data.toList.drop 70 = dktX0_parallels_3 := dk_seg dksX0_parallels_2 24 rfl rfl
theorem dX0_parallels_0 : decode cX0_parallels 0 = .ok (.iload_n 1, 1) := dk_27 (dk_at dksX0_parallels_0 0 rfl rfl)
theorem dX0_parallels_1 : decode cX0_parallels 1 = .ok (.i2l, 1) := dk_133 (dk_at dksX0_parallels_0 1 rfl rfl)
theorem dX0_parallels_2 : decode cX0_parallels 2 = .ok (.lconst 0, 1) := dk_9 (dk_at dksX0_parallels_0 2 rfl rfl)
theorem dX0_parallels_3 : decode cX0_parallels 3 = .ok (.ldc2_w 369, 3) := dk_20 1 113 (dk_at dksX0_parallels_0 3 rfl rfl)
theorem dX0_parallels_6 : decode cX0_parallels 6 = .ok (.invokestatic 5, 3) := dk_184 0 5 (dk_at dksX0_parallels_0 6 rfl rfl)
theorem dX0_parallels_9 : decode cX0_parallels 9 = .ok (.ifCond .ne 5, 3) := dk_154 0 5 (dk_at dksX0_parallels_0 9 rfl rfl)
theorem dX0_parallels_12 : decode cX0_parallels 12 = .ok (.iconst (-1), 1) := dk_2 (dk_at dksX0_parallels_0 12 rfl rfl)
theorem dX0_parallels_13 : decode cX0_parallels 13 = .ok (.ireturn, 1) := dk_172 (dk_at dksX0_parallels_0 13 rfl rfl)
theorem dX0_parallels_14 : decode cX0_parallels 14 = .ok (.iconst 0, 1) := dk_3 (dk_at dksX0_parallels_0 14 rfl rfl)
theorem dX0_parallels_15 : decode cX0_parallels 15 = .ok (.istore_n 2, 1) := dk_61 (dk_at dksX0_parallels_0 15 rfl rfl)
theorem dX0_parallels_16 : decode cX0_parallels 16 = .ok (.iconst 1, 1) := dk_4 (dk_at dksX0_parallels_0 16 rfl rfl)
theorem dX0_parallels_17 : decode cX0_parallels 17 = .ok (.istore_n 3, 1) := dk_62 (dk_at dksX0_parallels_0 17 rfl rfl)
theorem dX0_parallels_18 : decode cX0_parallels 18 = .ok (.iload_n 3, 1) := dk_29 (dk_at dksX0_parallels_0 18 rfl rfl)
theorem dX0_parallels_19 : decode cX0_parallels 19 = .ok (.aload_n 0, 1) := dk_42 (dk_at dksX0_parallels_0 19 rfl rfl)
theorem dX0_parallels_20 : decode cX0_parallels 20 = .ok (.invokevirtual 142, 3) := dk_182 0 142 (dk_at dksX0_parallels_0 20 rfl rfl)
theorem dX0_parallels_23 : decode cX0_parallels 23 = .ok (.if_icmp .ge 59, 3) := dk_162 0 59 (dk_at dksX0_parallels_1 0 rfl rfl)
theorem dX0_parallels_26 : decode cX0_parallels 26 = .ok (.iload_n 2, 1) := dk_28 (dk_at dksX0_parallels_1 3 rfl rfl)
theorem dX0_parallels_27 : decode cX0_parallels 27 = .ok (.aload_n 0, 1) := dk_42 (dk_at dksX0_parallels_1 4 rfl rfl)
theorem dX0_parallels_28 : decode cX0_parallels 28 = .ok (.iload_n 3, 1) := dk_29 (dk_at dksX0_parallels_1 5 rfl rfl)
theorem dX0_parallels_29 : decode cX0_parallels 29 = .ok (.invokevirtual 184, 3) := dk_182 0 184 (dk_at dksX0_parallels_1 6 rfl rfl)
theorem dX0_parallels_32 : decode cX0_parallels 32 = .ok (.invokestatic 275, 3) := dk_184 1 19 (dk_at dksX0_parallels_1 9 rfl rfl)
theorem dX0_parallels_35 : decode cX0_parallels 35 = .ok (.bipush 12, 2) := dk_16 12 (dk_at dksX0_parallels_1 12 rfl rfl)
theorem dX0_parallels_37 : decode cX0_parallels 37 = .ok (.irem, 1) := dk_112 (dk_at dksX0_parallels_1 14 rfl rfl)
theorem dX0_parallels_38 : decode cX0_parallels 38 = .ok (.iload_n 1, 1) := dk_27 (dk_at dksX0_parallels_1 15 rfl rfl)
theorem dX0_parallels_39 : decode cX0_parallels 39 = .ok (.if_icmp .ne 34, 3) := dk_160 0 34 (dk_at dksX0_parallels_1 16 rfl rfl)
theorem dX0_parallels_42 : decode cX0_parallels 42 = .ok (.aload_n 0, 1) := dk_42 (dk_at dksX0_parallels_1 19 rfl rfl)
theorem dX0_parallels_43 : decode cX0_parallels 43 = .ok (.iload_n 3, 1) := dk_29 (dk_at dksX0_parallels_1 20 rfl rfl)
theorem dX0_parallels_44 : decode cX0_parallels 44 = .ok (.iconst 1, 1) := dk_4 (dk_at dksX0_parallels_1 21 rfl rfl)
theorem dX0_parallels_45 : decode cX0_parallels 45 = .ok (.isub, 1) := dk_100 (dk_at dksX0_parallels_1 22 rfl rfl)
theorem dX0_parallels_46 : decode cX0_parallels 46 = .ok (.invokevirtual 184, 3) := dk_182 0 184 (dk_at dksX0_parallels_2 0 rfl rfl)
theorem dX0_parallels_49 : decode cX0_parallels 49 = .ok (.invokestatic 275, 3) := dk_184 1 19 (dk_at dksX0_parallels_2 3 rfl rfl)
theorem dX0_parallels_52 : decode cX0_parallels 52 = .ok (.bipush 12, 2) := dk_16 12 (dk_at dksX0_parallels_2 6 rfl rfl)
theorem dX0_parallels_54 : decode cX0_parallels 54 = .ok (.irem, 1) := dk_112 (dk_at dksX0_parallels_2 8 rfl rfl)
theorem dX0_parallels_55 : decode cX0_parallels 55 = .ok (.iload_n 1, 1) := dk_27 (dk_at dksX0_parallels_2 9 rfl rfl)
theorem dX0_parallels_56 : decode cX0_parallels 56 = .ok (.if_icmp .ne 17, 3) := dk_160 0 17 (dk_at dksX0_parallels_2 10 rfl rfl)
theorem dX0_parallels_59 : decode cX0_parallels 59 = .ok (.aload_n 0, 1) := dk_42 (dk_at dksX0_parallels_2 13 rfl rfl)
theorem dX0_parallels_60 : decode cX0_parallels 60 = .ok (.iload_n 3, 1) := dk_29 (dk_at dksX0_parallels_2 14 rfl rfl)
theorem dX0_parallels_61 : decode cX0_parallels 61 = .ok (.invokevirtual 187, 3) := dk_182 0 187 (dk_at dksX0_parallels_2 15 rfl rfl)
theorem dX0_parallels_64 : decode cX0_parallels 64 = .ok (.ifCond .eq 9, 3) := dk_153 0 9 (dk_at dksX0_parallels_2 18 rfl rfl)
theorem dX0_parallels_67 : decode cX0_parallels 67 = .ok (.iconst 1, 1) := dk_4 (dk_at dksX0_parallels_2 21 rfl rfl)
theorem dX0_parallels_68 : decode cX0_parallels 68 = .ok (.iload_n 3, 1) := dk_29 (dk_at dksX0_parallels_2 22 rfl rfl)
theorem dX0_parallels_69 : decode cX0_parallels 69 = .ok (.ishl, 1) := dk_120 (dk_at dksX0_parallels_2 23 rfl rfl)
theorem dX0_parallels_70 : decode cX0_parallels 70 = .ok (.goto 4, 3) := dk_167 0 4 (dk_at dksX0_parallels_3 0 rfl rfl)
theorem dX0_parallels_73 : decode cX0_parallels 73 = .ok (.iconst 0, 1) := dk_3 (dk_at dksX0_parallels_3 3 rfl rfl)
theorem dX0_parallels_74 : decode cX0_parallels 74 = .ok (.ior, 1) := dk_128 (dk_at dksX0_parallels_3 4 rfl rfl)
theorem dX0_parallels_75 : decode cX0_parallels 75 = .ok (.istore_n 2, 1) := dk_61 (dk_at dksX0_parallels_3 5 rfl rfl)
theorem dX0_parallels_76 : decode cX0_parallels 76 = .ok (.iinc 3 1, 3) := dk_132 3 1 (dk_at dksX0_parallels_3 6 rfl rfl)
theorem dX0_parallels_79 : decode cX0_parallels 79 = .ok (.goto (-61), 3) := dk_167 255 195 (dk_at dksX0_parallels_3 9 rfl rfl)
theorem dX0_parallels_82 : decode cX0_parallels 82 = .ok (.iload_n 2, 1) := dk_28 (dk_at dksX0_parallels_3 12 rfl rfl)
theorem dX0_parallels_83 : decode cX0_parallels 83 = .ok (.ireturn, 1) := dk_172 (dk_at dksX0_parallels_3 13 rfl rfl)
abbrev cX0_heard : ByteArray := prog_1_method_72_code
def yX0_heard : MethodName := ⟨RX0, "heard", "(II)I"⟩
def dkwX0_heard_4 : List UInt8 := [172]
abbrev dktX0_heard_4 : List UInt8 := dkwX0_heard_4 ++ []
def dkwX0_heard_3 : List UInt8 := [181, 1, 122, 50, 78, 45, 3, 27, 79, 45, 4, 28, 79, 42, 42, 180, 0, 18, 180, 1, 122, 182, 0, 132]
abbrev dktX0_heard_3 : List UInt8 := dkwX0_heard_3 ++ dktX0_heard_4
def dkwX0_heard_2 : List UInt8 := [182, 0, 132, 172, 42, 180, 0, 18, 180, 1, 125, 42, 180, 0, 18, 89, 180, 1, 122, 90, 4, 96]
abbrev dktX0_heard_2 : List UInt8 := dkwX0_heard_2 ++ dktX0_heard_3
def dkwX0_heard_1 : List UInt8 := [154, 0, 9, 42, 2, 182, 0, 132, 172, 42, 180, 0, 18, 180, 1, 122, 16, 6, 160, 0, 10, 42, 16, 251]
abbrev dktX0_heard_1 : List UInt8 := dkwX0_heard_1 ++ dktX0_heard_2
def dkwX0_heard_0 : List UInt8 := [27, 133, 9, 20, 1, 118, 184, 0, 5, 153, 0, 17, 28, 133, 20, 1, 120, 20, 0, 190, 184, 0, 5]
abbrev dktX0_heard_0 : List UInt8 := dkwX0_heard_0 ++ dktX0_heard_1
theorem dksX0_heard_0 : cX0_heard.data.toList.drop 0 = dktX0_heard_0 := by decide +kernel
theorem dksX0_heard_1 : cX0_heard.data.toList.drop 23 = dktX0_heard_1 := dk_seg dksX0_heard_0 23 rfl rfl
theorem dksX0_heard_2 : cX0_heard.data.toList.drop 47 = dktX0_heard_2 := dk_seg dksX0_heard_1 24 rfl rfl
theorem dksX0_heard_3 : cX0_heard.data.toList.drop 69 = dktX0_heard_3 := dk_seg dksX0_heard_2 22 rfl rfl
theorem dksX0_heard_4 : cX0_heard.data.toList.drop 93 = dktX0_heard_4 := dk_seg dksX0_heard_3 24 rfl rfl
theorem dX0_heard_0 : decode cX0_heard 0 = .ok (.iload_n 1, 1) := dk_27 (dk_at dksX0_heard_0 0 rfl rfl)
theorem dX0_heard_1 : decode cX0_heard 1 = .ok (.i2l, 1) := dk_133 (dk_at dksX0_heard_0 1 rfl rfl)
theorem dX0_heard_2 : decode cX0_heard 2 = .ok (.lconst 0, 1) := dk_9 (dk_at dksX0_heard_0 2 rfl rfl)
theorem dX0_heard_3 : decode cX0_heard 3 = .ok (.ldc2_w 374, 3) := dk_20 1 118 (dk_at dksX0_heard_0 3 rfl rfl)
theorem dX0_heard_6 : decode cX0_heard 6 = .ok (.invokestatic 5, 3) := dk_184 0 5 (dk_at dksX0_heard_0 6 rfl rfl)
theorem dX0_heard_9 : decode cX0_heard 9 = .ok (.ifCond .eq 17, 3) := dk_153 0 17 (dk_at dksX0_heard_0 9 rfl rfl)
theorem dX0_heard_12 : decode cX0_heard 12 = .ok (.iload_n 2, 1) := dk_28 (dk_at dksX0_heard_0 12 rfl rfl)
theorem dX0_heard_13 : decode cX0_heard 13 = .ok (.i2l, 1) := dk_133 (dk_at dksX0_heard_0 13 rfl rfl)
theorem dX0_heard_14 : decode cX0_heard 14 = .ok (.ldc2_w 376, 3) := dk_20 1 120 (dk_at dksX0_heard_0 14 rfl rfl)
theorem dX0_heard_17 : decode cX0_heard 17 = .ok (.ldc2_w 190, 3) := dk_20 0 190 (dk_at dksX0_heard_0 17 rfl rfl)
theorem dX0_heard_20 : decode cX0_heard 20 = .ok (.invokestatic 5, 3) := dk_184 0 5 (dk_at dksX0_heard_0 20 rfl rfl)
theorem dX0_heard_23 : decode cX0_heard 23 = .ok (.ifCond .ne 9, 3) := dk_154 0 9 (dk_at dksX0_heard_1 0 rfl rfl)
theorem dX0_heard_26 : decode cX0_heard 26 = .ok (.aload_n 0, 1) := dk_42 (dk_at dksX0_heard_1 3 rfl rfl)
theorem dX0_heard_27 : decode cX0_heard 27 = .ok (.iconst (-1), 1) := dk_2 (dk_at dksX0_heard_1 4 rfl rfl)
theorem dX0_heard_28 : decode cX0_heard 28 = .ok (.invokevirtual 132, 3) := dk_182 0 132 (dk_at dksX0_heard_1 5 rfl rfl)
theorem dX0_heard_31 : decode cX0_heard 31 = .ok (.ireturn, 1) := dk_172 (dk_at dksX0_heard_1 8 rfl rfl)
theorem dX0_heard_32 : decode cX0_heard 32 = .ok (.aload_n 0, 1) := dk_42 (dk_at dksX0_heard_1 9 rfl rfl)
theorem dX0_heard_33 : decode cX0_heard 33 = .ok (.getfield 18, 3) := dk_180 0 18 (dk_at dksX0_heard_1 10 rfl rfl)
theorem dX0_heard_36 : decode cX0_heard 36 = .ok (.getfield 378, 3) := dk_180 1 122 (dk_at dksX0_heard_1 13 rfl rfl)
theorem dX0_heard_39 : decode cX0_heard 39 = .ok (.bipush 6, 2) := dk_16 6 (dk_at dksX0_heard_1 16 rfl rfl)
theorem dX0_heard_41 : decode cX0_heard 41 = .ok (.if_icmp .ne 10, 3) := dk_160 0 10 (dk_at dksX0_heard_1 18 rfl rfl)
theorem dX0_heard_44 : decode cX0_heard 44 = .ok (.aload_n 0, 1) := dk_42 (dk_at dksX0_heard_1 21 rfl rfl)
theorem dX0_heard_45 : decode cX0_heard 45 = .ok (.bipush (-5), 2) := dk_16 251 (dk_at dksX0_heard_1 22 rfl rfl)
theorem dX0_heard_47 : decode cX0_heard 47 = .ok (.invokevirtual 132, 3) := dk_182 0 132 (dk_at dksX0_heard_2 0 rfl rfl)
theorem dX0_heard_50 : decode cX0_heard 50 = .ok (.ireturn, 1) := dk_172 (dk_at dksX0_heard_2 3 rfl rfl)
theorem dX0_heard_51 : decode cX0_heard 51 = .ok (.aload_n 0, 1) := dk_42 (dk_at dksX0_heard_2 4 rfl rfl)
theorem dX0_heard_52 : decode cX0_heard 52 = .ok (.getfield 18, 3) := dk_180 0 18 (dk_at dksX0_heard_2 5 rfl rfl)
theorem dX0_heard_55 : decode cX0_heard 55 = .ok (.getfield 381, 3) := dk_180 1 125 (dk_at dksX0_heard_2 8 rfl rfl)
theorem dX0_heard_58 : decode cX0_heard 58 = .ok (.aload_n 0, 1) := dk_42 (dk_at dksX0_heard_2 11 rfl rfl)
theorem dX0_heard_59 : decode cX0_heard 59 = .ok (.getfield 18, 3) := dk_180 0 18 (dk_at dksX0_heard_2 12 rfl rfl)
theorem dX0_heard_62 : decode cX0_heard 62 = .ok (.dup, 1) := dk_89 (dk_at dksX0_heard_2 15 rfl rfl)
theorem dX0_heard_63 : decode cX0_heard 63 = .ok (.getfield 378, 3) := dk_180 1 122 (dk_at dksX0_heard_2 16 rfl rfl)
theorem dX0_heard_66 : decode cX0_heard 66 = .ok (.dup_x1, 1) := dk_90 (dk_at dksX0_heard_2 19 rfl rfl)
theorem dX0_heard_67 : decode cX0_heard 67 = .ok (.iconst 1, 1) := dk_4 (dk_at dksX0_heard_2 20 rfl rfl)
theorem dX0_heard_68 : decode cX0_heard 68 = .ok (.iadd, 1) := dk_96 (dk_at dksX0_heard_2 21 rfl rfl)
theorem dX0_heard_69 : decode cX0_heard 69 = .ok (.putfield 378, 3) := dk_181 1 122 (dk_at dksX0_heard_3 0 rfl rfl)
theorem dX0_heard_72 : decode cX0_heard 72 = .ok (.aaload, 1) := dk_50 (dk_at dksX0_heard_3 3 rfl rfl)
theorem dX0_heard_73 : decode cX0_heard 73 = .ok (.astore_n 3, 1) := dk_78 (dk_at dksX0_heard_3 4 rfl rfl)
theorem dX0_heard_74 : decode cX0_heard 74 = .ok (.aload_n 3, 1) := dk_45 (dk_at dksX0_heard_3 5 rfl rfl)
theorem dX0_heard_75 : decode cX0_heard 75 = .ok (.iconst 0, 1) := dk_3 (dk_at dksX0_heard_3 6 rfl rfl)
theorem dX0_heard_76 : decode cX0_heard 76 = .ok (.iload_n 1, 1) := dk_27 (dk_at dksX0_heard_3 7 rfl rfl)
theorem dX0_heard_77 : decode cX0_heard 77 = .ok (.iastore, 1) := dk_79 (dk_at dksX0_heard_3 8 rfl rfl)
theorem dX0_heard_78 : decode cX0_heard 78 = .ok (.aload_n 3, 1) := dk_45 (dk_at dksX0_heard_3 9 rfl rfl)
theorem dX0_heard_79 : decode cX0_heard 79 = .ok (.iconst 1, 1) := dk_4 (dk_at dksX0_heard_3 10 rfl rfl)
theorem dX0_heard_80 : decode cX0_heard 80 = .ok (.iload_n 2, 1) := dk_28 (dk_at dksX0_heard_3 11 rfl rfl)
theorem dX0_heard_81 : decode cX0_heard 81 = .ok (.iastore, 1) := dk_79 (dk_at dksX0_heard_3 12 rfl rfl)
theorem dX0_heard_82 : decode cX0_heard 82 = .ok (.aload_n 0, 1) := dk_42 (dk_at dksX0_heard_3 13 rfl rfl)
theorem dX0_heard_83 : decode cX0_heard 83 = .ok (.aload_n 0, 1) := dk_42 (dk_at dksX0_heard_3 14 rfl rfl)
theorem dX0_heard_84 : decode cX0_heard 84 = .ok (.getfield 18, 3) := dk_180 0 18 (dk_at dksX0_heard_3 15 rfl rfl)
theorem dX0_heard_87 : decode cX0_heard 87 = .ok (.getfield 378, 3) := dk_180 1 122 (dk_at dksX0_heard_3 18 rfl rfl)
theorem dX0_heard_90 : decode cX0_heard 90 = .ok (.invokevirtual 132, 3) := dk_182 0 132 (dk_at dksX0_heard_3 21 rfl rfl)
theorem dX0_heard_93 : decode cX0_heard 93 = .ok (.ireturn, 1) := dk_172 (dk_at dksX0_heard_4 0 rfl rfl)
abbrev cX0_forget : ByteArray := prog_1_method_73_code
def yX0_forget : MethodName := ⟨RX0, "forget", "()I"⟩
def dkwX0_forget_0 : List UInt8 := [42, 180, 0, 18, 180, 1, 122, 60, 42, 180, 0, 18, 3, 181, 1, 122, 27, 172]
abbrev dktX0_forget_0 : List UInt8 := dkwX0_forget_0 ++ []
theorem dksX0_forget_0 : cX0_forget.data.toList.drop 0 = dktX0_forget_0 := by decide +kernel
theorem dX0_forget_0 : decode cX0_forget 0 = .ok (.aload_n 0, 1) := dk_42 (dk_at dksX0_forget_0 0 rfl rfl)
theorem dX0_forget_1 : decode cX0_forget 1 = .ok (.getfield 18, 3) := dk_180 0 18 (dk_at dksX0_forget_0 1 rfl rfl)
theorem dX0_forget_4 : decode cX0_forget 4 = .ok (.getfield 378, 3) := dk_180 1 122 (dk_at dksX0_forget_0 4 rfl rfl)
theorem dX0_forget_7 : decode cX0_forget 7 = .ok (.istore_n 1, 1) := dk_60 (dk_at dksX0_forget_0 7 rfl rfl)
theorem dX0_forget_8 : decode cX0_forget 8 = .ok (.aload_n 0, 1) := dk_42 (dk_at dksX0_forget_0 8 rfl rfl)
theorem dX0_forget_9 : decode cX0_forget 9 = .ok (.getfield 18, 3) := dk_180 0 18 (dk_at dksX0_forget_0 9 rfl rfl)
theorem dX0_forget_12 : decode cX0_forget 12 = .ok (.iconst 0, 1) := dk_3 (dk_at dksX0_forget_0 12 rfl rfl)
theorem dX0_forget_13 : decode cX0_forget 13 = .ok (.putfield 378, 3) := dk_181 1 122 (dk_at dksX0_forget_0 13 rfl rfl)
theorem dX0_forget_16 : decode cX0_forget 16 = .ok (.iload_n 1, 1) := dk_27 (dk_at dksX0_forget_0 16 rfl rfl)
theorem dX0_forget_17 : decode cX0_forget 17 = .ok (.ireturn, 1) := dk_172 (dk_at dksX0_forget_0 17 rfl rfl)
abbrev cX0_canBe : ByteArray := prog_1_method_75_code
def yX0_canBe : MethodName := ⟨RX0, "canBe", "()I"⟩
def dkwX0_canBe_4 : List UInt8 := [167, 255, 168, 27, 172]
abbrev dktX0_canBe_4 : List UInt8 := dkwX0_canBe_4 ++ []
def dkwX0_canBe_3 : List UInt8 := [132, 4, 1, 167, 255, 201, 27, 29, 153, 0, 9, 4, 28, 120, 167, 0, 4, 3, 128, 60, 132, 2, 1]
abbrev dktX0_canBe_3 : List UInt8 := dkwX0_canBe_3 ++ dktX0_canBe_4
def dkwX0_canBe_2 : List UInt8 := [42, 180, 0, 18, 180, 1, 125, 21, 4, 50, 4, 46, 160, 0, 7, 4, 167, 0, 4, 3, 126, 62]
abbrev dktX0_canBe_2 : List UInt8 := dkwX0_canBe_2 ++ dktX0_canBe_3
def dkwX0_canBe_1 : List UInt8 := [180, 1, 122, 162, 0, 49, 29, 42, 28, 42, 180, 0, 18, 180, 1, 125, 21, 4, 50, 3, 46, 182, 1, 128]
abbrev dktX0_canBe_1 : List UInt8 := dkwX0_canBe_1 ++ dktX0_canBe_2
def dkwX0_canBe_0 : List UInt8 := [3, 60, 3, 61, 28, 42, 182, 0, 142, 162, 0, 86, 4, 62, 3, 54, 4, 21, 4, 42, 180, 0, 18]
abbrev dktX0_canBe_0 : List UInt8 := dkwX0_canBe_0 ++ dktX0_canBe_1
theorem dksX0_canBe_0 : cX0_canBe.data.toList.drop 0 = dktX0_canBe_0 := by decide +kernel
theorem dksX0_canBe_1 : cX0_canBe.data.toList.drop 23 = dktX0_canBe_1 := dk_seg dksX0_canBe_0 23 rfl rfl
theorem dksX0_canBe_2 : cX0_canBe.data.toList.drop 47 = dktX0_canBe_2 := dk_seg dksX0_canBe_1 24 rfl rfl
theorem dksX0_canBe_3 : cX0_canBe.data.toList.drop 69 = dktX0_canBe_3 := dk_seg dksX0_canBe_2 22 rfl rfl
theorem dksX0_canBe_4 : cX0_canBe.data.toList.drop 92 = dktX0_canBe_4 := dk_seg dksX0_canBe_3 23 rfl rfl
theorem dX0_canBe_0 : decode cX0_canBe 0 = .ok (.iconst 0, 1) := dk_3 (dk_at dksX0_canBe_0 0 rfl rfl)
theorem dX0_canBe_1 : decode cX0_canBe 1 = .ok (.istore_n 1, 1) := dk_60 (dk_at dksX0_canBe_0 1 rfl rfl)
theorem dX0_canBe_2 : decode cX0_canBe 2 = .ok (.iconst 0, 1) := dk_3 (dk_at dksX0_canBe_0 2 rfl rfl)
theorem dX0_canBe_3 : decode cX0_canBe 3 = .ok (.istore_n 2, 1) := dk_61 (dk_at dksX0_canBe_0 3 rfl rfl)
theorem dX0_canBe_4 : decode cX0_canBe 4 = .ok (.iload_n 2, 1) := dk_28 (dk_at dksX0_canBe_0 4 rfl rfl)
theorem dX0_canBe_5 : decode cX0_canBe 5 = .ok (.aload_n 0, 1) := dk_42 (dk_at dksX0_canBe_0 5 rfl rfl)
theorem dX0_canBe_6 : decode cX0_canBe 6 = .ok (.invokevirtual 142, 3) := dk_182 0 142 (dk_at dksX0_canBe_0 6 rfl rfl)
theorem dX0_canBe_9 : decode cX0_canBe 9 = .ok (.if_icmp .ge 86, 3) := dk_162 0 86 (dk_at dksX0_canBe_0 9 rfl rfl)
theorem dX0_canBe_12 : decode cX0_canBe 12 = .ok (.iconst 1, 1) := dk_4 (dk_at dksX0_canBe_0 12 rfl rfl)
theorem dX0_canBe_13 : decode cX0_canBe 13 = .ok (.istore_n 3, 1) := dk_62 (dk_at dksX0_canBe_0 13 rfl rfl)
theorem dX0_canBe_14 : decode cX0_canBe 14 = .ok (.iconst 0, 1) := dk_3 (dk_at dksX0_canBe_0 14 rfl rfl)
theorem dX0_canBe_15 : decode cX0_canBe 15 = .ok (.istore 4, 2) := dk_54 4 (dk_at dksX0_canBe_0 15 rfl rfl)
theorem dX0_canBe_17 : decode cX0_canBe 17 = .ok (.iload 4, 2) := dk_21 4 (dk_at dksX0_canBe_0 17 rfl rfl)
theorem dX0_canBe_19 : decode cX0_canBe 19 = .ok (.aload_n 0, 1) := dk_42 (dk_at dksX0_canBe_0 19 rfl rfl)
theorem dX0_canBe_20 : decode cX0_canBe 20 = .ok (.getfield 18, 3) := dk_180 0 18 (dk_at dksX0_canBe_0 20 rfl rfl)
theorem dX0_canBe_23 : decode cX0_canBe 23 = .ok (.getfield 378, 3) := dk_180 1 122 (dk_at dksX0_canBe_1 0 rfl rfl)
theorem dX0_canBe_26 : decode cX0_canBe 26 = .ok (.if_icmp .ge 49, 3) := dk_162 0 49 (dk_at dksX0_canBe_1 3 rfl rfl)
theorem dX0_canBe_29 : decode cX0_canBe 29 = .ok (.iload_n 3, 1) := dk_29 (dk_at dksX0_canBe_1 6 rfl rfl)
theorem dX0_canBe_30 : decode cX0_canBe 30 = .ok (.aload_n 0, 1) := dk_42 (dk_at dksX0_canBe_1 7 rfl rfl)
theorem dX0_canBe_31 : decode cX0_canBe 31 = .ok (.iload_n 2, 1) := dk_28 (dk_at dksX0_canBe_1 8 rfl rfl)
theorem dX0_canBe_32 : decode cX0_canBe 32 = .ok (.aload_n 0, 1) := dk_42 (dk_at dksX0_canBe_1 9 rfl rfl)
theorem dX0_canBe_33 : decode cX0_canBe 33 = .ok (.getfield 18, 3) := dk_180 0 18 (dk_at dksX0_canBe_1 10 rfl rfl)
theorem dX0_canBe_36 : decode cX0_canBe 36 = .ok (.getfield 381, 3) := dk_180 1 125 (dk_at dksX0_canBe_1 13 rfl rfl)
theorem dX0_canBe_39 : decode cX0_canBe 39 = .ok (.iload 4, 2) := dk_21 4 (dk_at dksX0_canBe_1 16 rfl rfl)
theorem dX0_canBe_41 : decode cX0_canBe 41 = .ok (.aaload, 1) := dk_50 (dk_at dksX0_canBe_1 18 rfl rfl)
theorem dX0_canBe_42 : decode cX0_canBe 42 = .ok (.iconst 0, 1) := dk_3 (dk_at dksX0_canBe_1 19 rfl rfl)
theorem dX0_canBe_43 : decode cX0_canBe 43 = .ok (.iaload, 1) := dk_46 (dk_at dksX0_canBe_1 20 rfl rfl)
theorem dX0_canBe_44 : decode cX0_canBe 44 = .ok (.invokevirtual 384, 3) := dk_182 1 128 (dk_at dksX0_canBe_1 21 rfl rfl)
theorem dX0_canBe_47 : decode cX0_canBe 47 = .ok (.aload_n 0, 1) := dk_42 (dk_at dksX0_canBe_2 0 rfl rfl)
theorem dX0_canBe_48 : decode cX0_canBe 48 = .ok (.getfield 18, 3) := dk_180 0 18 (dk_at dksX0_canBe_2 1 rfl rfl)
theorem dX0_canBe_51 : decode cX0_canBe 51 = .ok (.getfield 381, 3) := dk_180 1 125 (dk_at dksX0_canBe_2 4 rfl rfl)
theorem dX0_canBe_54 : decode cX0_canBe 54 = .ok (.iload 4, 2) := dk_21 4 (dk_at dksX0_canBe_2 7 rfl rfl)
theorem dX0_canBe_56 : decode cX0_canBe 56 = .ok (.aaload, 1) := dk_50 (dk_at dksX0_canBe_2 9 rfl rfl)
theorem dX0_canBe_57 : decode cX0_canBe 57 = .ok (.iconst 1, 1) := dk_4 (dk_at dksX0_canBe_2 10 rfl rfl)
theorem dX0_canBe_58 : decode cX0_canBe 58 = .ok (.iaload, 1) := dk_46 (dk_at dksX0_canBe_2 11 rfl rfl)
theorem dX0_canBe_59 : decode cX0_canBe 59 = .ok (.if_icmp .ne 7, 3) := dk_160 0 7 (dk_at dksX0_canBe_2 12 rfl rfl)
theorem dX0_canBe_62 : decode cX0_canBe 62 = .ok (.iconst 1, 1) := dk_4 (dk_at dksX0_canBe_2 15 rfl rfl)
theorem dX0_canBe_63 : decode cX0_canBe 63 = .ok (.goto 4, 3) := dk_167 0 4 (dk_at dksX0_canBe_2 16 rfl rfl)
theorem dX0_canBe_66 : decode cX0_canBe 66 = .ok (.iconst 0, 1) := dk_3 (dk_at dksX0_canBe_2 19 rfl rfl)
theorem dX0_canBe_67 : decode cX0_canBe 67 = .ok (.iand, 1) := dk_126 (dk_at dksX0_canBe_2 20 rfl rfl)
theorem dX0_canBe_68 : decode cX0_canBe 68 = .ok (.istore_n 3, 1) := dk_62 (dk_at dksX0_canBe_2 21 rfl rfl)
theorem dX0_canBe_69 : decode cX0_canBe 69 = .ok (.iinc 4 1, 3) := dk_132 4 1 (dk_at dksX0_canBe_3 0 rfl rfl)
theorem dX0_canBe_72 : decode cX0_canBe 72 = .ok (.goto (-55), 3) := dk_167 255 201 (dk_at dksX0_canBe_3 3 rfl rfl)
theorem dX0_canBe_75 : decode cX0_canBe 75 = .ok (.iload_n 1, 1) := dk_27 (dk_at dksX0_canBe_3 6 rfl rfl)
theorem dX0_canBe_76 : decode cX0_canBe 76 = .ok (.iload_n 3, 1) := dk_29 (dk_at dksX0_canBe_3 7 rfl rfl)
theorem dX0_canBe_77 : decode cX0_canBe 77 = .ok (.ifCond .eq 9, 3) := dk_153 0 9 (dk_at dksX0_canBe_3 8 rfl rfl)
theorem dX0_canBe_80 : decode cX0_canBe 80 = .ok (.iconst 1, 1) := dk_4 (dk_at dksX0_canBe_3 11 rfl rfl)
theorem dX0_canBe_81 : decode cX0_canBe 81 = .ok (.iload_n 2, 1) := dk_28 (dk_at dksX0_canBe_3 12 rfl rfl)
theorem dX0_canBe_82 : decode cX0_canBe 82 = .ok (.ishl, 1) := dk_120 (dk_at dksX0_canBe_3 13 rfl rfl)
theorem dX0_canBe_83 : decode cX0_canBe 83 = .ok (.goto 4, 3) := dk_167 0 4 (dk_at dksX0_canBe_3 14 rfl rfl)
theorem dX0_canBe_86 : decode cX0_canBe 86 = .ok (.iconst 0, 1) := dk_3 (dk_at dksX0_canBe_3 17 rfl rfl)
theorem dX0_canBe_87 : decode cX0_canBe 87 = .ok (.ior, 1) := dk_128 (dk_at dksX0_canBe_3 18 rfl rfl)
theorem dX0_canBe_88 : decode cX0_canBe 88 = .ok (.istore_n 1, 1) := dk_60 (dk_at dksX0_canBe_3 19 rfl rfl)
theorem dX0_canBe_89 : decode cX0_canBe 89 = .ok (.iinc 2 1, 3) := dk_132 2 1 (dk_at dksX0_canBe_3 20 rfl rfl)
theorem dX0_canBe_92 : decode cX0_canBe 92 = .ok (.goto (-88), 3) := dk_167 255 168 (dk_at dksX0_canBe_4 0 rfl rfl)
theorem dX0_canBe_95 : decode cX0_canBe 95 = .ok (.iload_n 1, 1) := dk_27 (dk_at dksX0_canBe_4 3 rfl rfl)
theorem dX0_canBe_96 : decode cX0_canBe 96 = .ok (.ireturn, 1) := dk_172 (dk_at dksX0_canBe_4 4 rfl rfl)
abbrev cX0_fact : ByteArray := prog_1_method_74_code
def yX0_fact : MethodName := ⟨RX0, "fact", "(II)I"⟩
def dkwX0_fact_2 : List UInt8 := [42, 27, 182, 0, 184, 172, 42, 27, 182, 0, 187, 172, 42, 27, 182, 0, 175, 172, 42, 27, 182, 0, 178, 172]
abbrev dktX0_fact_2 : List UInt8 := dkwX0_fact_2 ++ []
def dkwX0_fact_1 : List UInt8 := [170, 0, 0, 0, 0, 0, 45, 0, 0, 0, 0, 0, 0, 0, 2, 0, 0, 0, 27, 0, 0, 0, 33, 0, 0, 0, 39]
abbrev dktX0_fact_1 : List UInt8 := dkwX0_fact_1 ++ dktX0_fact_2
def dkwX0_fact_0 : List UInt8 := [28]
abbrev dktX0_fact_0 : List UInt8 := dkwX0_fact_0 ++ dktX0_fact_1
theorem dksX0_fact_0 : cX0_fact.data.toList.drop 0 = dktX0_fact_0 := by decide +kernel
theorem dksX0_fact_1 : cX0_fact.data.toList.drop 1 = dktX0_fact_1 := dk_seg dksX0_fact_0 1 rfl rfl
theorem dksX0_fact_2 : cX0_fact.data.toList.drop 28 = dktX0_fact_2 := dk_seg dksX0_fact_1 27 rfl rfl
theorem dX0_fact_0 : decode cX0_fact 0 = .ok (.iload_n 2, 1) := dk_28 (dk_at dksX0_fact_0 0 rfl rfl)
theorem dX0_fact_1 : decode cX0_fact 1 = .ok (.tableswitch 45 0 2 #[27, 33, 39], 27) := by decide +kernel
theorem dX0_fact_28 : decode cX0_fact 28 = .ok (.aload_n 0, 1) := dk_42 (dk_at dksX0_fact_2 0 rfl rfl)
theorem dX0_fact_29 : decode cX0_fact 29 = .ok (.iload_n 1, 1) := dk_27 (dk_at dksX0_fact_2 1 rfl rfl)
theorem dX0_fact_30 : decode cX0_fact 30 = .ok (.invokevirtual 184, 3) := dk_182 0 184 (dk_at dksX0_fact_2 2 rfl rfl)
theorem dX0_fact_33 : decode cX0_fact 33 = .ok (.ireturn, 1) := dk_172 (dk_at dksX0_fact_2 5 rfl rfl)
theorem dX0_fact_34 : decode cX0_fact 34 = .ok (.aload_n 0, 1) := dk_42 (dk_at dksX0_fact_2 6 rfl rfl)
theorem dX0_fact_35 : decode cX0_fact 35 = .ok (.iload_n 1, 1) := dk_27 (dk_at dksX0_fact_2 7 rfl rfl)
theorem dX0_fact_36 : decode cX0_fact 36 = .ok (.invokevirtual 187, 3) := dk_182 0 187 (dk_at dksX0_fact_2 8 rfl rfl)
theorem dX0_fact_39 : decode cX0_fact 39 = .ok (.ireturn, 1) := dk_172 (dk_at dksX0_fact_2 11 rfl rfl)
theorem dX0_fact_40 : decode cX0_fact 40 = .ok (.aload_n 0, 1) := dk_42 (dk_at dksX0_fact_2 12 rfl rfl)
theorem dX0_fact_41 : decode cX0_fact 41 = .ok (.iload_n 1, 1) := dk_27 (dk_at dksX0_fact_2 13 rfl rfl)
theorem dX0_fact_42 : decode cX0_fact 42 = .ok (.invokevirtual 175, 3) := dk_182 0 175 (dk_at dksX0_fact_2 14 rfl rfl)
theorem dX0_fact_45 : decode cX0_fact 45 = .ok (.ireturn, 1) := dk_172 (dk_at dksX0_fact_2 17 rfl rfl)
theorem dX0_fact_46 : decode cX0_fact 46 = .ok (.aload_n 0, 1) := dk_42 (dk_at dksX0_fact_2 18 rfl rfl)
theorem dX0_fact_47 : decode cX0_fact 47 = .ok (.iload_n 1, 1) := dk_27 (dk_at dksX0_fact_2 19 rfl rfl)
theorem dX0_fact_48 : decode cX0_fact 48 = .ok (.invokevirtual 178, 3) := dk_182 0 178 (dk_at dksX0_fact_2 20 rfl rfl)
theorem dX0_fact_51 : decode cX0_fact 51 = .ok (.ireturn, 1) := dk_172 (dk_at dksX0_fact_2 23 rfl rfl)
abbrev cX0_listen : ByteArray := prog_1_method_77_code
def yX0_listen : MethodName := ⟨RX0, "listen", "(I)I"⟩
def dkwX0_listen_3 : List UInt8 := [154, 0, 8, 21, 4, 167, 0, 4, 29, 172]
abbrev dktX0_listen_3 : List UInt8 := dkwX0_listen_3 ++ []
def dkwX0_listen_2 : List UInt8 := [21, 6, 29, 161, 0, 6, 167, 0, 10, 21, 6, 62, 21, 5, 54, 4, 132, 5, 1, 167, 255, 222, 27]
abbrev dktX0_listen_2 : List UInt8 := dkwX0_listen_2 ++ dktX0_listen_3
def dkwX0_listen_1 : List UInt8 := [154, 0, 5, 2, 172, 3, 54, 5, 21, 5, 7, 162, 0, 34, 42, 28, 21, 5, 182, 1, 136, 54, 6]
abbrev dktX0_listen_1 : List UInt8 := dkwX0_listen_1 ++ dktX0_listen_2
def dkwX0_listen_0 : List UInt8 := [42, 182, 1, 133, 61, 19, 1, 84, 62, 2, 54, 4, 27, 133, 9, 10, 184, 0, 5, 153, 0, 7, 28]
abbrev dktX0_listen_0 : List UInt8 := dkwX0_listen_0 ++ dktX0_listen_1
theorem dksX0_listen_0 : cX0_listen.data.toList.drop 0 = dktX0_listen_0 := by decide +kernel
theorem dksX0_listen_1 : cX0_listen.data.toList.drop 23 = dktX0_listen_1 := dk_seg dksX0_listen_0 23 rfl rfl
theorem dksX0_listen_2 : cX0_listen.data.toList.drop 46 = dktX0_listen_2 := dk_seg dksX0_listen_1 23 rfl rfl
theorem dksX0_listen_3 : cX0_listen.data.toList.drop 69 = dktX0_listen_3 := dk_seg dksX0_listen_2 23 rfl rfl
theorem dX0_listen_0 : decode cX0_listen 0 = .ok (.aload_n 0, 1) := dk_42 (dk_at dksX0_listen_0 0 rfl rfl)
theorem dX0_listen_1 : decode cX0_listen 1 = .ok (.invokevirtual 389, 3) := dk_182 1 133 (dk_at dksX0_listen_0 1 rfl rfl)
theorem dX0_listen_4 : decode cX0_listen 4 = .ok (.istore_n 2, 1) := dk_61 (dk_at dksX0_listen_0 4 rfl rfl)
theorem dX0_listen_5 : decode cX0_listen 5 = .ok (.ldc_w 340, 3) := dk_19 1 84 (dk_at dksX0_listen_0 5 rfl rfl)
theorem dX0_listen_8 : decode cX0_listen 8 = .ok (.istore_n 3, 1) := dk_62 (dk_at dksX0_listen_0 8 rfl rfl)
theorem dX0_listen_9 : decode cX0_listen 9 = .ok (.iconst (-1), 1) := dk_2 (dk_at dksX0_listen_0 9 rfl rfl)
theorem dX0_listen_10 : decode cX0_listen 10 = .ok (.istore 4, 2) := dk_54 4 (dk_at dksX0_listen_0 10 rfl rfl)
theorem dX0_listen_12 : decode cX0_listen 12 = .ok (.iload_n 1, 1) := dk_27 (dk_at dksX0_listen_0 12 rfl rfl)
theorem dX0_listen_13 : decode cX0_listen 13 = .ok (.i2l, 1) := dk_133 (dk_at dksX0_listen_0 13 rfl rfl)
theorem dX0_listen_14 : decode cX0_listen 14 = .ok (.lconst 0, 1) := dk_9 (dk_at dksX0_listen_0 14 rfl rfl)
theorem dX0_listen_15 : decode cX0_listen 15 = .ok (.lconst 1, 1) := dk_10 (dk_at dksX0_listen_0 15 rfl rfl)
theorem dX0_listen_16 : decode cX0_listen 16 = .ok (.invokestatic 5, 3) := dk_184 0 5 (dk_at dksX0_listen_0 16 rfl rfl)
theorem dX0_listen_19 : decode cX0_listen 19 = .ok (.ifCond .eq 7, 3) := dk_153 0 7 (dk_at dksX0_listen_0 19 rfl rfl)
theorem dX0_listen_22 : decode cX0_listen 22 = .ok (.iload_n 2, 1) := dk_28 (dk_at dksX0_listen_0 22 rfl rfl)
theorem dX0_listen_23 : decode cX0_listen 23 = .ok (.ifCond .ne 5, 3) := dk_154 0 5 (dk_at dksX0_listen_1 0 rfl rfl)
theorem dX0_listen_26 : decode cX0_listen 26 = .ok (.iconst (-1), 1) := dk_2 (dk_at dksX0_listen_1 3 rfl rfl)
theorem dX0_listen_27 : decode cX0_listen 27 = .ok (.ireturn, 1) := dk_172 (dk_at dksX0_listen_1 4 rfl rfl)
theorem dX0_listen_28 : decode cX0_listen 28 = .ok (.iconst 0, 1) := dk_3 (dk_at dksX0_listen_1 5 rfl rfl)
theorem dX0_listen_29 : decode cX0_listen 29 = .ok (.istore 5, 2) := dk_54 5 (dk_at dksX0_listen_1 6 rfl rfl)
theorem dX0_listen_31 : decode cX0_listen 31 = .ok (.iload 5, 2) := dk_21 5 (dk_at dksX0_listen_1 8 rfl rfl)
theorem dX0_listen_33 : decode cX0_listen 33 = .ok (.iconst 4, 1) := dk_7 (dk_at dksX0_listen_1 10 rfl rfl)
theorem dX0_listen_34 : decode cX0_listen 34 = .ok (.if_icmp .ge 34, 3) := dk_162 0 34 (dk_at dksX0_listen_1 11 rfl rfl)
theorem dX0_listen_37 : decode cX0_listen 37 = .ok (.aload_n 0, 1) := dk_42 (dk_at dksX0_listen_1 14 rfl rfl)
theorem dX0_listen_38 : decode cX0_listen 38 = .ok (.iload_n 2, 1) := dk_28 (dk_at dksX0_listen_1 15 rfl rfl)
theorem dX0_listen_39 : decode cX0_listen 39 = .ok (.iload 5, 2) := dk_21 5 (dk_at dksX0_listen_1 16 rfl rfl)
theorem dX0_listen_41 : decode cX0_listen 41 = .ok (.invokevirtual 392, 3) := dk_182 1 136 (dk_at dksX0_listen_1 18 rfl rfl)
theorem dX0_listen_44 : decode cX0_listen 44 = .ok (.istore 6, 2) := dk_54 6 (dk_at dksX0_listen_1 21 rfl rfl)
theorem dX0_listen_46 : decode cX0_listen 46 = .ok (.iload 6, 2) := dk_21 6 (dk_at dksX0_listen_2 0 rfl rfl)
theorem dX0_listen_48 : decode cX0_listen 48 = .ok (.iload_n 3, 1) := dk_29 (dk_at dksX0_listen_2 2 rfl rfl)
theorem dX0_listen_49 : decode cX0_listen 49 = .ok (.if_icmp .lt 6, 3) := dk_161 0 6 (dk_at dksX0_listen_2 3 rfl rfl)
theorem dX0_listen_52 : decode cX0_listen 52 = .ok (.goto 10, 3) := dk_167 0 10 (dk_at dksX0_listen_2 6 rfl rfl)
theorem dX0_listen_55 : decode cX0_listen 55 = .ok (.iload 6, 2) := dk_21 6 (dk_at dksX0_listen_2 9 rfl rfl)
theorem dX0_listen_57 : decode cX0_listen 57 = .ok (.istore_n 3, 1) := dk_62 (dk_at dksX0_listen_2 11 rfl rfl)
theorem dX0_listen_58 : decode cX0_listen 58 = .ok (.iload 5, 2) := dk_21 5 (dk_at dksX0_listen_2 12 rfl rfl)
theorem dX0_listen_60 : decode cX0_listen 60 = .ok (.istore 4, 2) := dk_54 4 (dk_at dksX0_listen_2 14 rfl rfl)
theorem dX0_listen_62 : decode cX0_listen 62 = .ok (.iinc 5 1, 3) := dk_132 5 1 (dk_at dksX0_listen_2 16 rfl rfl)
theorem dX0_listen_65 : decode cX0_listen 65 = .ok (.goto (-34), 3) := dk_167 255 222 (dk_at dksX0_listen_2 19 rfl rfl)
theorem dX0_listen_68 : decode cX0_listen 68 = .ok (.iload_n 1, 1) := dk_27 (dk_at dksX0_listen_2 22 rfl rfl)
theorem dX0_listen_69 : decode cX0_listen 69 = .ok (.ifCond .ne 8, 3) := dk_154 0 8 (dk_at dksX0_listen_3 0 rfl rfl)
theorem dX0_listen_72 : decode cX0_listen 72 = .ok (.iload 4, 2) := dk_21 4 (dk_at dksX0_listen_3 3 rfl rfl)
theorem dX0_listen_74 : decode cX0_listen 74 = .ok (.goto 4, 3) := dk_167 0 4 (dk_at dksX0_listen_3 5 rfl rfl)
theorem dX0_listen_77 : decode cX0_listen 77 = .ok (.iload_n 3, 1) := dk_29 (dk_at dksX0_listen_3 8 rfl rfl)
theorem dX0_listen_78 : decode cX0_listen 78 = .ok (.ireturn, 1) := dk_172 (dk_at dksX0_listen_3 9 rfl rfl)
abbrev cX0_mostAlike : ByteArray := prog_1_method_76_code
def yX0_mostAlike : MethodName := ⟨RX0, "mostAlike", "(II)I"⟩
def dkwX0_mostAlike_5 : List UInt8 := [184, 1, 90, 62, 132, 4, 1, 167, 255, 171, 29, 172]
abbrev dktX0_mostAlike_5 : List UInt8 := dkwX0_mostAlike_5 ++ []
def dkwX0_mostAlike_4 : List UInt8 := [21, 6, 46, 160, 0, 7, 4, 167, 0, 4, 3, 96, 54, 5, 132, 6, 1, 167, 255, 199, 29, 21, 5]
abbrev dktX0_mostAlike_4 : List UInt8 := dkwX0_mostAlike_4 ++ dktX0_mostAlike_5
def dkwX0_mostAlike_3 : List UInt8 := [153, 0, 33, 27, 21, 6, 184, 1, 131, 153, 0, 24, 42, 180, 0, 111, 21, 4, 46, 42, 180, 0, 111]
abbrev dktX0_mostAlike_3 : List UInt8 := dkwX0_mostAlike_3 ++ dktX0_mostAlike_4
def dkwX0_mostAlike_2 : List UInt8 := [54, 5, 3, 54, 6, 21, 6, 42, 182, 0, 142, 162, 0, 54, 21, 5, 27, 21, 4, 184, 1, 131]
abbrev dktX0_mostAlike_2 : List UInt8 := dkwX0_mostAlike_2 ++ dktX0_mostAlike_3
def dkwX0_mostAlike_1 : List UInt8 := [182, 1, 128, 79, 132, 4, 1, 167, 255, 230, 3, 54, 4, 21, 4, 42, 182, 0, 142, 162, 0, 82, 3]
abbrev dktX0_mostAlike_1 : List UInt8 := dkwX0_mostAlike_1 ++ dktX0_mostAlike_2
def dkwX0_mostAlike_0 : List UInt8 := [3, 62, 3, 54, 4, 21, 4, 42, 182, 0, 142, 162, 0, 23, 42, 180, 0, 111, 21, 4, 42, 21, 4, 28]
abbrev dktX0_mostAlike_0 : List UInt8 := dkwX0_mostAlike_0 ++ dktX0_mostAlike_1
theorem dksX0_mostAlike_0 : cX0_mostAlike.data.toList.drop 0 = dktX0_mostAlike_0 := by decide +kernel
theorem dksX0_mostAlike_1 : cX0_mostAlike.data.toList.drop 24 = dktX0_mostAlike_1 := dk_seg dksX0_mostAlike_0 24 rfl rfl
theorem dksX0_mostAlike_2 : cX0_mostAlike.data.toList.drop 47 = dktX0_mostAlike_2 := dk_seg dksX0_mostAlike_1 23 rfl rfl
theorem dksX0_mostAlike_3 : cX0_mostAlike.data.toList.drop 69 = dktX0_mostAlike_3 := dk_seg dksX0_mostAlike_2 22 rfl rfl
theorem dksX0_mostAlike_4 : cX0_mostAlike.data.toList.drop 92 = dktX0_mostAlike_4 := dk_seg dksX0_mostAlike_3 23 rfl rfl
theorem dksX0_mostAlike_5 : cX0_mostAlike.data.toList.drop 115 = dktX0_mostAlike_5 := dk_seg dksX0_mostAlike_4 23 rfl rfl
theorem dX0_mostAlike_0 : decode cX0_mostAlike 0 = .ok (.iconst 0, 1) := dk_3 (dk_at dksX0_mostAlike_0 0 rfl rfl)
theorem dX0_mostAlike_1 : decode cX0_mostAlike 1 = .ok (.istore_n 3, 1) := dk_62 (dk_at dksX0_mostAlike_0 1 rfl rfl)
theorem dX0_mostAlike_2 : decode cX0_mostAlike 2 = .ok (.iconst 0, 1) := dk_3 (dk_at dksX0_mostAlike_0 2 rfl rfl)
theorem dX0_mostAlike_3 : decode cX0_mostAlike 3 = .ok (.istore 4, 2) := dk_54 4 (dk_at dksX0_mostAlike_0 3 rfl rfl)
theorem dX0_mostAlike_5 : decode cX0_mostAlike 5 = .ok (.iload 4, 2) := dk_21 4 (dk_at dksX0_mostAlike_0 5 rfl rfl)
theorem dX0_mostAlike_7 : decode cX0_mostAlike 7 = .ok (.aload_n 0, 1) := dk_42 (dk_at dksX0_mostAlike_0 7 rfl rfl)
theorem dX0_mostAlike_8 : decode cX0_mostAlike 8 = .ok (.invokevirtual 142, 3) := dk_182 0 142 (dk_at dksX0_mostAlike_0 8 rfl rfl)
theorem dX0_mostAlike_11 : decode cX0_mostAlike 11 = .ok (.if_icmp .ge 23, 3) := dk_162 0 23 (dk_at dksX0_mostAlike_0 11 rfl rfl)
theorem dX0_mostAlike_14 : decode cX0_mostAlike 14 = .ok (.aload_n 0, 1) := dk_42 (dk_at dksX0_mostAlike_0 14 rfl rfl)
theorem dX0_mostAlike_15 : decode cX0_mostAlike 15 = .ok (.getfield 111, 3) := dk_180 0 111 (dk_at dksX0_mostAlike_0 15 rfl rfl)
theorem dX0_mostAlike_18 : decode cX0_mostAlike 18 = .ok (.iload 4, 2) := dk_21 4 (dk_at dksX0_mostAlike_0 18 rfl rfl)
theorem dX0_mostAlike_20 : decode cX0_mostAlike 20 = .ok (.aload_n 0, 1) := dk_42 (dk_at dksX0_mostAlike_0 20 rfl rfl)
theorem dX0_mostAlike_21 : decode cX0_mostAlike 21 = .ok (.iload 4, 2) := dk_21 4 (dk_at dksX0_mostAlike_0 21 rfl rfl)
theorem dX0_mostAlike_23 : decode cX0_mostAlike 23 = .ok (.iload_n 2, 1) := dk_28 (dk_at dksX0_mostAlike_0 23 rfl rfl)
theorem dX0_mostAlike_24 : decode cX0_mostAlike 24 = .ok (.invokevirtual 384, 3) := dk_182 1 128 (dk_at dksX0_mostAlike_1 0 rfl rfl)
theorem dX0_mostAlike_27 : decode cX0_mostAlike 27 = .ok (.iastore, 1) := dk_79 (dk_at dksX0_mostAlike_1 3 rfl rfl)
theorem dX0_mostAlike_28 : decode cX0_mostAlike 28 = .ok (.iinc 4 1, 3) := dk_132 4 1 (dk_at dksX0_mostAlike_1 4 rfl rfl)
theorem dX0_mostAlike_31 : decode cX0_mostAlike 31 = .ok (.goto (-26), 3) := dk_167 255 230 (dk_at dksX0_mostAlike_1 7 rfl rfl)
theorem dX0_mostAlike_34 : decode cX0_mostAlike 34 = .ok (.iconst 0, 1) := dk_3 (dk_at dksX0_mostAlike_1 10 rfl rfl)
theorem dX0_mostAlike_35 : decode cX0_mostAlike 35 = .ok (.istore 4, 2) := dk_54 4 (dk_at dksX0_mostAlike_1 11 rfl rfl)
theorem dX0_mostAlike_37 : decode cX0_mostAlike 37 = .ok (.iload 4, 2) := dk_21 4 (dk_at dksX0_mostAlike_1 13 rfl rfl)
theorem dX0_mostAlike_39 : decode cX0_mostAlike 39 = .ok (.aload_n 0, 1) := dk_42 (dk_at dksX0_mostAlike_1 15 rfl rfl)
theorem dX0_mostAlike_40 : decode cX0_mostAlike 40 = .ok (.invokevirtual 142, 3) := dk_182 0 142 (dk_at dksX0_mostAlike_1 16 rfl rfl)
theorem dX0_mostAlike_43 : decode cX0_mostAlike 43 = .ok (.if_icmp .ge 82, 3) := dk_162 0 82 (dk_at dksX0_mostAlike_1 19 rfl rfl)
theorem dX0_mostAlike_46 : decode cX0_mostAlike 46 = .ok (.iconst 0, 1) := dk_3 (dk_at dksX0_mostAlike_1 22 rfl rfl)
theorem dX0_mostAlike_47 : decode cX0_mostAlike 47 = .ok (.istore 5, 2) := dk_54 5 (dk_at dksX0_mostAlike_2 0 rfl rfl)
theorem dX0_mostAlike_49 : decode cX0_mostAlike 49 = .ok (.iconst 0, 1) := dk_3 (dk_at dksX0_mostAlike_2 2 rfl rfl)
theorem dX0_mostAlike_50 : decode cX0_mostAlike 50 = .ok (.istore 6, 2) := dk_54 6 (dk_at dksX0_mostAlike_2 3 rfl rfl)
theorem dX0_mostAlike_52 : decode cX0_mostAlike 52 = .ok (.iload 6, 2) := dk_21 6 (dk_at dksX0_mostAlike_2 5 rfl rfl)
theorem dX0_mostAlike_54 : decode cX0_mostAlike 54 = .ok (.aload_n 0, 1) := dk_42 (dk_at dksX0_mostAlike_2 7 rfl rfl)
theorem dX0_mostAlike_55 : decode cX0_mostAlike 55 = .ok (.invokevirtual 142, 3) := dk_182 0 142 (dk_at dksX0_mostAlike_2 8 rfl rfl)
theorem dX0_mostAlike_58 : decode cX0_mostAlike 58 = .ok (.if_icmp .ge 54, 3) := dk_162 0 54 (dk_at dksX0_mostAlike_2 11 rfl rfl)
theorem dX0_mostAlike_61 : decode cX0_mostAlike 61 = .ok (.iload 5, 2) := dk_21 5 (dk_at dksX0_mostAlike_2 14 rfl rfl)
theorem dX0_mostAlike_63 : decode cX0_mostAlike 63 = .ok (.iload_n 1, 1) := dk_27 (dk_at dksX0_mostAlike_2 16 rfl rfl)
theorem dX0_mostAlike_64 : decode cX0_mostAlike 64 = .ok (.iload 4, 2) := dk_21 4 (dk_at dksX0_mostAlike_2 17 rfl rfl)
theorem dX0_mostAlike_66 : decode cX0_mostAlike 66 = .ok (.invokestatic 387, 3) := dk_184 1 131 (dk_at dksX0_mostAlike_2 19 rfl rfl)
theorem dX0_mostAlike_69 : decode cX0_mostAlike 69 = .ok (.ifCond .eq 33, 3) := dk_153 0 33 (dk_at dksX0_mostAlike_3 0 rfl rfl)
theorem dX0_mostAlike_72 : decode cX0_mostAlike 72 = .ok (.iload_n 1, 1) := dk_27 (dk_at dksX0_mostAlike_3 3 rfl rfl)
theorem dX0_mostAlike_73 : decode cX0_mostAlike 73 = .ok (.iload 6, 2) := dk_21 6 (dk_at dksX0_mostAlike_3 4 rfl rfl)
theorem dX0_mostAlike_75 : decode cX0_mostAlike 75 = .ok (.invokestatic 387, 3) := dk_184 1 131 (dk_at dksX0_mostAlike_3 6 rfl rfl)
theorem dX0_mostAlike_78 : decode cX0_mostAlike 78 = .ok (.ifCond .eq 24, 3) := dk_153 0 24 (dk_at dksX0_mostAlike_3 9 rfl rfl)
theorem dX0_mostAlike_81 : decode cX0_mostAlike 81 = .ok (.aload_n 0, 1) := dk_42 (dk_at dksX0_mostAlike_3 12 rfl rfl)
theorem dX0_mostAlike_82 : decode cX0_mostAlike 82 = .ok (.getfield 111, 3) := dk_180 0 111 (dk_at dksX0_mostAlike_3 13 rfl rfl)
theorem dX0_mostAlike_85 : decode cX0_mostAlike 85 = .ok (.iload 4, 2) := dk_21 4 (dk_at dksX0_mostAlike_3 16 rfl rfl)
theorem dX0_mostAlike_87 : decode cX0_mostAlike 87 = .ok (.iaload, 1) := dk_46 (dk_at dksX0_mostAlike_3 18 rfl rfl)
theorem dX0_mostAlike_88 : decode cX0_mostAlike 88 = .ok (.aload_n 0, 1) := dk_42 (dk_at dksX0_mostAlike_3 19 rfl rfl)
theorem dX0_mostAlike_89 : decode cX0_mostAlike 89 = .ok (.getfield 111, 3) := dk_180 0 111 (dk_at dksX0_mostAlike_3 20 rfl rfl)
theorem dX0_mostAlike_92 : decode cX0_mostAlike 92 = .ok (.iload 6, 2) := dk_21 6 (dk_at dksX0_mostAlike_4 0 rfl rfl)
theorem dX0_mostAlike_94 : decode cX0_mostAlike 94 = .ok (.iaload, 1) := dk_46 (dk_at dksX0_mostAlike_4 2 rfl rfl)
theorem dX0_mostAlike_95 : decode cX0_mostAlike 95 = .ok (.if_icmp .ne 7, 3) := dk_160 0 7 (dk_at dksX0_mostAlike_4 3 rfl rfl)
theorem dX0_mostAlike_98 : decode cX0_mostAlike 98 = .ok (.iconst 1, 1) := dk_4 (dk_at dksX0_mostAlike_4 6 rfl rfl)
theorem dX0_mostAlike_99 : decode cX0_mostAlike 99 = .ok (.goto 4, 3) := dk_167 0 4 (dk_at dksX0_mostAlike_4 7 rfl rfl)
theorem dX0_mostAlike_102 : decode cX0_mostAlike 102 = .ok (.iconst 0, 1) := dk_3 (dk_at dksX0_mostAlike_4 10 rfl rfl)
theorem dX0_mostAlike_103 : decode cX0_mostAlike 103 = .ok (.iadd, 1) := dk_96 (dk_at dksX0_mostAlike_4 11 rfl rfl)
theorem dX0_mostAlike_104 : decode cX0_mostAlike 104 = .ok (.istore 5, 2) := dk_54 5 (dk_at dksX0_mostAlike_4 12 rfl rfl)
theorem dX0_mostAlike_106 : decode cX0_mostAlike 106 = .ok (.iinc 6 1, 3) := dk_132 6 1 (dk_at dksX0_mostAlike_4 14 rfl rfl)
theorem dX0_mostAlike_109 : decode cX0_mostAlike 109 = .ok (.goto (-57), 3) := dk_167 255 199 (dk_at dksX0_mostAlike_4 17 rfl rfl)
theorem dX0_mostAlike_112 : decode cX0_mostAlike 112 = .ok (.iload_n 3, 1) := dk_29 (dk_at dksX0_mostAlike_4 20 rfl rfl)
theorem dX0_mostAlike_113 : decode cX0_mostAlike 113 = .ok (.iload 5, 2) := dk_21 5 (dk_at dksX0_mostAlike_4 21 rfl rfl)
theorem dX0_mostAlike_115 : decode cX0_mostAlike 115 = .ok (.invokestatic 346, 3) := dk_184 1 90 (dk_at dksX0_mostAlike_5 0 rfl rfl)
theorem dX0_mostAlike_118 : decode cX0_mostAlike 118 = .ok (.istore_n 3, 1) := dk_62 (dk_at dksX0_mostAlike_5 3 rfl rfl)
theorem dX0_mostAlike_119 : decode cX0_mostAlike 119 = .ok (.iinc 4 1, 3) := dk_132 4 1 (dk_at dksX0_mostAlike_5 4 rfl rfl)
theorem dX0_mostAlike_122 : decode cX0_mostAlike 122 = .ok (.goto (-85), 3) := dk_167 255 171 (dk_at dksX0_mostAlike_5 7 rfl rfl)
theorem dX0_mostAlike_125 : decode cX0_mostAlike 125 = .ok (.iload_n 3, 1) := dk_29 (dk_at dksX0_mostAlike_5 10 rfl rfl)
theorem dX0_mostAlike_126 : decode cX0_mostAlike 126 = .ok (.ireturn, 1) := dk_172 (dk_at dksX0_mostAlike_5 11 rfl rfl)
abbrev cX0_has : ByteArray := prog_1_method_2_code
def yX0_has : MethodName := ⟨RX0, "has", "(II)Z"⟩
def dkwX0_has_0 : List UInt8 := [26, 27, 122, 4, 126, 4, 160, 0, 7, 4, 167, 0, 4, 3, 172]
abbrev dktX0_has_0 : List UInt8 := dkwX0_has_0 ++ []
theorem dksX0_has_0 : cX0_has.data.toList.drop 0 = dktX0_has_0 := by decide +kernel
theorem dX0_has_0 : decode cX0_has 0 = .ok (.iload_n 0, 1) := dk_26 (dk_at dksX0_has_0 0 rfl rfl)
theorem dX0_has_1 : decode cX0_has 1 = .ok (.iload_n 1, 1) := dk_27 (dk_at dksX0_has_0 1 rfl rfl)
theorem dX0_has_2 : decode cX0_has 2 = .ok (.ishr, 1) := dk_122 (dk_at dksX0_has_0 2 rfl rfl)
theorem dX0_has_3 : decode cX0_has 3 = .ok (.iconst 1, 1) := dk_4 (dk_at dksX0_has_0 3 rfl rfl)
theorem dX0_has_4 : decode cX0_has 4 = .ok (.iand, 1) := dk_126 (dk_at dksX0_has_0 4 rfl rfl)
theorem dX0_has_5 : decode cX0_has 5 = .ok (.iconst 1, 1) := dk_4 (dk_at dksX0_has_0 5 rfl rfl)
theorem dX0_has_6 : decode cX0_has 6 = .ok (.if_icmp .ne 7, 3) := dk_160 0 7 (dk_at dksX0_has_0 6 rfl rfl)
theorem dX0_has_9 : decode cX0_has 9 = .ok (.iconst 1, 1) := dk_4 (dk_at dksX0_has_0 9 rfl rfl)
theorem dX0_has_10 : decode cX0_has 10 = .ok (.goto 4, 3) := dk_167 0 4 (dk_at dksX0_has_0 10 rfl rfl)
theorem dX0_has_13 : decode cX0_has 13 = .ok (.iconst 0, 1) := dk_3 (dk_at dksX0_has_0 13 rfl rfl)
theorem dX0_has_14 : decode cX0_has 14 = .ok (.ireturn, 1) := dk_172 (dk_at dksX0_has_0 14 rfl rfl)
abbrev cX0_few : ByteArray := prog_1_method_78_code
def yX0_few : MethodName := ⟨RX0, "few", "(II)J"⟩
def dkwX0_few_6 : List UInt8 := [132, 7, 1, 167, 255, 238, 22, 5, 173]
abbrev dktX0_few_6 : List UInt8 := dkwX0_few_6 ++ []
def dkwX0_few_5 : List UInt8 := [167, 255, 191, 9, 55, 5, 3, 54, 7, 21, 7, 27, 162, 0, 18, 22, 5, 45, 21, 7, 47, 97, 55, 5]
abbrev dktX0_few_5 : List UInt8 := dkwX0_few_5 ++ dktX0_few_6
def dkwX0_few_4 : List UInt8 := [47, 16, 10, 21, 4, 100, 133, 105, 20, 0, 192, 109, 80, 132, 6, 255, 167, 255, 208, 132, 5, 1]
abbrev dktX0_few_4 : List UInt8 := dkwX0_few_4 ++ dktX0_few_5
def dkwX0_few_3 : List UInt8 := [4, 96, 92, 47, 45, 21, 6, 47, 21, 4, 133, 105, 20, 0, 192, 109, 97, 80, 45, 21, 6, 45, 21, 6]
abbrev dktX0_few_3 : List UInt8 := dkwX0_few_3 ++ dktX0_few_4
def dkwX0_few_2 : List UInt8 := [54, 4, 3, 54, 5, 21, 5, 28, 162, 0, 65, 27, 4, 100, 54, 6, 21, 6, 155, 0, 49, 45, 21, 6]
abbrev dktX0_few_2 : List UInt8 := dkwX0_few_2 ++ dktX0_few_3
def dkwX0_few_1 : List UInt8 := [20, 1, 143, 173, 16, 21, 188, 11, 78, 45, 3, 20, 1, 145, 80, 42, 180, 0, 18, 180, 0, 199, 4, 46]
abbrev dktX0_few_1 : List UInt8 := dkwX0_few_1 ++ dktX0_few_2
def dkwX0_few_0 : List UInt8 := [27, 133, 10, 20, 1, 139, 184, 0, 5, 153, 0, 15, 28, 133, 9, 20, 1, 141, 184, 0, 5, 154, 0, 7]
abbrev dktX0_few_0 : List UInt8 := dkwX0_few_0 ++ dktX0_few_1
theorem dksX0_few_0 : cX0_few.data.toList.drop 0 = dktX0_few_0 := by decide +kernel
theorem dksX0_few_1 : cX0_few.data.toList.drop 24 = dktX0_few_1 := dk_seg dksX0_few_0 24 rfl rfl
theorem dksX0_few_2 : cX0_few.data.toList.drop 48 = dktX0_few_2 := dk_seg dksX0_few_1 24 rfl rfl
theorem dksX0_few_3 : cX0_few.data.toList.drop 72 = dktX0_few_3 := dk_seg dksX0_few_2 24 rfl rfl
theorem dksX0_few_4 : cX0_few.data.toList.drop 96 = dktX0_few_4 := dk_seg dksX0_few_3 24 rfl rfl
theorem dksX0_few_5 : cX0_few.data.toList.drop 118 = dktX0_few_5 := dk_seg dksX0_few_4 22 rfl rfl
theorem dksX0_few_6 : cX0_few.data.toList.drop 142 = dktX0_few_6 := dk_seg dksX0_few_5 24 rfl rfl
theorem dX0_few_0 : decode cX0_few 0 = .ok (.iload_n 1, 1) := dk_27 (dk_at dksX0_few_0 0 rfl rfl)
theorem dX0_few_1 : decode cX0_few 1 = .ok (.i2l, 1) := dk_133 (dk_at dksX0_few_0 1 rfl rfl)
theorem dX0_few_2 : decode cX0_few 2 = .ok (.lconst 1, 1) := dk_10 (dk_at dksX0_few_0 2 rfl rfl)
theorem dX0_few_3 : decode cX0_few 3 = .ok (.ldc2_w 395, 3) := dk_20 1 139 (dk_at dksX0_few_0 3 rfl rfl)
theorem dX0_few_6 : decode cX0_few 6 = .ok (.invokestatic 5, 3) := dk_184 0 5 (dk_at dksX0_few_0 6 rfl rfl)
theorem dX0_few_9 : decode cX0_few 9 = .ok (.ifCond .eq 15, 3) := dk_153 0 15 (dk_at dksX0_few_0 9 rfl rfl)
theorem dX0_few_12 : decode cX0_few 12 = .ok (.iload_n 2, 1) := dk_28 (dk_at dksX0_few_0 12 rfl rfl)
theorem dX0_few_13 : decode cX0_few 13 = .ok (.i2l, 1) := dk_133 (dk_at dksX0_few_0 13 rfl rfl)
theorem dX0_few_14 : decode cX0_few 14 = .ok (.lconst 0, 1) := dk_9 (dk_at dksX0_few_0 14 rfl rfl)
theorem dX0_few_15 : decode cX0_few 15 = .ok (.ldc2_w 397, 3) := dk_20 1 141 (dk_at dksX0_few_0 15 rfl rfl)
theorem dX0_few_18 : decode cX0_few 18 = .ok (.invokestatic 5, 3) := dk_184 0 5 (dk_at dksX0_few_0 18 rfl rfl)
theorem dX0_few_21 : decode cX0_few 21 = .ok (.ifCond .ne 7, 3) := dk_154 0 7 (dk_at dksX0_few_0 21 rfl rfl)
theorem dX0_few_24 : decode cX0_few 24 = .ok (.ldc2_w 399, 3) := dk_20 1 143 (dk_at dksX0_few_1 0 rfl rfl)
theorem dX0_few_27 : decode cX0_few 27 = .ok (.lreturn, 1) := dk_173 (dk_at dksX0_few_1 3 rfl rfl)
theorem dX0_few_28 : decode cX0_few 28 = .ok (.bipush 21, 2) := dk_16 21 (dk_at dksX0_few_1 4 rfl rfl)
theorem dX0_few_30 : decode cX0_few 30 = .ok (.newarray .long, 2) := dk_188_11 (dk_at dksX0_few_1 6 rfl rfl)
theorem dX0_few_32 : decode cX0_few 32 = .ok (.astore_n 3, 1) := dk_78 (dk_at dksX0_few_1 8 rfl rfl)
theorem dX0_few_33 : decode cX0_few 33 = .ok (.aload_n 3, 1) := dk_45 (dk_at dksX0_few_1 9 rfl rfl)
theorem dX0_few_34 : decode cX0_few 34 = .ok (.iconst 0, 1) := dk_3 (dk_at dksX0_few_1 10 rfl rfl)
theorem dX0_few_35 : decode cX0_few 35 = .ok (.ldc2_w 401, 3) := dk_20 1 145 (dk_at dksX0_few_1 11 rfl rfl)
theorem dX0_few_38 : decode cX0_few 38 = .ok (.lastore, 1) := dk_80 (dk_at dksX0_few_1 14 rfl rfl)
theorem dX0_few_39 : decode cX0_few 39 = .ok (.aload_n 0, 1) := dk_42 (dk_at dksX0_few_1 15 rfl rfl)
theorem dX0_few_40 : decode cX0_few 40 = .ok (.getfield 18, 3) := dk_180 0 18 (dk_at dksX0_few_1 16 rfl rfl)
theorem dX0_few_43 : decode cX0_few 43 = .ok (.getfield 199, 3) := dk_180 0 199 (dk_at dksX0_few_1 19 rfl rfl)
theorem dX0_few_46 : decode cX0_few 46 = .ok (.iconst 1, 1) := dk_4 (dk_at dksX0_few_1 22 rfl rfl)
theorem dX0_few_47 : decode cX0_few 47 = .ok (.iaload, 1) := dk_46 (dk_at dksX0_few_1 23 rfl rfl)
theorem dX0_few_48 : decode cX0_few 48 = .ok (.istore 4, 2) := dk_54 4 (dk_at dksX0_few_2 0 rfl rfl)
theorem dX0_few_50 : decode cX0_few 50 = .ok (.iconst 0, 1) := dk_3 (dk_at dksX0_few_2 2 rfl rfl)
theorem dX0_few_51 : decode cX0_few 51 = .ok (.istore 5, 2) := dk_54 5 (dk_at dksX0_few_2 3 rfl rfl)
theorem dX0_few_53 : decode cX0_few 53 = .ok (.iload 5, 2) := dk_21 5 (dk_at dksX0_few_2 5 rfl rfl)
theorem dX0_few_55 : decode cX0_few 55 = .ok (.iload_n 2, 1) := dk_28 (dk_at dksX0_few_2 7 rfl rfl)
theorem dX0_few_56 : decode cX0_few 56 = .ok (.if_icmp .ge 65, 3) := dk_162 0 65 (dk_at dksX0_few_2 8 rfl rfl)
theorem dX0_few_59 : decode cX0_few 59 = .ok (.iload_n 1, 1) := dk_27 (dk_at dksX0_few_2 11 rfl rfl)
theorem dX0_few_60 : decode cX0_few 60 = .ok (.iconst 1, 1) := dk_4 (dk_at dksX0_few_2 12 rfl rfl)
theorem dX0_few_61 : decode cX0_few 61 = .ok (.isub, 1) := dk_100 (dk_at dksX0_few_2 13 rfl rfl)
theorem dX0_few_62 : decode cX0_few 62 = .ok (.istore 6, 2) := dk_54 6 (dk_at dksX0_few_2 14 rfl rfl)
theorem dX0_few_64 : decode cX0_few 64 = .ok (.iload 6, 2) := dk_21 6 (dk_at dksX0_few_2 16 rfl rfl)
theorem dX0_few_66 : decode cX0_few 66 = .ok (.ifCond .lt 49, 3) := dk_155 0 49 (dk_at dksX0_few_2 18 rfl rfl)
theorem dX0_few_69 : decode cX0_few 69 = .ok (.aload_n 3, 1) := dk_45 (dk_at dksX0_few_2 21 rfl rfl)
theorem dX0_few_70 : decode cX0_few 70 = .ok (.iload 6, 2) := dk_21 6 (dk_at dksX0_few_2 22 rfl rfl)
theorem dX0_few_72 : decode cX0_few 72 = .ok (.iconst 1, 1) := dk_4 (dk_at dksX0_few_3 0 rfl rfl)
theorem dX0_few_73 : decode cX0_few 73 = .ok (.iadd, 1) := dk_96 (dk_at dksX0_few_3 1 rfl rfl)
theorem dX0_few_74 : decode cX0_few 74 = .ok (.dup2, 1) := dk_92 (dk_at dksX0_few_3 2 rfl rfl)
theorem dX0_few_75 : decode cX0_few 75 = .ok (.laload, 1) := dk_47 (dk_at dksX0_few_3 3 rfl rfl)
theorem dX0_few_76 : decode cX0_few 76 = .ok (.aload_n 3, 1) := dk_45 (dk_at dksX0_few_3 4 rfl rfl)
theorem dX0_few_77 : decode cX0_few 77 = .ok (.iload 6, 2) := dk_21 6 (dk_at dksX0_few_3 5 rfl rfl)
theorem dX0_few_79 : decode cX0_few 79 = .ok (.laload, 1) := dk_47 (dk_at dksX0_few_3 7 rfl rfl)
theorem dX0_few_80 : decode cX0_few 80 = .ok (.iload 4, 2) := dk_21 4 (dk_at dksX0_few_3 8 rfl rfl)
theorem dX0_few_82 : decode cX0_few 82 = .ok (.i2l, 1) := dk_133 (dk_at dksX0_few_3 10 rfl rfl)
theorem dX0_few_83 : decode cX0_few 83 = .ok (.lmul, 1) := dk_105 (dk_at dksX0_few_3 11 rfl rfl)
theorem dX0_few_84 : decode cX0_few 84 = .ok (.ldc2_w 192, 3) := dk_20 0 192 (dk_at dksX0_few_3 12 rfl rfl)
theorem dX0_few_87 : decode cX0_few 87 = .ok (.ldiv, 1) := dk_109 (dk_at dksX0_few_3 15 rfl rfl)
theorem dX0_few_88 : decode cX0_few 88 = .ok (.ladd, 1) := dk_97 (dk_at dksX0_few_3 16 rfl rfl)
theorem dX0_few_89 : decode cX0_few 89 = .ok (.lastore, 1) := dk_80 (dk_at dksX0_few_3 17 rfl rfl)
theorem dX0_few_90 : decode cX0_few 90 = .ok (.aload_n 3, 1) := dk_45 (dk_at dksX0_few_3 18 rfl rfl)
theorem dX0_few_91 : decode cX0_few 91 = .ok (.iload 6, 2) := dk_21 6 (dk_at dksX0_few_3 19 rfl rfl)
theorem dX0_few_93 : decode cX0_few 93 = .ok (.aload_n 3, 1) := dk_45 (dk_at dksX0_few_3 21 rfl rfl)
theorem dX0_few_94 : decode cX0_few 94 = .ok (.iload 6, 2) := dk_21 6 (dk_at dksX0_few_3 22 rfl rfl)
theorem dX0_few_96 : decode cX0_few 96 = .ok (.laload, 1) := dk_47 (dk_at dksX0_few_4 0 rfl rfl)
theorem dX0_few_97 : decode cX0_few 97 = .ok (.bipush 10, 2) := dk_16 10 (dk_at dksX0_few_4 1 rfl rfl)
theorem dX0_few_99 : decode cX0_few 99 = .ok (.iload 4, 2) := dk_21 4 (dk_at dksX0_few_4 3 rfl rfl)
theorem dX0_few_101 : decode cX0_few 101 = .ok (.isub, 1) := dk_100 (dk_at dksX0_few_4 5 rfl rfl)
theorem dX0_few_102 : decode cX0_few 102 = .ok (.i2l, 1) := dk_133 (dk_at dksX0_few_4 6 rfl rfl)
theorem dX0_few_103 : decode cX0_few 103 = .ok (.lmul, 1) := dk_105 (dk_at dksX0_few_4 7 rfl rfl)
theorem dX0_few_104 : decode cX0_few 104 = .ok (.ldc2_w 192, 3) := dk_20 0 192 (dk_at dksX0_few_4 8 rfl rfl)
theorem dX0_few_107 : decode cX0_few 107 = .ok (.ldiv, 1) := dk_109 (dk_at dksX0_few_4 11 rfl rfl)
theorem dX0_few_108 : decode cX0_few 108 = .ok (.lastore, 1) := dk_80 (dk_at dksX0_few_4 12 rfl rfl)
theorem dX0_few_109 : decode cX0_few 109 = .ok (.iinc 6 (-1), 3) := dk_132 6 255 (dk_at dksX0_few_4 13 rfl rfl)
theorem dX0_few_112 : decode cX0_few 112 = .ok (.goto (-48), 3) := dk_167 255 208 (dk_at dksX0_few_4 16 rfl rfl)
theorem dX0_few_115 : decode cX0_few 115 = .ok (.iinc 5 1, 3) := dk_132 5 1 (dk_at dksX0_few_4 19 rfl rfl)
theorem dX0_few_118 : decode cX0_few 118 = .ok (.goto (-65), 3) := dk_167 255 191 (dk_at dksX0_few_5 0 rfl rfl)
theorem dX0_few_121 : decode cX0_few 121 = .ok (.lconst 0, 1) := dk_9 (dk_at dksX0_few_5 3 rfl rfl)
theorem dX0_few_122 : decode cX0_few 122 = .ok (.lstore 5, 2) := dk_55 5 (dk_at dksX0_few_5 4 rfl rfl)
theorem dX0_few_124 : decode cX0_few 124 = .ok (.iconst 0, 1) := dk_3 (dk_at dksX0_few_5 6 rfl rfl)
theorem dX0_few_125 : decode cX0_few 125 = .ok (.istore 7, 2) := dk_54 7 (dk_at dksX0_few_5 7 rfl rfl)
theorem dX0_few_127 : decode cX0_few 127 = .ok (.iload 7, 2) := dk_21 7 (dk_at dksX0_few_5 9 rfl rfl)
theorem dX0_few_129 : decode cX0_few 129 = .ok (.iload_n 1, 1) := dk_27 (dk_at dksX0_few_5 11 rfl rfl)
theorem dX0_few_130 : decode cX0_few 130 = .ok (.if_icmp .ge 18, 3) := dk_162 0 18 (dk_at dksX0_few_5 12 rfl rfl)
theorem dX0_few_133 : decode cX0_few 133 = .ok (.lload 5, 2) := dk_22 5 (dk_at dksX0_few_5 15 rfl rfl)
theorem dX0_few_135 : decode cX0_few 135 = .ok (.aload_n 3, 1) := dk_45 (dk_at dksX0_few_5 17 rfl rfl)
theorem dX0_few_136 : decode cX0_few 136 = .ok (.iload 7, 2) := dk_21 7 (dk_at dksX0_few_5 18 rfl rfl)
theorem dX0_few_138 : decode cX0_few 138 = .ok (.laload, 1) := dk_47 (dk_at dksX0_few_5 20 rfl rfl)
theorem dX0_few_139 : decode cX0_few 139 = .ok (.ladd, 1) := dk_97 (dk_at dksX0_few_5 21 rfl rfl)
theorem dX0_few_140 : decode cX0_few 140 = .ok (.lstore 5, 2) := dk_55 5 (dk_at dksX0_few_5 22 rfl rfl)
theorem dX0_few_142 : decode cX0_few 142 = .ok (.iinc 7 1, 3) := dk_132 7 1 (dk_at dksX0_few_6 0 rfl rfl)
theorem dX0_few_145 : decode cX0_few 145 = .ok (.goto (-18), 3) := dk_167 255 238 (dk_at dksX0_few_6 3 rfl rfl)
theorem dX0_few_148 : decode cX0_few 148 = .ok (.lload 5, 2) := dk_22 5 (dk_at dksX0_few_6 6 rfl rfl)
theorem dX0_few_150 : decode cX0_few 150 = .ok (.lreturn, 1) := dk_173 (dk_at dksX0_few_6 8 rfl rfl)
abbrev cX0_orders : ByteArray := prog_1_method_80_code
def yX0_orders : MethodName := ⟨RX0, "orders", "()I"⟩
def dkwX0_orders_5 : List UInt8 := [87, 42, 180, 0, 29, 42, 180, 0, 33, 182, 1, 164, 42, 28, 182, 0, 132, 172]
abbrev dktX0_orders_5 : List UInt8 := dkwX0_orders_5 ++ []
def dkwX0_orders_4 : List UInt8 := [181, 1, 167, 42, 43, 182, 1, 170, 61, 28, 156, 0, 26, 42, 182, 0, 157, 42, 180, 0, 39, 182, 1, 73]
abbrev dktX0_orders_4 : List UInt8 := dkwX0_orders_4 ++ dktX0_orders_5
def dkwX0_orders_3 : List UInt8 := [182, 1, 73, 87, 42, 180, 0, 33, 42, 180, 0, 29, 182, 1, 164, 42, 3, 181, 1, 155, 42, 2]
abbrev dktX0_orders_3 : List UInt8 := dkwX0_orders_3 ++ dktX0_orders_4
def dkwX0_orders_2 : List UInt8 := [181, 0, 146, 29, 172, 58, 4, 42, 3, 181, 0, 146, 25, 4, 191, 42, 180, 0, 39, 42, 182, 0, 157]
abbrev dktX0_orders_2 : List UInt8 := dkwX0_orders_2 ++ dktX0_orders_3
def dkwX0_orders_1 : List UInt8 := [181, 0, 146, 167, 0, 36, 77, 42, 44, 180, 0, 251, 181, 0, 71, 42, 16, 250, 182, 0, 132, 62, 42, 3]
abbrev dktX0_orders_1 : List UInt8 := dkwX0_orders_1 ++ dktX0_orders_2
def dkwX0_orders_0 : List UInt8 := [42, 2, 181, 0, 75, 187, 1, 158, 89, 42, 183, 1, 160, 182, 1, 161, 76, 42, 2, 181, 0, 71, 42, 3]
abbrev dktX0_orders_0 : List UInt8 := dkwX0_orders_0 ++ dktX0_orders_1
theorem dksX0_orders_0 : cX0_orders.data.toList.drop 0 = dktX0_orders_0 := by decide +kernel
theorem dksX0_orders_1 : cX0_orders.data.toList.drop 24 = dktX0_orders_1 := dk_seg dksX0_orders_0 24 rfl rfl
theorem dksX0_orders_2 : cX0_orders.data.toList.drop 48 = dktX0_orders_2 := dk_seg dksX0_orders_1 24 rfl rfl
theorem dksX0_orders_3 : cX0_orders.data.toList.drop 71 = dktX0_orders_3 := dk_seg dksX0_orders_2 23 rfl rfl
theorem dksX0_orders_4 : cX0_orders.data.toList.drop 93 = dktX0_orders_4 := dk_seg dksX0_orders_3 22 rfl rfl
theorem dksX0_orders_5 : cX0_orders.data.toList.drop 117 = dktX0_orders_5 := dk_seg dksX0_orders_4 24 rfl rfl
theorem dX0_orders_0 : decode cX0_orders 0 = .ok (.aload_n 0, 1) := dk_42 (dk_at dksX0_orders_0 0 rfl rfl)
theorem dX0_orders_1 : decode cX0_orders 1 = .ok (.iconst (-1), 1) := dk_2 (dk_at dksX0_orders_0 1 rfl rfl)
theorem dX0_orders_2 : decode cX0_orders 2 = .ok (.putfield 75, 3) := dk_181 0 75 (dk_at dksX0_orders_0 2 rfl rfl)
theorem dX0_orders_5 : decode cX0_orders 5 = .ok (.new 414, 3) := dk_187 1 158 (dk_at dksX0_orders_0 5 rfl rfl)
theorem dX0_orders_8 : decode cX0_orders 8 = .ok (.dup, 1) := dk_89 (dk_at dksX0_orders_0 8 rfl rfl)
theorem dX0_orders_9 : decode cX0_orders 9 = .ok (.aload_n 0, 1) := dk_42 (dk_at dksX0_orders_0 9 rfl rfl)
theorem dX0_orders_10 : decode cX0_orders 10 = .ok (.invokespecial 416, 3) := dk_183 1 160 (dk_at dksX0_orders_0 10 rfl rfl)
theorem dX0_orders_13 : decode cX0_orders 13 = .ok (.invokevirtual 417, 3) := dk_182 1 161 (dk_at dksX0_orders_0 13 rfl rfl)
theorem dX0_orders_16 : decode cX0_orders 16 = .ok (.astore_n 1, 1) := dk_76 (dk_at dksX0_orders_0 16 rfl rfl)
theorem dX0_orders_17 : decode cX0_orders 17 = .ok (.aload_n 0, 1) := dk_42 (dk_at dksX0_orders_0 17 rfl rfl)
theorem dX0_orders_18 : decode cX0_orders 18 = .ok (.iconst (-1), 1) := dk_2 (dk_at dksX0_orders_0 18 rfl rfl)
theorem dX0_orders_19 : decode cX0_orders 19 = .ok (.putfield 71, 3) := dk_181 0 71 (dk_at dksX0_orders_0 19 rfl rfl)
theorem dX0_orders_22 : decode cX0_orders 22 = .ok (.aload_n 0, 1) := dk_42 (dk_at dksX0_orders_0 22 rfl rfl)
theorem dX0_orders_23 : decode cX0_orders 23 = .ok (.iconst 0, 1) := dk_3 (dk_at dksX0_orders_0 23 rfl rfl)
theorem dX0_orders_24 : decode cX0_orders 24 = .ok (.putfield 146, 3) := dk_181 0 146 (dk_at dksX0_orders_1 0 rfl rfl)
theorem dX0_orders_27 : decode cX0_orders 27 = .ok (.goto 36, 3) := dk_167 0 36 (dk_at dksX0_orders_1 3 rfl rfl)
theorem dX0_orders_30 : decode cX0_orders 30 = .ok (.astore_n 2, 1) := dk_77 (dk_at dksX0_orders_1 6 rfl rfl)
theorem dX0_orders_31 : decode cX0_orders 31 = .ok (.aload_n 0, 1) := dk_42 (dk_at dksX0_orders_1 7 rfl rfl)
theorem dX0_orders_32 : decode cX0_orders 32 = .ok (.aload_n 2, 1) := dk_44 (dk_at dksX0_orders_1 8 rfl rfl)
theorem dX0_orders_33 : decode cX0_orders 33 = .ok (.getfield 251, 3) := dk_180 0 251 (dk_at dksX0_orders_1 9 rfl rfl)
theorem dX0_orders_36 : decode cX0_orders 36 = .ok (.putfield 71, 3) := dk_181 0 71 (dk_at dksX0_orders_1 12 rfl rfl)
theorem dX0_orders_39 : decode cX0_orders 39 = .ok (.aload_n 0, 1) := dk_42 (dk_at dksX0_orders_1 15 rfl rfl)
theorem dX0_orders_40 : decode cX0_orders 40 = .ok (.bipush (-6), 2) := dk_16 250 (dk_at dksX0_orders_1 16 rfl rfl)
theorem dX0_orders_42 : decode cX0_orders 42 = .ok (.invokevirtual 132, 3) := dk_182 0 132 (dk_at dksX0_orders_1 18 rfl rfl)
theorem dX0_orders_45 : decode cX0_orders 45 = .ok (.istore_n 3, 1) := dk_62 (dk_at dksX0_orders_1 21 rfl rfl)
theorem dX0_orders_46 : decode cX0_orders 46 = .ok (.aload_n 0, 1) := dk_42 (dk_at dksX0_orders_1 22 rfl rfl)
theorem dX0_orders_47 : decode cX0_orders 47 = .ok (.iconst 0, 1) := dk_3 (dk_at dksX0_orders_1 23 rfl rfl)
theorem dX0_orders_48 : decode cX0_orders 48 = .ok (.putfield 146, 3) := dk_181 0 146 (dk_at dksX0_orders_2 0 rfl rfl)
theorem dX0_orders_51 : decode cX0_orders 51 = .ok (.iload_n 3, 1) := dk_29 (dk_at dksX0_orders_2 3 rfl rfl)
theorem dX0_orders_52 : decode cX0_orders 52 = .ok (.ireturn, 1) := dk_172 (dk_at dksX0_orders_2 4 rfl rfl)
theorem dX0_orders_53 : decode cX0_orders 53 = .ok (.astore 4, 2) := dk_58 4 (dk_at dksX0_orders_2 5 rfl rfl)
theorem dX0_orders_55 : decode cX0_orders 55 = .ok (.aload_n 0, 1) := dk_42 (dk_at dksX0_orders_2 7 rfl rfl)
theorem dX0_orders_56 : decode cX0_orders 56 = .ok (.iconst 0, 1) := dk_3 (dk_at dksX0_orders_2 8 rfl rfl)
theorem dX0_orders_57 : decode cX0_orders 57 = .ok (.putfield 146, 3) := dk_181 0 146 (dk_at dksX0_orders_2 9 rfl rfl)
theorem dX0_orders_60 : decode cX0_orders 60 = .ok (.aload 4, 2) := dk_25 4 (dk_at dksX0_orders_2 12 rfl rfl)
theorem dX0_orders_62 : decode cX0_orders 62 = .ok (.athrow, 1) := dk_191 (dk_at dksX0_orders_2 14 rfl rfl)
theorem dX0_orders_63 : decode cX0_orders 63 = .ok (.aload_n 0, 1) := dk_42 (dk_at dksX0_orders_2 15 rfl rfl)
theorem dX0_orders_64 : decode cX0_orders 64 = .ok (.getfield 39, 3) := dk_180 0 39 (dk_at dksX0_orders_2 16 rfl rfl)
theorem dX0_orders_67 : decode cX0_orders 67 = .ok (.aload_n 0, 1) := dk_42 (dk_at dksX0_orders_2 19 rfl rfl)
theorem dX0_orders_68 : decode cX0_orders 68 = .ok (.invokevirtual 157, 3) := dk_182 0 157 (dk_at dksX0_orders_2 20 rfl rfl)
theorem dX0_orders_71 : decode cX0_orders 71 = .ok (.invokevirtual 329, 3) := dk_182 1 73 (dk_at dksX0_orders_3 0 rfl rfl)
theorem dX0_orders_74 : decode cX0_orders 74 = .ok (.pop, 1) := dk_87 (dk_at dksX0_orders_3 3 rfl rfl)
theorem dX0_orders_75 : decode cX0_orders 75 = .ok (.aload_n 0, 1) := dk_42 (dk_at dksX0_orders_3 4 rfl rfl)
theorem dX0_orders_76 : decode cX0_orders 76 = .ok (.getfield 33, 3) := dk_180 0 33 (dk_at dksX0_orders_3 5 rfl rfl)
theorem dX0_orders_79 : decode cX0_orders 79 = .ok (.aload_n 0, 1) := dk_42 (dk_at dksX0_orders_3 8 rfl rfl)
theorem dX0_orders_80 : decode cX0_orders 80 = .ok (.getfield 29, 3) := dk_180 0 29 (dk_at dksX0_orders_3 9 rfl rfl)
theorem dX0_orders_83 : decode cX0_orders 83 = .ok (.invokevirtual 420, 3) := dk_182 1 164 (dk_at dksX0_orders_3 12 rfl rfl)
theorem dX0_orders_86 : decode cX0_orders 86 = .ok (.aload_n 0, 1) := dk_42 (dk_at dksX0_orders_3 15 rfl rfl)
theorem dX0_orders_87 : decode cX0_orders 87 = .ok (.iconst 0, 1) := dk_3 (dk_at dksX0_orders_3 16 rfl rfl)
theorem dX0_orders_88 : decode cX0_orders 88 = .ok (.putfield 411, 3) := dk_181 1 155 (dk_at dksX0_orders_3 17 rfl rfl)
theorem dX0_orders_91 : decode cX0_orders 91 = .ok (.aload_n 0, 1) := dk_42 (dk_at dksX0_orders_3 20 rfl rfl)
theorem dX0_orders_92 : decode cX0_orders 92 = .ok (.iconst (-1), 1) := dk_2 (dk_at dksX0_orders_3 21 rfl rfl)
theorem dX0_orders_93 : decode cX0_orders 93 = .ok (.putfield 423, 3) := dk_181 1 167 (dk_at dksX0_orders_4 0 rfl rfl)
theorem dX0_orders_96 : decode cX0_orders 96 = .ok (.aload_n 0, 1) := dk_42 (dk_at dksX0_orders_4 3 rfl rfl)
theorem dX0_orders_97 : decode cX0_orders 97 = .ok (.aload_n 1, 1) := dk_43 (dk_at dksX0_orders_4 4 rfl rfl)
theorem dX0_orders_98 : decode cX0_orders 98 = .ok (.invokevirtual 426, 3) := dk_182 1 170 (dk_at dksX0_orders_4 5 rfl rfl)
theorem dX0_orders_101 : decode cX0_orders 101 = .ok (.istore_n 2, 1) := dk_61 (dk_at dksX0_orders_4 8 rfl rfl)
theorem dX0_orders_102 : decode cX0_orders 102 = .ok (.iload_n 2, 1) := dk_28 (dk_at dksX0_orders_4 9 rfl rfl)
theorem dX0_orders_103 : decode cX0_orders 103 = .ok (.ifCond .ge 26, 3) := dk_156 0 26 (dk_at dksX0_orders_4 10 rfl rfl)
theorem dX0_orders_106 : decode cX0_orders 106 = .ok (.aload_n 0, 1) := dk_42 (dk_at dksX0_orders_4 13 rfl rfl)
theorem dX0_orders_107 : decode cX0_orders 107 = .ok (.invokevirtual 157, 3) := dk_182 0 157 (dk_at dksX0_orders_4 14 rfl rfl)
theorem dX0_orders_110 : decode cX0_orders 110 = .ok (.aload_n 0, 1) := dk_42 (dk_at dksX0_orders_4 17 rfl rfl)
theorem dX0_orders_111 : decode cX0_orders 111 = .ok (.getfield 39, 3) := dk_180 0 39 (dk_at dksX0_orders_4 18 rfl rfl)
theorem dX0_orders_114 : decode cX0_orders 114 = .ok (.invokevirtual 329, 3) := dk_182 1 73 (dk_at dksX0_orders_4 21 rfl rfl)
theorem dX0_orders_117 : decode cX0_orders 117 = .ok (.pop, 1) := dk_87 (dk_at dksX0_orders_5 0 rfl rfl)
theorem dX0_orders_118 : decode cX0_orders 118 = .ok (.aload_n 0, 1) := dk_42 (dk_at dksX0_orders_5 1 rfl rfl)
theorem dX0_orders_119 : decode cX0_orders 119 = .ok (.getfield 29, 3) := dk_180 0 29 (dk_at dksX0_orders_5 2 rfl rfl)
theorem dX0_orders_122 : decode cX0_orders 122 = .ok (.aload_n 0, 1) := dk_42 (dk_at dksX0_orders_5 5 rfl rfl)
theorem dX0_orders_123 : decode cX0_orders 123 = .ok (.getfield 33, 3) := dk_180 0 33 (dk_at dksX0_orders_5 6 rfl rfl)
theorem dX0_orders_126 : decode cX0_orders 126 = .ok (.invokevirtual 420, 3) := dk_182 1 164 (dk_at dksX0_orders_5 9 rfl rfl)
theorem dX0_orders_129 : decode cX0_orders 129 = .ok (.aload_n 0, 1) := dk_42 (dk_at dksX0_orders_5 12 rfl rfl)
theorem dX0_orders_130 : decode cX0_orders 130 = .ok (.iload_n 2, 1) := dk_28 (dk_at dksX0_orders_5 13 rfl rfl)
theorem dX0_orders_131 : decode cX0_orders 131 = .ok (.invokevirtual 132, 3) := dk_182 0 132 (dk_at dksX0_orders_5 14 rfl rfl)
theorem dX0_orders_134 : decode cX0_orders 134 = .ok (.ireturn, 1) := dk_172 (dk_at dksX0_orders_5 17 rfl rfl)
abbrev cX0_runAll : ByteArray := prog_1_method_79_code
def yX0_runAll : MethodName := ⟨RX0, "runAll", "([LCounterDesk$Act;)I"⟩
def dkwX0_runAll_2 : List UInt8 := [132, 2, 1, 167, 255, 209, 42, 180, 1, 155, 172]
abbrev dktX0_runAll_2 : List UInt8 := dkwX0_runAll_2 ++ []
def dkwX0_runAll_1 : List UInt8 := [182, 1, 152, 154, 0, 6, 167, 0, 11, 42, 28, 181, 0, 75, 16, 253, 172, 132, 3, 1, 167, 255, 223]
abbrev dktX0_runAll_1 : List UInt8 := dkwX0_runAll_1 ++ dktX0_runAll_2
def dkwX0_runAll_0 : List UInt8 := [3, 61, 28, 43, 190, 162, 0, 47, 3, 62, 29, 43, 28, 50, 180, 1, 147, 162, 0, 29, 43, 28, 50]
abbrev dktX0_runAll_0 : List UInt8 := dkwX0_runAll_0 ++ dktX0_runAll_1
theorem dksX0_runAll_0 : cX0_runAll.data.toList.drop 0 = dktX0_runAll_0 := by decide +kernel
theorem dksX0_runAll_1 : cX0_runAll.data.toList.drop 23 = dktX0_runAll_1 := dk_seg dksX0_runAll_0 23 rfl rfl
theorem dksX0_runAll_2 : cX0_runAll.data.toList.drop 46 = dktX0_runAll_2 := dk_seg dksX0_runAll_1 23 rfl rfl
theorem dX0_runAll_0 : decode cX0_runAll 0 = .ok (.iconst 0, 1) := dk_3 (dk_at dksX0_runAll_0 0 rfl rfl)
theorem dX0_runAll_1 : decode cX0_runAll 1 = .ok (.istore_n 2, 1) := dk_61 (dk_at dksX0_runAll_0 1 rfl rfl)
theorem dX0_runAll_2 : decode cX0_runAll 2 = .ok (.iload_n 2, 1) := dk_28 (dk_at dksX0_runAll_0 2 rfl rfl)
theorem dX0_runAll_3 : decode cX0_runAll 3 = .ok (.aload_n 1, 1) := dk_43 (dk_at dksX0_runAll_0 3 rfl rfl)
theorem dX0_runAll_4 : decode cX0_runAll 4 = .ok (.arraylength, 1) := dk_190 (dk_at dksX0_runAll_0 4 rfl rfl)
theorem dX0_runAll_5 : decode cX0_runAll 5 = .ok (.if_icmp .ge 47, 3) := dk_162 0 47 (dk_at dksX0_runAll_0 5 rfl rfl)
theorem dX0_runAll_8 : decode cX0_runAll 8 = .ok (.iconst 0, 1) := dk_3 (dk_at dksX0_runAll_0 8 rfl rfl)
theorem dX0_runAll_9 : decode cX0_runAll 9 = .ok (.istore_n 3, 1) := dk_62 (dk_at dksX0_runAll_0 9 rfl rfl)
theorem dX0_runAll_10 : decode cX0_runAll 10 = .ok (.iload_n 3, 1) := dk_29 (dk_at dksX0_runAll_0 10 rfl rfl)
theorem dX0_runAll_11 : decode cX0_runAll 11 = .ok (.aload_n 1, 1) := dk_43 (dk_at dksX0_runAll_0 11 rfl rfl)
theorem dX0_runAll_12 : decode cX0_runAll 12 = .ok (.iload_n 2, 1) := dk_28 (dk_at dksX0_runAll_0 12 rfl rfl)
theorem dX0_runAll_13 : decode cX0_runAll 13 = .ok (.aaload, 1) := dk_50 (dk_at dksX0_runAll_0 13 rfl rfl)
theorem dX0_runAll_14 : decode cX0_runAll 14 = .ok (.getfield 403, 3) := dk_180 1 147 (dk_at dksX0_runAll_0 14 rfl rfl)
theorem dX0_runAll_17 : decode cX0_runAll 17 = .ok (.if_icmp .ge 29, 3) := dk_162 0 29 (dk_at dksX0_runAll_0 17 rfl rfl)
theorem dX0_runAll_20 : decode cX0_runAll 20 = .ok (.aload_n 1, 1) := dk_43 (dk_at dksX0_runAll_0 20 rfl rfl)
theorem dX0_runAll_21 : decode cX0_runAll 21 = .ok (.iload_n 2, 1) := dk_28 (dk_at dksX0_runAll_0 21 rfl rfl)
theorem dX0_runAll_22 : decode cX0_runAll 22 = .ok (.aaload, 1) := dk_50 (dk_at dksX0_runAll_0 22 rfl rfl)
theorem dX0_runAll_23 : decode cX0_runAll 23 = .ok (.invokevirtual 408, 3) := dk_182 1 152 (dk_at dksX0_runAll_1 0 rfl rfl)
theorem dX0_runAll_26 : decode cX0_runAll 26 = .ok (.ifCond .ne 6, 3) := dk_154 0 6 (dk_at dksX0_runAll_1 3 rfl rfl)
theorem dX0_runAll_29 : decode cX0_runAll 29 = .ok (.goto 11, 3) := dk_167 0 11 (dk_at dksX0_runAll_1 6 rfl rfl)
theorem dX0_runAll_32 : decode cX0_runAll 32 = .ok (.aload_n 0, 1) := dk_42 (dk_at dksX0_runAll_1 9 rfl rfl)
theorem dX0_runAll_33 : decode cX0_runAll 33 = .ok (.iload_n 2, 1) := dk_28 (dk_at dksX0_runAll_1 10 rfl rfl)
theorem dX0_runAll_34 : decode cX0_runAll 34 = .ok (.putfield 75, 3) := dk_181 0 75 (dk_at dksX0_runAll_1 11 rfl rfl)
theorem dX0_runAll_37 : decode cX0_runAll 37 = .ok (.bipush (-3), 2) := dk_16 253 (dk_at dksX0_runAll_1 14 rfl rfl)
theorem dX0_runAll_39 : decode cX0_runAll 39 = .ok (.ireturn, 1) := dk_172 (dk_at dksX0_runAll_1 16 rfl rfl)
theorem dX0_runAll_40 : decode cX0_runAll 40 = .ok (.iinc 3 1, 3) := dk_132 3 1 (dk_at dksX0_runAll_1 17 rfl rfl)
theorem dX0_runAll_43 : decode cX0_runAll 43 = .ok (.goto (-33), 3) := dk_167 255 223 (dk_at dksX0_runAll_1 20 rfl rfl)
theorem dX0_runAll_46 : decode cX0_runAll 46 = .ok (.iinc 2 1, 3) := dk_132 2 1 (dk_at dksX0_runAll_2 0 rfl rfl)
theorem dX0_runAll_49 : decode cX0_runAll 49 = .ok (.goto (-47), 3) := dk_167 255 209 (dk_at dksX0_runAll_2 3 rfl rfl)
theorem dX0_runAll_52 : decode cX0_runAll 52 = .ok (.aload_n 0, 1) := dk_42 (dk_at dksX0_runAll_2 6 rfl rfl)
theorem dX0_runAll_53 : decode cX0_runAll 53 = .ok (.getfield 411, 3) := dk_180 1 155 (dk_at dksX0_runAll_2 7 rfl rfl)
theorem dX0_runAll_56 : decode cX0_runAll 56 = .ok (.ireturn, 1) := dk_172 (dk_at dksX0_runAll_2 10 rfl rfl)
abbrev cX0_stopped : ByteArray := prog_1_method_81_code
def yX0_stopped : MethodName := ⟨RX0, "stopped", "()I"⟩
theorem dX0_stopped_0 : decode cX0_stopped 0 = .ok (.aload_n 0, 1) := by decide +kernel
theorem dX0_stopped_1 : decode cX0_stopped 1 = .ok (.getfield 75, 3) := by decide +kernel
theorem dX0_stopped_4 : decode cX0_stopped 4 = .ok (.ireturn, 1) := by decide +kernel
abbrev cX0_weeks : ByteArray := prog_1_method_82_code
def yX0_weeks : MethodName := ⟨RX0, "weeks", "(II)I"⟩
def dkwX0_weeks_10 : List UInt8 := [172]
abbrev dktX0_weeks_10 : List UInt8 := dkwX0_weeks_10 ++ []
def dkwX0_weeks_9 : List UInt8 := [182, 0, 142, 181, 0, 117, 42, 182, 0, 157, 42, 180, 0, 43, 182, 1, 73, 87, 42, 21, 4, 182, 0, 132]
abbrev dktX0_weeks_9 : List UInt8 := dkwX0_weeks_9 ++ dktX0_weeks_10
def dkwX0_weeks_8 : List UInt8 := [96, 181, 0, 196, 132, 5, 1, 167, 255, 134, 42, 180, 0, 114, 42, 182, 0, 157, 182, 1, 73, 87, 42, 42]
abbrev dktX0_weeks_8 : List UInt8 := dkwX0_weeks_8 ++ dktX0_weeks_9
def dkwX0_weeks_7 : List UInt8 := [182, 0, 142, 182, 1, 60, 21, 4, 42, 182, 1, 44, 96, 54, 4, 42, 182, 0, 157, 89, 180, 0, 196, 4]
abbrev dktX0_weeks_7 : List UInt8 := dkwX0_weeks_7 ++ dktX0_weeks_8
def dkwX0_weeks_6 : List UInt8 := [182, 0, 157, 180, 0, 160, 21, 6, 21, 7, 79, 21, 8, 6, 160, 0, 14, 42, 182, 0, 157, 42]
abbrev dktX0_weeks_6 : List UInt8 := dkwX0_weeks_6 ++ dktX0_weeks_7
def dkwX0_weeks_5 : List UInt8 := [162, 0, 15, 42, 182, 0, 157, 180, 0, 163, 21, 6, 21, 7, 79, 21, 8, 5, 160, 0, 15, 42]
abbrev dktX0_weeks_5 : List UInt8 := dkwX0_weeks_5 ++ dktX0_weeks_6
def dkwX0_weeks_4 : List UInt8 := [182, 1, 182, 54, 6, 45, 16, 25, 182, 1, 182, 54, 7, 45, 7, 182, 1, 182, 54, 8, 21, 8, 5]
abbrev dktX0_weeks_4 : List UInt8 := dkwX0_weeks_4 ++ dktX0_weeks_5
def dkwX0_weeks_3 : List UInt8 := [21, 5, 28, 162, 0, 122, 42, 182, 0, 157, 180, 0, 196, 17, 3, 231, 162, 0, 109, 45, 42, 182, 0, 142]
abbrev dktX0_weeks_3 : List UInt8 := dkwX0_weeks_3 ++ dktX0_weeks_4
def dkwX0_weeks_2 : List UInt8 := [27, 183, 1, 180, 78, 42, 180, 0, 43, 42, 182, 0, 157, 182, 1, 73, 87, 3, 54, 4, 3, 54, 5]
abbrev dktX0_weeks_2 : List UInt8 := dkwX0_weeks_2 ++ dktX0_weeks_3
def dkwX0_weeks_1 : List UInt8 := [42, 2, 182, 0, 132, 172, 42, 182, 0, 142, 154, 0, 10, 42, 16, 253, 182, 0, 132, 172, 187, 1, 178, 89]
abbrev dktX0_weeks_1 : List UInt8 := dkwX0_weeks_1 ++ dktX0_weeks_2
def dkwX0_weeks_0 : List UInt8 := [27, 133, 9, 20, 1, 174, 184, 0, 5, 153, 0, 15, 28, 133, 10, 20, 1, 176, 184, 0, 5, 154, 0, 9]
abbrev dktX0_weeks_0 : List UInt8 := dkwX0_weeks_0 ++ dktX0_weeks_1
theorem dksX0_weeks_0 : cX0_weeks.data.toList.drop 0 = dktX0_weeks_0 := by decide +kernel
theorem dksX0_weeks_1 : cX0_weeks.data.toList.drop 24 = dktX0_weeks_1 := dk_seg dksX0_weeks_0 24 rfl rfl
theorem dksX0_weeks_2 : cX0_weeks.data.toList.drop 48 = dktX0_weeks_2 := dk_seg dksX0_weeks_1 24 rfl rfl
theorem dksX0_weeks_3 : cX0_weeks.data.toList.drop 71 = dktX0_weeks_3 := dk_seg dksX0_weeks_2 23 rfl rfl
theorem dksX0_weeks_4 : cX0_weeks.data.toList.drop 95 = dktX0_weeks_4 := dk_seg dksX0_weeks_3 24 rfl rfl
theorem dksX0_weeks_5 : cX0_weeks.data.toList.drop 118 = dktX0_weeks_5 := dk_seg dksX0_weeks_4 23 rfl rfl
theorem dksX0_weeks_6 : cX0_weeks.data.toList.drop 140 = dktX0_weeks_6 := dk_seg dksX0_weeks_5 22 rfl rfl
theorem dksX0_weeks_7 : cX0_weeks.data.toList.drop 162 = dktX0_weeks_7 := dk_seg dksX0_weeks_6 22 rfl rfl
theorem dksX0_weeks_8 : cX0_weeks.data.toList.drop 186 = dktX0_weeks_8 := dk_seg dksX0_weeks_7 24 rfl rfl
theorem dksX0_weeks_9 : cX0_weeks.data.toList.drop 210 = dktX0_weeks_9 := dk_seg dksX0_weeks_8 24 rfl rfl
theorem dksX0_weeks_10 : cX0_weeks.data.toList.drop 234 = dktX0_weeks_10 := dk_seg dksX0_weeks_9 24 rfl rfl
theorem dX0_weeks_0 : decode cX0_weeks 0 = .ok (.iload_n 1, 1) := dk_27 (dk_at dksX0_weeks_0 0 rfl rfl)
theorem dX0_weeks_1 : decode cX0_weeks 1 = .ok (.i2l, 1) := dk_133 (dk_at dksX0_weeks_0 1 rfl rfl)
theorem dX0_weeks_2 : decode cX0_weeks 2 = .ok (.lconst 0, 1) := dk_9 (dk_at dksX0_weeks_0 2 rfl rfl)
theorem dX0_weeks_3 : decode cX0_weeks 3 = .ok (.ldc2_w 430, 3) := dk_20 1 174 (dk_at dksX0_weeks_0 3 rfl rfl)
theorem dX0_weeks_6 : decode cX0_weeks 6 = .ok (.invokestatic 5, 3) := dk_184 0 5 (dk_at dksX0_weeks_0 6 rfl rfl)
theorem dX0_weeks_9 : decode cX0_weeks 9 = .ok (.ifCond .eq 15, 3) := dk_153 0 15 (dk_at dksX0_weeks_0 9 rfl rfl)
theorem dX0_weeks_12 : decode cX0_weeks 12 = .ok (.iload_n 2, 1) := dk_28 (dk_at dksX0_weeks_0 12 rfl rfl)
theorem dX0_weeks_13 : decode cX0_weeks 13 = .ok (.i2l, 1) := dk_133 (dk_at dksX0_weeks_0 13 rfl rfl)
theorem dX0_weeks_14 : decode cX0_weeks 14 = .ok (.lconst 1, 1) := dk_10 (dk_at dksX0_weeks_0 14 rfl rfl)
theorem dX0_weeks_15 : decode cX0_weeks 15 = .ok (.ldc2_w 432, 3) := dk_20 1 176 (dk_at dksX0_weeks_0 15 rfl rfl)
theorem dX0_weeks_18 : decode cX0_weeks 18 = .ok (.invokestatic 5, 3) := dk_184 0 5 (dk_at dksX0_weeks_0 18 rfl rfl)
theorem dX0_weeks_21 : decode cX0_weeks 21 = .ok (.ifCond .ne 9, 3) := dk_154 0 9 (dk_at dksX0_weeks_0 21 rfl rfl)
theorem dX0_weeks_24 : decode cX0_weeks 24 = .ok (.aload_n 0, 1) := dk_42 (dk_at dksX0_weeks_1 0 rfl rfl)
theorem dX0_weeks_25 : decode cX0_weeks 25 = .ok (.iconst (-1), 1) := dk_2 (dk_at dksX0_weeks_1 1 rfl rfl)
theorem dX0_weeks_26 : decode cX0_weeks 26 = .ok (.invokevirtual 132, 3) := dk_182 0 132 (dk_at dksX0_weeks_1 2 rfl rfl)
theorem dX0_weeks_29 : decode cX0_weeks 29 = .ok (.ireturn, 1) := dk_172 (dk_at dksX0_weeks_1 5 rfl rfl)
theorem dX0_weeks_30 : decode cX0_weeks 30 = .ok (.aload_n 0, 1) := dk_42 (dk_at dksX0_weeks_1 6 rfl rfl)
theorem dX0_weeks_31 : decode cX0_weeks 31 = .ok (.invokevirtual 142, 3) := dk_182 0 142 (dk_at dksX0_weeks_1 7 rfl rfl)
theorem dX0_weeks_34 : decode cX0_weeks 34 = .ok (.ifCond .ne 10, 3) := dk_154 0 10 (dk_at dksX0_weeks_1 10 rfl rfl)
theorem dX0_weeks_37 : decode cX0_weeks 37 = .ok (.aload_n 0, 1) := dk_42 (dk_at dksX0_weeks_1 13 rfl rfl)
theorem dX0_weeks_38 : decode cX0_weeks 38 = .ok (.bipush (-3), 2) := dk_16 253 (dk_at dksX0_weeks_1 14 rfl rfl)
theorem dX0_weeks_40 : decode cX0_weeks 40 = .ok (.invokevirtual 132, 3) := dk_182 0 132 (dk_at dksX0_weeks_1 16 rfl rfl)
theorem dX0_weeks_43 : decode cX0_weeks 43 = .ok (.ireturn, 1) := dk_172 (dk_at dksX0_weeks_1 19 rfl rfl)
theorem dX0_weeks_44 : decode cX0_weeks 44 = .ok (.new 434, 3) := dk_187 1 178 (dk_at dksX0_weeks_1 20 rfl rfl)
theorem dX0_weeks_47 : decode cX0_weeks 47 = .ok (.dup, 1) := dk_89 (dk_at dksX0_weeks_1 23 rfl rfl)
theorem dX0_weeks_48 : decode cX0_weeks 48 = .ok (.iload_n 1, 1) := dk_27 (dk_at dksX0_weeks_2 0 rfl rfl)
theorem dX0_weeks_49 : decode cX0_weeks 49 = .ok (.invokespecial 436, 3) := dk_183 1 180 (dk_at dksX0_weeks_2 1 rfl rfl)
theorem dX0_weeks_52 : decode cX0_weeks 52 = .ok (.astore_n 3, 1) := dk_78 (dk_at dksX0_weeks_2 4 rfl rfl)
theorem dX0_weeks_53 : decode cX0_weeks 53 = .ok (.aload_n 0, 1) := dk_42 (dk_at dksX0_weeks_2 5 rfl rfl)
theorem dX0_weeks_54 : decode cX0_weeks 54 = .ok (.getfield 43, 3) := dk_180 0 43 (dk_at dksX0_weeks_2 6 rfl rfl)
theorem dX0_weeks_57 : decode cX0_weeks 57 = .ok (.aload_n 0, 1) := dk_42 (dk_at dksX0_weeks_2 9 rfl rfl)
theorem dX0_weeks_58 : decode cX0_weeks 58 = .ok (.invokevirtual 157, 3) := dk_182 0 157 (dk_at dksX0_weeks_2 10 rfl rfl)
theorem dX0_weeks_61 : decode cX0_weeks 61 = .ok (.invokevirtual 329, 3) := dk_182 1 73 (dk_at dksX0_weeks_2 13 rfl rfl)
theorem dX0_weeks_64 : decode cX0_weeks 64 = .ok (.pop, 1) := dk_87 (dk_at dksX0_weeks_2 16 rfl rfl)
theorem dX0_weeks_65 : decode cX0_weeks 65 = .ok (.iconst 0, 1) := dk_3 (dk_at dksX0_weeks_2 17 rfl rfl)
theorem dX0_weeks_66 : decode cX0_weeks 66 = .ok (.istore 4, 2) := dk_54 4 (dk_at dksX0_weeks_2 18 rfl rfl)
theorem dX0_weeks_68 : decode cX0_weeks 68 = .ok (.iconst 0, 1) := dk_3 (dk_at dksX0_weeks_2 20 rfl rfl)
theorem dX0_weeks_69 : decode cX0_weeks 69 = .ok (.istore 5, 2) := dk_54 5 (dk_at dksX0_weeks_2 21 rfl rfl)
theorem dX0_weeks_71 : decode cX0_weeks 71 = .ok (.iload 5, 2) := dk_21 5 (dk_at dksX0_weeks_3 0 rfl rfl)
theorem dX0_weeks_73 : decode cX0_weeks 73 = .ok (.iload_n 2, 1) := dk_28 (dk_at dksX0_weeks_3 2 rfl rfl)
theorem dX0_weeks_74 : decode cX0_weeks 74 = .ok (.if_icmp .ge 122, 3) := dk_162 0 122 (dk_at dksX0_weeks_3 3 rfl rfl)
theorem dX0_weeks_77 : decode cX0_weeks 77 = .ok (.aload_n 0, 1) := dk_42 (dk_at dksX0_weeks_3 6 rfl rfl)
theorem dX0_weeks_78 : decode cX0_weeks 78 = .ok (.invokevirtual 157, 3) := dk_182 0 157 (dk_at dksX0_weeks_3 7 rfl rfl)
theorem dX0_weeks_81 : decode cX0_weeks 81 = .ok (.getfield 196, 3) := dk_180 0 196 (dk_at dksX0_weeks_3 10 rfl rfl)
theorem dX0_weeks_84 : decode cX0_weeks 84 = .ok (.sipush 999, 3) := dk_17 3 231 (dk_at dksX0_weeks_3 13 rfl rfl)
theorem dX0_weeks_87 : decode cX0_weeks 87 = .ok (.if_icmp .ge 109, 3) := dk_162 0 109 (dk_at dksX0_weeks_3 16 rfl rfl)
theorem dX0_weeks_90 : decode cX0_weeks 90 = .ok (.aload_n 3, 1) := dk_45 (dk_at dksX0_weeks_3 19 rfl rfl)
theorem dX0_weeks_91 : decode cX0_weeks 91 = .ok (.aload_n 0, 1) := dk_42 (dk_at dksX0_weeks_3 20 rfl rfl)
theorem dX0_weeks_92 : decode cX0_weeks 92 = .ok (.invokevirtual 142, 3) := dk_182 0 142 (dk_at dksX0_weeks_3 21 rfl rfl)
theorem dX0_weeks_95 : decode cX0_weeks 95 = .ok (.invokevirtual 438, 3) := dk_182 1 182 (dk_at dksX0_weeks_4 0 rfl rfl)
theorem dX0_weeks_98 : decode cX0_weeks 98 = .ok (.istore 6, 2) := dk_54 6 (dk_at dksX0_weeks_4 3 rfl rfl)
theorem dX0_weeks_100 : decode cX0_weeks 100 = .ok (.aload_n 3, 1) := dk_45 (dk_at dksX0_weeks_4 5 rfl rfl)
theorem dX0_weeks_101 : decode cX0_weeks 101 = .ok (.bipush 25, 2) := dk_16 25 (dk_at dksX0_weeks_4 6 rfl rfl)
theorem dX0_weeks_103 : decode cX0_weeks 103 = .ok (.invokevirtual 438, 3) := dk_182 1 182 (dk_at dksX0_weeks_4 8 rfl rfl)
theorem dX0_weeks_106 : decode cX0_weeks 106 = .ok (.istore 7, 2) := dk_54 7 (dk_at dksX0_weeks_4 11 rfl rfl)
theorem dX0_weeks_108 : decode cX0_weeks 108 = .ok (.aload_n 3, 1) := dk_45 (dk_at dksX0_weeks_4 13 rfl rfl)
theorem dX0_weeks_109 : decode cX0_weeks 109 = .ok (.iconst 4, 1) := dk_7 (dk_at dksX0_weeks_4 14 rfl rfl)
theorem dX0_weeks_110 : decode cX0_weeks 110 = .ok (.invokevirtual 438, 3) := dk_182 1 182 (dk_at dksX0_weeks_4 15 rfl rfl)
theorem dX0_weeks_113 : decode cX0_weeks 113 = .ok (.istore 8, 2) := dk_54 8 (dk_at dksX0_weeks_4 18 rfl rfl)
theorem dX0_weeks_115 : decode cX0_weeks 115 = .ok (.iload 8, 2) := dk_21 8 (dk_at dksX0_weeks_4 20 rfl rfl)
theorem dX0_weeks_117 : decode cX0_weeks 117 = .ok (.iconst 2, 1) := dk_5 (dk_at dksX0_weeks_4 22 rfl rfl)
theorem dX0_weeks_118 : decode cX0_weeks 118 = .ok (.if_icmp .ge 15, 3) := dk_162 0 15 (dk_at dksX0_weeks_5 0 rfl rfl)
theorem dX0_weeks_121 : decode cX0_weeks 121 = .ok (.aload_n 0, 1) := dk_42 (dk_at dksX0_weeks_5 3 rfl rfl)
theorem dX0_weeks_122 : decode cX0_weeks 122 = .ok (.invokevirtual 157, 3) := dk_182 0 157 (dk_at dksX0_weeks_5 4 rfl rfl)
theorem dX0_weeks_125 : decode cX0_weeks 125 = .ok (.getfield 163, 3) := dk_180 0 163 (dk_at dksX0_weeks_5 7 rfl rfl)
theorem dX0_weeks_128 : decode cX0_weeks 128 = .ok (.iload 6, 2) := dk_21 6 (dk_at dksX0_weeks_5 10 rfl rfl)
theorem dX0_weeks_130 : decode cX0_weeks 130 = .ok (.iload 7, 2) := dk_21 7 (dk_at dksX0_weeks_5 12 rfl rfl)
theorem dX0_weeks_132 : decode cX0_weeks 132 = .ok (.iastore, 1) := dk_79 (dk_at dksX0_weeks_5 14 rfl rfl)
theorem dX0_weeks_133 : decode cX0_weeks 133 = .ok (.iload 8, 2) := dk_21 8 (dk_at dksX0_weeks_5 15 rfl rfl)
theorem dX0_weeks_135 : decode cX0_weeks 135 = .ok (.iconst 2, 1) := dk_5 (dk_at dksX0_weeks_5 17 rfl rfl)
theorem dX0_weeks_136 : decode cX0_weeks 136 = .ok (.if_icmp .ne 15, 3) := dk_160 0 15 (dk_at dksX0_weeks_5 18 rfl rfl)
theorem dX0_weeks_139 : decode cX0_weeks 139 = .ok (.aload_n 0, 1) := dk_42 (dk_at dksX0_weeks_5 21 rfl rfl)
theorem dX0_weeks_140 : decode cX0_weeks 140 = .ok (.invokevirtual 157, 3) := dk_182 0 157 (dk_at dksX0_weeks_6 0 rfl rfl)
theorem dX0_weeks_143 : decode cX0_weeks 143 = .ok (.getfield 160, 3) := dk_180 0 160 (dk_at dksX0_weeks_6 3 rfl rfl)
theorem dX0_weeks_146 : decode cX0_weeks 146 = .ok (.iload 6, 2) := dk_21 6 (dk_at dksX0_weeks_6 6 rfl rfl)
theorem dX0_weeks_148 : decode cX0_weeks 148 = .ok (.iload 7, 2) := dk_21 7 (dk_at dksX0_weeks_6 8 rfl rfl)
theorem dX0_weeks_150 : decode cX0_weeks 150 = .ok (.iastore, 1) := dk_79 (dk_at dksX0_weeks_6 10 rfl rfl)
theorem dX0_weeks_151 : decode cX0_weeks 151 = .ok (.iload 8, 2) := dk_21 8 (dk_at dksX0_weeks_6 11 rfl rfl)
theorem dX0_weeks_153 : decode cX0_weeks 153 = .ok (.iconst 3, 1) := dk_6 (dk_at dksX0_weeks_6 13 rfl rfl)
theorem dX0_weeks_154 : decode cX0_weeks 154 = .ok (.if_icmp .ne 14, 3) := dk_160 0 14 (dk_at dksX0_weeks_6 14 rfl rfl)
theorem dX0_weeks_157 : decode cX0_weeks 157 = .ok (.aload_n 0, 1) := dk_42 (dk_at dksX0_weeks_6 17 rfl rfl)
theorem dX0_weeks_158 : decode cX0_weeks 158 = .ok (.invokevirtual 157, 3) := dk_182 0 157 (dk_at dksX0_weeks_6 18 rfl rfl)
theorem dX0_weeks_161 : decode cX0_weeks 161 = .ok (.aload_n 0, 1) := dk_42 (dk_at dksX0_weeks_6 21 rfl rfl)
theorem dX0_weeks_162 : decode cX0_weeks 162 = .ok (.invokevirtual 142, 3) := dk_182 0 142 (dk_at dksX0_weeks_7 0 rfl rfl)
theorem dX0_weeks_165 : decode cX0_weeks 165 = .ok (.invokevirtual 316, 3) := dk_182 1 60 (dk_at dksX0_weeks_7 3 rfl rfl)
theorem dX0_weeks_168 : decode cX0_weeks 168 = .ok (.iload 4, 2) := dk_21 4 (dk_at dksX0_weeks_7 6 rfl rfl)
theorem dX0_weeks_170 : decode cX0_weeks 170 = .ok (.aload_n 0, 1) := dk_42 (dk_at dksX0_weeks_7 8 rfl rfl)
theorem dX0_weeks_171 : decode cX0_weeks 171 = .ok (.invokevirtual 300, 3) := dk_182 1 44 (dk_at dksX0_weeks_7 9 rfl rfl)
theorem dX0_weeks_174 : decode cX0_weeks 174 = .ok (.iadd, 1) := dk_96 (dk_at dksX0_weeks_7 12 rfl rfl)
theorem dX0_weeks_175 : decode cX0_weeks 175 = .ok (.istore 4, 2) := dk_54 4 (dk_at dksX0_weeks_7 13 rfl rfl)
theorem dX0_weeks_177 : decode cX0_weeks 177 = .ok (.aload_n 0, 1) := dk_42 (dk_at dksX0_weeks_7 15 rfl rfl)
theorem dX0_weeks_178 : decode cX0_weeks 178 = .ok (.invokevirtual 157, 3) := dk_182 0 157 (dk_at dksX0_weeks_7 16 rfl rfl)
theorem dX0_weeks_181 : decode cX0_weeks 181 = .ok (.dup, 1) := dk_89 (dk_at dksX0_weeks_7 19 rfl rfl)
theorem dX0_weeks_182 : decode cX0_weeks 182 = .ok (.getfield 196, 3) := dk_180 0 196 (dk_at dksX0_weeks_7 20 rfl rfl)
theorem dX0_weeks_185 : decode cX0_weeks 185 = .ok (.iconst 1, 1) := dk_4 (dk_at dksX0_weeks_7 23 rfl rfl)
theorem dX0_weeks_186 : decode cX0_weeks 186 = .ok (.iadd, 1) := dk_96 (dk_at dksX0_weeks_8 0 rfl rfl)
theorem dX0_weeks_187 : decode cX0_weeks 187 = .ok (.putfield 196, 3) := dk_181 0 196 (dk_at dksX0_weeks_8 1 rfl rfl)
theorem dX0_weeks_190 : decode cX0_weeks 190 = .ok (.iinc 5 1, 3) := dk_132 5 1 (dk_at dksX0_weeks_8 4 rfl rfl)
theorem dX0_weeks_193 : decode cX0_weeks 193 = .ok (.goto (-122), 3) := dk_167 255 134 (dk_at dksX0_weeks_8 7 rfl rfl)
theorem dX0_weeks_196 : decode cX0_weeks 196 = .ok (.aload_n 0, 1) := dk_42 (dk_at dksX0_weeks_8 10 rfl rfl)
theorem dX0_weeks_197 : decode cX0_weeks 197 = .ok (.getfield 114, 3) := dk_180 0 114 (dk_at dksX0_weeks_8 11 rfl rfl)
theorem dX0_weeks_200 : decode cX0_weeks 200 = .ok (.aload_n 0, 1) := dk_42 (dk_at dksX0_weeks_8 14 rfl rfl)
theorem dX0_weeks_201 : decode cX0_weeks 201 = .ok (.invokevirtual 157, 3) := dk_182 0 157 (dk_at dksX0_weeks_8 15 rfl rfl)
theorem dX0_weeks_204 : decode cX0_weeks 204 = .ok (.invokevirtual 329, 3) := dk_182 1 73 (dk_at dksX0_weeks_8 18 rfl rfl)
theorem dX0_weeks_207 : decode cX0_weeks 207 = .ok (.pop, 1) := dk_87 (dk_at dksX0_weeks_8 21 rfl rfl)
theorem dX0_weeks_208 : decode cX0_weeks 208 = .ok (.aload_n 0, 1) := dk_42 (dk_at dksX0_weeks_8 22 rfl rfl)
theorem dX0_weeks_209 : decode cX0_weeks 209 = .ok (.aload_n 0, 1) := dk_42 (dk_at dksX0_weeks_8 23 rfl rfl)
theorem dX0_weeks_210 : decode cX0_weeks 210 = .ok (.invokevirtual 142, 3) := dk_182 0 142 (dk_at dksX0_weeks_9 0 rfl rfl)
theorem dX0_weeks_213 : decode cX0_weeks 213 = .ok (.putfield 117, 3) := dk_181 0 117 (dk_at dksX0_weeks_9 3 rfl rfl)
theorem dX0_weeks_216 : decode cX0_weeks 216 = .ok (.aload_n 0, 1) := dk_42 (dk_at dksX0_weeks_9 6 rfl rfl)
theorem dX0_weeks_217 : decode cX0_weeks 217 = .ok (.invokevirtual 157, 3) := dk_182 0 157 (dk_at dksX0_weeks_9 7 rfl rfl)
theorem dX0_weeks_220 : decode cX0_weeks 220 = .ok (.aload_n 0, 1) := dk_42 (dk_at dksX0_weeks_9 10 rfl rfl)
theorem dX0_weeks_221 : decode cX0_weeks 221 = .ok (.getfield 43, 3) := dk_180 0 43 (dk_at dksX0_weeks_9 11 rfl rfl)
theorem dX0_weeks_224 : decode cX0_weeks 224 = .ok (.invokevirtual 329, 3) := dk_182 1 73 (dk_at dksX0_weeks_9 14 rfl rfl)
theorem dX0_weeks_227 : decode cX0_weeks 227 = .ok (.pop, 1) := dk_87 (dk_at dksX0_weeks_9 17 rfl rfl)
theorem dX0_weeks_228 : decode cX0_weeks 228 = .ok (.aload_n 0, 1) := dk_42 (dk_at dksX0_weeks_9 18 rfl rfl)
theorem dX0_weeks_229 : decode cX0_weeks 229 = .ok (.iload 4, 2) := dk_21 4 (dk_at dksX0_weeks_9 19 rfl rfl)
theorem dX0_weeks_231 : decode cX0_weeks 231 = .ok (.invokevirtual 132, 3) := dk_182 0 132 (dk_at dksX0_weeks_9 21 rfl rfl)
theorem dX0_weeks_234 : decode cX0_weeks 234 = .ok (.ireturn, 1) := dk_172 (dk_at dksX0_weeks_10 0 rfl rfl)
abbrev cX0_drawn : ByteArray := prog_1_method_83_code
def yX0_drawn : MethodName := ⟨RX0, "drawn", "(II)I"⟩
def dkwX0_drawn_2 : List UInt8 := [46, 167, 0, 4, 2, 172]
abbrev dktX0_drawn_2 : List UInt8 := dkwX0_drawn_2 ++ []
def dkwX0_drawn_1 : List UInt8 := [180, 0, 114, 180, 0, 160, 27, 46, 167, 0, 21, 28, 4, 160, 0, 15, 42, 180, 0, 114, 180, 0, 163, 27]
abbrev dktX0_drawn_1 : List UInt8 := dkwX0_drawn_1 ++ dktX0_drawn_2
def dkwX0_drawn_0 : List UInt8 := [27, 133, 9, 42, 180, 0, 117, 4, 100, 133, 184, 0, 5, 154, 0, 5, 2, 172, 28, 154, 0, 15, 42]
abbrev dktX0_drawn_0 : List UInt8 := dkwX0_drawn_0 ++ dktX0_drawn_1
theorem dksX0_drawn_0 : cX0_drawn.data.toList.drop 0 = dktX0_drawn_0 := by decide +kernel
theorem dksX0_drawn_1 : cX0_drawn.data.toList.drop 23 = dktX0_drawn_1 := dk_seg dksX0_drawn_0 23 rfl rfl
theorem dksX0_drawn_2 : cX0_drawn.data.toList.drop 47 = dktX0_drawn_2 := dk_seg dksX0_drawn_1 24 rfl rfl
theorem dX0_drawn_0 : decode cX0_drawn 0 = .ok (.iload_n 1, 1) := dk_27 (dk_at dksX0_drawn_0 0 rfl rfl)
theorem dX0_drawn_1 : decode cX0_drawn 1 = .ok (.i2l, 1) := dk_133 (dk_at dksX0_drawn_0 1 rfl rfl)
theorem dX0_drawn_2 : decode cX0_drawn 2 = .ok (.lconst 0, 1) := dk_9 (dk_at dksX0_drawn_0 2 rfl rfl)
theorem dX0_drawn_3 : decode cX0_drawn 3 = .ok (.aload_n 0, 1) := dk_42 (dk_at dksX0_drawn_0 3 rfl rfl)
theorem dX0_drawn_4 : decode cX0_drawn 4 = .ok (.getfield 117, 3) := dk_180 0 117 (dk_at dksX0_drawn_0 4 rfl rfl)
theorem dX0_drawn_7 : decode cX0_drawn 7 = .ok (.iconst 1, 1) := dk_4 (dk_at dksX0_drawn_0 7 rfl rfl)
theorem dX0_drawn_8 : decode cX0_drawn 8 = .ok (.isub, 1) := dk_100 (dk_at dksX0_drawn_0 8 rfl rfl)
theorem dX0_drawn_9 : decode cX0_drawn 9 = .ok (.i2l, 1) := dk_133 (dk_at dksX0_drawn_0 9 rfl rfl)
theorem dX0_drawn_10 : decode cX0_drawn 10 = .ok (.invokestatic 5, 3) := dk_184 0 5 (dk_at dksX0_drawn_0 10 rfl rfl)
theorem dX0_drawn_13 : decode cX0_drawn 13 = .ok (.ifCond .ne 5, 3) := dk_154 0 5 (dk_at dksX0_drawn_0 13 rfl rfl)
theorem dX0_drawn_16 : decode cX0_drawn 16 = .ok (.iconst (-1), 1) := dk_2 (dk_at dksX0_drawn_0 16 rfl rfl)
theorem dX0_drawn_17 : decode cX0_drawn 17 = .ok (.ireturn, 1) := dk_172 (dk_at dksX0_drawn_0 17 rfl rfl)
theorem dX0_drawn_18 : decode cX0_drawn 18 = .ok (.iload_n 2, 1) := dk_28 (dk_at dksX0_drawn_0 18 rfl rfl)
theorem dX0_drawn_19 : decode cX0_drawn 19 = .ok (.ifCond .ne 15, 3) := dk_154 0 15 (dk_at dksX0_drawn_0 19 rfl rfl)
theorem dX0_drawn_22 : decode cX0_drawn 22 = .ok (.aload_n 0, 1) := dk_42 (dk_at dksX0_drawn_0 22 rfl rfl)
theorem dX0_drawn_23 : decode cX0_drawn 23 = .ok (.getfield 114, 3) := dk_180 0 114 (dk_at dksX0_drawn_1 0 rfl rfl)
theorem dX0_drawn_26 : decode cX0_drawn 26 = .ok (.getfield 160, 3) := dk_180 0 160 (dk_at dksX0_drawn_1 3 rfl rfl)
theorem dX0_drawn_29 : decode cX0_drawn 29 = .ok (.iload_n 1, 1) := dk_27 (dk_at dksX0_drawn_1 6 rfl rfl)
theorem dX0_drawn_30 : decode cX0_drawn 30 = .ok (.iaload, 1) := dk_46 (dk_at dksX0_drawn_1 7 rfl rfl)
theorem dX0_drawn_31 : decode cX0_drawn 31 = .ok (.goto 21, 3) := dk_167 0 21 (dk_at dksX0_drawn_1 8 rfl rfl)
theorem dX0_drawn_34 : decode cX0_drawn 34 = .ok (.iload_n 2, 1) := dk_28 (dk_at dksX0_drawn_1 11 rfl rfl)
theorem dX0_drawn_35 : decode cX0_drawn 35 = .ok (.iconst 1, 1) := dk_4 (dk_at dksX0_drawn_1 12 rfl rfl)
theorem dX0_drawn_36 : decode cX0_drawn 36 = .ok (.if_icmp .ne 15, 3) := dk_160 0 15 (dk_at dksX0_drawn_1 13 rfl rfl)
theorem dX0_drawn_39 : decode cX0_drawn 39 = .ok (.aload_n 0, 1) := dk_42 (dk_at dksX0_drawn_1 16 rfl rfl)
theorem dX0_drawn_40 : decode cX0_drawn 40 = .ok (.getfield 114, 3) := dk_180 0 114 (dk_at dksX0_drawn_1 17 rfl rfl)
theorem dX0_drawn_43 : decode cX0_drawn 43 = .ok (.getfield 163, 3) := dk_180 0 163 (dk_at dksX0_drawn_1 20 rfl rfl)
theorem dX0_drawn_46 : decode cX0_drawn 46 = .ok (.iload_n 1, 1) := dk_27 (dk_at dksX0_drawn_1 23 rfl rfl)
theorem dX0_drawn_47 : decode cX0_drawn 47 = .ok (.iaload, 1) := dk_46 (dk_at dksX0_drawn_2 0 rfl rfl)
theorem dX0_drawn_48 : decode cX0_drawn 48 = .ok (.goto 4, 3) := dk_167 0 4 (dk_at dksX0_drawn_2 1 rfl rfl)
theorem dX0_drawn_51 : decode cX0_drawn 51 = .ok (.iconst (-1), 1) := dk_2 (dk_at dksX0_drawn_2 4 rfl rfl)
theorem dX0_drawn_52 : decode cX0_drawn 52 = .ok (.ireturn, 1) := dk_172 (dk_at dksX0_drawn_2 5 rfl rfl)
abbrev cX0_image : ByteArray := prog_1_method_84_code
def yX0_image : MethodName := ⟨RX0, "image", "(I)I"⟩
def dkwX0_image_1 : List UInt8 := [180, 0, 18, 182, 1, 185, 83, 42, 3, 182, 0, 132, 172]
abbrev dktX0_image_1 : List UInt8 := dkwX0_image_1 ++ []
def dkwX0_image_0 : List UInt8 := [27, 133, 9, 10, 184, 0, 5, 154, 0, 9, 42, 2, 182, 0, 132, 172, 42, 180, 0, 22, 27, 42]
abbrev dktX0_image_0 : List UInt8 := dkwX0_image_0 ++ dktX0_image_1
theorem dksX0_image_0 : cX0_image.data.toList.drop 0 = dktX0_image_0 := by decide +kernel
theorem dksX0_image_1 : cX0_image.data.toList.drop 22 = dktX0_image_1 := dk_seg dksX0_image_0 22 rfl rfl
theorem dX0_image_0 : decode cX0_image 0 = .ok (.iload_n 1, 1) := dk_27 (dk_at dksX0_image_0 0 rfl rfl)
theorem dX0_image_1 : decode cX0_image 1 = .ok (.i2l, 1) := dk_133 (dk_at dksX0_image_0 1 rfl rfl)
theorem dX0_image_2 : decode cX0_image 2 = .ok (.lconst 0, 1) := dk_9 (dk_at dksX0_image_0 2 rfl rfl)
theorem dX0_image_3 : decode cX0_image 3 = .ok (.lconst 1, 1) := dk_10 (dk_at dksX0_image_0 3 rfl rfl)
theorem dX0_image_4 : decode cX0_image 4 = .ok (.invokestatic 5, 3) := dk_184 0 5 (dk_at dksX0_image_0 4 rfl rfl)
theorem dX0_image_7 : decode cX0_image 7 = .ok (.ifCond .ne 9, 3) := dk_154 0 9 (dk_at dksX0_image_0 7 rfl rfl)
theorem dX0_image_10 : decode cX0_image 10 = .ok (.aload_n 0, 1) := dk_42 (dk_at dksX0_image_0 10 rfl rfl)
theorem dX0_image_11 : decode cX0_image 11 = .ok (.iconst (-1), 1) := dk_2 (dk_at dksX0_image_0 11 rfl rfl)
theorem dX0_image_12 : decode cX0_image 12 = .ok (.invokevirtual 132, 3) := dk_182 0 132 (dk_at dksX0_image_0 12 rfl rfl)
theorem dX0_image_15 : decode cX0_image 15 = .ok (.ireturn, 1) := dk_172 (dk_at dksX0_image_0 15 rfl rfl)
theorem dX0_image_16 : decode cX0_image 16 = .ok (.aload_n 0, 1) := dk_42 (dk_at dksX0_image_0 16 rfl rfl)
theorem dX0_image_17 : decode cX0_image 17 = .ok (.getfield 22, 3) := dk_180 0 22 (dk_at dksX0_image_0 17 rfl rfl)
theorem dX0_image_20 : decode cX0_image 20 = .ok (.iload_n 1, 1) := dk_27 (dk_at dksX0_image_0 20 rfl rfl)
theorem dX0_image_21 : decode cX0_image 21 = .ok (.aload_n 0, 1) := dk_42 (dk_at dksX0_image_0 21 rfl rfl)
theorem dX0_image_22 : decode cX0_image 22 = .ok (.getfield 18, 3) := dk_180 0 18 (dk_at dksX0_image_1 0 rfl rfl)
theorem dX0_image_25 : decode cX0_image 25 = .ok (.invokevirtual 441, 3) := dk_182 1 185 (dk_at dksX0_image_1 3 rfl rfl)
theorem dX0_image_28 : decode cX0_image 28 = .ok (.aastore, 1) := dk_83 (dk_at dksX0_image_1 6 rfl rfl)
theorem dX0_image_29 : decode cX0_image 29 = .ok (.aload_n 0, 1) := dk_42 (dk_at dksX0_image_1 7 rfl rfl)
theorem dX0_image_30 : decode cX0_image 30 = .ok (.iconst 0, 1) := dk_3 (dk_at dksX0_image_1 8 rfl rfl)
theorem dX0_image_31 : decode cX0_image 31 = .ok (.invokevirtual 132, 3) := dk_182 0 132 (dk_at dksX0_image_1 9 rfl rfl)
theorem dX0_image_34 : decode cX0_image 34 = .ok (.ireturn, 1) := dk_172 (dk_at dksX0_image_1 12 rfl rfl)
abbrev cX0_back : ByteArray := prog_1_method_85_code
def yX0_back : MethodName := ⟨RX0, "back", "(I)I"⟩
def dkwX0_back_2 : List UInt8 := [3, 182, 0, 169, 172]
abbrev dktX0_back_2 : List UInt8 := dkwX0_back_2 ++ []
def dkwX0_back_1 : List UInt8 := [199, 0, 10, 42, 16, 254, 182, 0, 132, 172, 42, 42, 180, 0, 22, 27, 50, 182, 1, 185, 181, 0, 18, 42]
abbrev dktX0_back_1 : List UInt8 := dkwX0_back_1 ++ dktX0_back_2
def dkwX0_back_0 : List UInt8 := [27, 133, 9, 10, 184, 0, 5, 154, 0, 9, 42, 2, 182, 0, 132, 172, 42, 180, 0, 22, 27, 50]
abbrev dktX0_back_0 : List UInt8 := dkwX0_back_0 ++ dktX0_back_1
theorem dksX0_back_0 : cX0_back.data.toList.drop 0 = dktX0_back_0 := by decide +kernel
theorem dksX0_back_1 : cX0_back.data.toList.drop 22 = dktX0_back_1 := dk_seg dksX0_back_0 22 rfl rfl
theorem dksX0_back_2 : cX0_back.data.toList.drop 46 = dktX0_back_2 := dk_seg dksX0_back_1 24 rfl rfl
theorem dX0_back_0 : decode cX0_back 0 = .ok (.iload_n 1, 1) := dk_27 (dk_at dksX0_back_0 0 rfl rfl)
theorem dX0_back_1 : decode cX0_back 1 = .ok (.i2l, 1) := dk_133 (dk_at dksX0_back_0 1 rfl rfl)
theorem dX0_back_2 : decode cX0_back 2 = .ok (.lconst 0, 1) := dk_9 (dk_at dksX0_back_0 2 rfl rfl)
theorem dX0_back_3 : decode cX0_back 3 = .ok (.lconst 1, 1) := dk_10 (dk_at dksX0_back_0 3 rfl rfl)
theorem dX0_back_4 : decode cX0_back 4 = .ok (.invokestatic 5, 3) := dk_184 0 5 (dk_at dksX0_back_0 4 rfl rfl)
theorem dX0_back_7 : decode cX0_back 7 = .ok (.ifCond .ne 9, 3) := dk_154 0 9 (dk_at dksX0_back_0 7 rfl rfl)
theorem dX0_back_10 : decode cX0_back 10 = .ok (.aload_n 0, 1) := dk_42 (dk_at dksX0_back_0 10 rfl rfl)
theorem dX0_back_11 : decode cX0_back 11 = .ok (.iconst (-1), 1) := dk_2 (dk_at dksX0_back_0 11 rfl rfl)
theorem dX0_back_12 : decode cX0_back 12 = .ok (.invokevirtual 132, 3) := dk_182 0 132 (dk_at dksX0_back_0 12 rfl rfl)
theorem dX0_back_15 : decode cX0_back 15 = .ok (.ireturn, 1) := dk_172 (dk_at dksX0_back_0 15 rfl rfl)
theorem dX0_back_16 : decode cX0_back 16 = .ok (.aload_n 0, 1) := dk_42 (dk_at dksX0_back_0 16 rfl rfl)
theorem dX0_back_17 : decode cX0_back 17 = .ok (.getfield 22, 3) := dk_180 0 22 (dk_at dksX0_back_0 17 rfl rfl)
theorem dX0_back_20 : decode cX0_back 20 = .ok (.iload_n 1, 1) := dk_27 (dk_at dksX0_back_0 20 rfl rfl)
theorem dX0_back_21 : decode cX0_back 21 = .ok (.aaload, 1) := dk_50 (dk_at dksX0_back_0 21 rfl rfl)
theorem dX0_back_22 : decode cX0_back 22 = .ok (.ifnonnull 10, 3) := dk_199 0 10 (dk_at dksX0_back_1 0 rfl rfl)
theorem dX0_back_25 : decode cX0_back 25 = .ok (.aload_n 0, 1) := dk_42 (dk_at dksX0_back_1 3 rfl rfl)
theorem dX0_back_26 : decode cX0_back 26 = .ok (.bipush (-2), 2) := dk_16 254 (dk_at dksX0_back_1 4 rfl rfl)
theorem dX0_back_28 : decode cX0_back 28 = .ok (.invokevirtual 132, 3) := dk_182 0 132 (dk_at dksX0_back_1 6 rfl rfl)
theorem dX0_back_31 : decode cX0_back 31 = .ok (.ireturn, 1) := dk_172 (dk_at dksX0_back_1 9 rfl rfl)
theorem dX0_back_32 : decode cX0_back 32 = .ok (.aload_n 0, 1) := dk_42 (dk_at dksX0_back_1 10 rfl rfl)
theorem dX0_back_33 : decode cX0_back 33 = .ok (.aload_n 0, 1) := dk_42 (dk_at dksX0_back_1 11 rfl rfl)
theorem dX0_back_34 : decode cX0_back 34 = .ok (.getfield 22, 3) := dk_180 0 22 (dk_at dksX0_back_1 12 rfl rfl)
theorem dX0_back_37 : decode cX0_back 37 = .ok (.iload_n 1, 1) := dk_27 (dk_at dksX0_back_1 15 rfl rfl)
theorem dX0_back_38 : decode cX0_back 38 = .ok (.aaload, 1) := dk_50 (dk_at dksX0_back_1 16 rfl rfl)
theorem dX0_back_39 : decode cX0_back 39 = .ok (.invokevirtual 441, 3) := dk_182 1 185 (dk_at dksX0_back_1 17 rfl rfl)
theorem dX0_back_42 : decode cX0_back 42 = .ok (.putfield 18, 3) := dk_181 0 18 (dk_at dksX0_back_1 20 rfl rfl)
theorem dX0_back_45 : decode cX0_back 45 = .ok (.aload_n 0, 1) := dk_42 (dk_at dksX0_back_1 23 rfl rfl)
theorem dX0_back_46 : decode cX0_back 46 = .ok (.iconst 0, 1) := dk_3 (dk_at dksX0_back_2 0 rfl rfl)
theorem dX0_back_47 : decode cX0_back 47 = .ok (.invokevirtual 169, 3) := dk_182 0 169 (dk_at dksX0_back_2 1 rfl rfl)
theorem dX0_back_50 : decode cX0_back 50 = .ok (.ireturn, 1) := dk_172 (dk_at dksX0_back_2 4 rfl rfl)
abbrev cX0_count : ByteArray := prog_1_method_86_code
def yX0_count : MethodName := ⟨RX0, "count", "(I)I"⟩
def dkwX0_count_6 : List UInt8 := [184, 0, 5, 153, 0, 14, 42, 27, 16, 12, 100, 182, 0, 206, 167, 0, 4, 2, 172]
abbrev dktX0_count_6 : List UInt8 := dkwX0_count_6 ++ []
def dkwX0_count_5 : List UInt8 := [42, 180, 0, 67, 16, 6, 46, 172, 42, 180, 0, 18, 180, 1, 1, 172, 27, 133, 20, 1, 189, 20, 1, 191]
abbrev dktX0_count_5 : List UInt8 := dkwX0_count_5 ++ dktX0_count_6
def dkwX0_count_4 : List UInt8 := [4, 46, 172, 42, 180, 0, 67, 5, 46, 172, 42, 180, 0, 67, 6, 46, 172, 42, 180, 0, 67, 8, 46, 172]
abbrev dktX0_count_4 : List UInt8 := dkwX0_count_4 ++ dktX0_count_5
def dkwX0_count_3 : List UInt8 := [180, 0, 227, 182, 0, 231, 172, 42, 180, 0, 29, 180, 0, 129, 172, 42, 180, 0, 146, 172, 42, 180, 0, 67]
abbrev dktX0_count_3 : List UInt8 := dkwX0_count_3 ++ dktX0_count_4
def dkwX0_count_2 : List UInt8 := [42, 182, 0, 142, 172, 42, 182, 1, 44, 172, 42, 180, 0, 18, 180, 1, 122, 172, 42, 180, 0, 18]
abbrev dktX0_count_2 : List UInt8 := dkwX0_count_2 ++ dktX0_count_3
def dkwX0_count_1 : List UInt8 := [170, 0, 0, 0, 0, 0, 149, 0, 0, 0, 0, 0, 0, 0, 11, 0, 0, 0, 63, 0, 0, 0, 68, 0, 0, 0, 73, 0, 0, 0, 81, 0, 0, 0, 92, 0, 0, 0, 100, 0, 0, 0, 105, 0, 0, 0, 112, 0, 0, 0, 119, 0, 0, 0, 126, 0, 0, 0, 133, 0, 0, 0, 141]
abbrev dktX0_count_1 : List UInt8 := dkwX0_count_1 ++ dktX0_count_2
def dkwX0_count_0 : List UInt8 := [27]
abbrev dktX0_count_0 : List UInt8 := dkwX0_count_0 ++ dktX0_count_1
theorem dksX0_count_0 : cX0_count.data.toList.drop 0 = dktX0_count_0 := by decide +kernel
theorem dksX0_count_1 : cX0_count.data.toList.drop 1 = dktX0_count_1 := dk_seg dksX0_count_0 1 rfl rfl
theorem dksX0_count_2 : cX0_count.data.toList.drop 64 = dktX0_count_2 := dk_seg dksX0_count_1 63 rfl rfl
theorem dksX0_count_3 : cX0_count.data.toList.drop 86 = dktX0_count_3 := dk_seg dksX0_count_2 22 rfl rfl
theorem dksX0_count_4 : cX0_count.data.toList.drop 110 = dktX0_count_4 := dk_seg dksX0_count_3 24 rfl rfl
theorem dksX0_count_5 : cX0_count.data.toList.drop 134 = dktX0_count_5 := dk_seg dksX0_count_4 24 rfl rfl
theorem dksX0_count_6 : cX0_count.data.toList.drop 158 = dktX0_count_6 := dk_seg dksX0_count_5 24 rfl rfl
theorem dX0_count_0 : decode cX0_count 0 = .ok (.iload_n 1, 1) := dk_27 (dk_at dksX0_count_0 0 rfl rfl)
theorem dX0_count_1 : decode cX0_count 1 = .ok (.tableswitch 149 0 11 #[63, 68, 73, 81, 92, 100, 105, 112, 119, 126, 133, 141], 63) := by decide +kernel
theorem dX0_count_64 : decode cX0_count 64 = .ok (.aload_n 0, 1) := dk_42 (dk_at dksX0_count_2 0 rfl rfl)
theorem dX0_count_65 : decode cX0_count 65 = .ok (.invokevirtual 142, 3) := dk_182 0 142 (dk_at dksX0_count_2 1 rfl rfl)
theorem dX0_count_68 : decode cX0_count 68 = .ok (.ireturn, 1) := dk_172 (dk_at dksX0_count_2 4 rfl rfl)
theorem dX0_count_69 : decode cX0_count 69 = .ok (.aload_n 0, 1) := dk_42 (dk_at dksX0_count_2 5 rfl rfl)
theorem dX0_count_70 : decode cX0_count 70 = .ok (.invokevirtual 300, 3) := dk_182 1 44 (dk_at dksX0_count_2 6 rfl rfl)
theorem dX0_count_73 : decode cX0_count 73 = .ok (.ireturn, 1) := dk_172 (dk_at dksX0_count_2 9 rfl rfl)
theorem dX0_count_74 : decode cX0_count 74 = .ok (.aload_n 0, 1) := dk_42 (dk_at dksX0_count_2 10 rfl rfl)
theorem dX0_count_75 : decode cX0_count 75 = .ok (.getfield 18, 3) := dk_180 0 18 (dk_at dksX0_count_2 11 rfl rfl)
theorem dX0_count_78 : decode cX0_count 78 = .ok (.getfield 378, 3) := dk_180 1 122 (dk_at dksX0_count_2 14 rfl rfl)
theorem dX0_count_81 : decode cX0_count 81 = .ok (.ireturn, 1) := dk_172 (dk_at dksX0_count_2 17 rfl rfl)
theorem dX0_count_82 : decode cX0_count 82 = .ok (.aload_n 0, 1) := dk_42 (dk_at dksX0_count_2 18 rfl rfl)
theorem dX0_count_83 : decode cX0_count 83 = .ok (.getfield 18, 3) := dk_180 0 18 (dk_at dksX0_count_2 19 rfl rfl)
theorem dX0_count_86 : decode cX0_count 86 = .ok (.getfield 227, 3) := dk_180 0 227 (dk_at dksX0_count_3 0 rfl rfl)
theorem dX0_count_89 : decode cX0_count 89 = .ok (.invokevirtual 231, 3) := dk_182 0 231 (dk_at dksX0_count_3 3 rfl rfl)
theorem dX0_count_92 : decode cX0_count 92 = .ok (.ireturn, 1) := dk_172 (dk_at dksX0_count_3 6 rfl rfl)
theorem dX0_count_93 : decode cX0_count 93 = .ok (.aload_n 0, 1) := dk_42 (dk_at dksX0_count_3 7 rfl rfl)
theorem dX0_count_94 : decode cX0_count 94 = .ok (.getfield 29, 3) := dk_180 0 29 (dk_at dksX0_count_3 8 rfl rfl)
theorem dX0_count_97 : decode cX0_count 97 = .ok (.getfield 129, 3) := dk_180 0 129 (dk_at dksX0_count_3 11 rfl rfl)
theorem dX0_count_100 : decode cX0_count 100 = .ok (.ireturn, 1) := dk_172 (dk_at dksX0_count_3 14 rfl rfl)
theorem dX0_count_101 : decode cX0_count 101 = .ok (.aload_n 0, 1) := dk_42 (dk_at dksX0_count_3 15 rfl rfl)
theorem dX0_count_102 : decode cX0_count 102 = .ok (.getfield 146, 3) := dk_180 0 146 (dk_at dksX0_count_3 16 rfl rfl)
theorem dX0_count_105 : decode cX0_count 105 = .ok (.ireturn, 1) := dk_172 (dk_at dksX0_count_3 19 rfl rfl)
theorem dX0_count_106 : decode cX0_count 106 = .ok (.aload_n 0, 1) := dk_42 (dk_at dksX0_count_3 20 rfl rfl)
theorem dX0_count_107 : decode cX0_count 107 = .ok (.getfield 67, 3) := dk_180 0 67 (dk_at dksX0_count_3 21 rfl rfl)
theorem dX0_count_110 : decode cX0_count 110 = .ok (.iconst 1, 1) := dk_4 (dk_at dksX0_count_4 0 rfl rfl)
theorem dX0_count_111 : decode cX0_count 111 = .ok (.iaload, 1) := dk_46 (dk_at dksX0_count_4 1 rfl rfl)
theorem dX0_count_112 : decode cX0_count 112 = .ok (.ireturn, 1) := dk_172 (dk_at dksX0_count_4 2 rfl rfl)
theorem dX0_count_113 : decode cX0_count 113 = .ok (.aload_n 0, 1) := dk_42 (dk_at dksX0_count_4 3 rfl rfl)
theorem dX0_count_114 : decode cX0_count 114 = .ok (.getfield 67, 3) := dk_180 0 67 (dk_at dksX0_count_4 4 rfl rfl)
theorem dX0_count_117 : decode cX0_count 117 = .ok (.iconst 2, 1) := dk_5 (dk_at dksX0_count_4 7 rfl rfl)
theorem dX0_count_118 : decode cX0_count 118 = .ok (.iaload, 1) := dk_46 (dk_at dksX0_count_4 8 rfl rfl)
theorem dX0_count_119 : decode cX0_count 119 = .ok (.ireturn, 1) := dk_172 (dk_at dksX0_count_4 9 rfl rfl)
theorem dX0_count_120 : decode cX0_count 120 = .ok (.aload_n 0, 1) := dk_42 (dk_at dksX0_count_4 10 rfl rfl)
theorem dX0_count_121 : decode cX0_count 121 = .ok (.getfield 67, 3) := dk_180 0 67 (dk_at dksX0_count_4 11 rfl rfl)
theorem dX0_count_124 : decode cX0_count 124 = .ok (.iconst 3, 1) := dk_6 (dk_at dksX0_count_4 14 rfl rfl)
theorem dX0_count_125 : decode cX0_count 125 = .ok (.iaload, 1) := dk_46 (dk_at dksX0_count_4 15 rfl rfl)
theorem dX0_count_126 : decode cX0_count 126 = .ok (.ireturn, 1) := dk_172 (dk_at dksX0_count_4 16 rfl rfl)
theorem dX0_count_127 : decode cX0_count 127 = .ok (.aload_n 0, 1) := dk_42 (dk_at dksX0_count_4 17 rfl rfl)
theorem dX0_count_128 : decode cX0_count 128 = .ok (.getfield 67, 3) := dk_180 0 67 (dk_at dksX0_count_4 18 rfl rfl)
theorem dX0_count_131 : decode cX0_count 131 = .ok (.iconst 5, 1) := dk_8 (dk_at dksX0_count_4 21 rfl rfl)
theorem dX0_count_132 : decode cX0_count 132 = .ok (.iaload, 1) := dk_46 (dk_at dksX0_count_4 22 rfl rfl)
theorem dX0_count_133 : decode cX0_count 133 = .ok (.ireturn, 1) := dk_172 (dk_at dksX0_count_4 23 rfl rfl)
theorem dX0_count_134 : decode cX0_count 134 = .ok (.aload_n 0, 1) := dk_42 (dk_at dksX0_count_5 0 rfl rfl)
theorem dX0_count_135 : decode cX0_count 135 = .ok (.getfield 67, 3) := dk_180 0 67 (dk_at dksX0_count_5 1 rfl rfl)
theorem dX0_count_138 : decode cX0_count 138 = .ok (.bipush 6, 2) := dk_16 6 (dk_at dksX0_count_5 4 rfl rfl)
theorem dX0_count_140 : decode cX0_count 140 = .ok (.iaload, 1) := dk_46 (dk_at dksX0_count_5 6 rfl rfl)
theorem dX0_count_141 : decode cX0_count 141 = .ok (.ireturn, 1) := dk_172 (dk_at dksX0_count_5 7 rfl rfl)
theorem dX0_count_142 : decode cX0_count 142 = .ok (.aload_n 0, 1) := dk_42 (dk_at dksX0_count_5 8 rfl rfl)
theorem dX0_count_143 : decode cX0_count 143 = .ok (.getfield 18, 3) := dk_180 0 18 (dk_at dksX0_count_5 9 rfl rfl)
theorem dX0_count_146 : decode cX0_count 146 = .ok (.getfield 257, 3) := dk_180 1 1 (dk_at dksX0_count_5 12 rfl rfl)
theorem dX0_count_149 : decode cX0_count 149 = .ok (.ireturn, 1) := dk_172 (dk_at dksX0_count_5 15 rfl rfl)
theorem dX0_count_150 : decode cX0_count 150 = .ok (.iload_n 1, 1) := dk_27 (dk_at dksX0_count_5 16 rfl rfl)
theorem dX0_count_151 : decode cX0_count 151 = .ok (.i2l, 1) := dk_133 (dk_at dksX0_count_5 17 rfl rfl)
theorem dX0_count_152 : decode cX0_count 152 = .ok (.ldc2_w 445, 3) := dk_20 1 189 (dk_at dksX0_count_5 18 rfl rfl)
theorem dX0_count_155 : decode cX0_count 155 = .ok (.ldc2_w 447, 3) := dk_20 1 191 (dk_at dksX0_count_5 21 rfl rfl)
theorem dX0_count_158 : decode cX0_count 158 = .ok (.invokestatic 5, 3) := dk_184 0 5 (dk_at dksX0_count_6 0 rfl rfl)
theorem dX0_count_161 : decode cX0_count 161 = .ok (.ifCond .eq 14, 3) := dk_153 0 14 (dk_at dksX0_count_6 3 rfl rfl)
theorem dX0_count_164 : decode cX0_count 164 = .ok (.aload_n 0, 1) := dk_42 (dk_at dksX0_count_6 6 rfl rfl)
theorem dX0_count_165 : decode cX0_count 165 = .ok (.iload_n 1, 1) := dk_27 (dk_at dksX0_count_6 7 rfl rfl)
theorem dX0_count_166 : decode cX0_count 166 = .ok (.bipush 12, 2) := dk_16 12 (dk_at dksX0_count_6 8 rfl rfl)
theorem dX0_count_168 : decode cX0_count 168 = .ok (.isub, 1) := dk_100 (dk_at dksX0_count_6 10 rfl rfl)
theorem dX0_count_169 : decode cX0_count 169 = .ok (.invokevirtual 206, 3) := dk_182 0 206 (dk_at dksX0_count_6 11 rfl rfl)
theorem dX0_count_172 : decode cX0_count 172 = .ok (.goto 4, 3) := dk_167 0 4 (dk_at dksX0_count_6 14 rfl rfl)
theorem dX0_count_175 : decode cX0_count 175 = .ok (.iconst (-1), 1) := dk_2 (dk_at dksX0_count_6 17 rfl rfl)
theorem dX0_count_176 : decode cX0_count 176 = .ok (.ireturn, 1) := dk_172 (dk_at dksX0_count_6 18 rfl rfl)
abbrev cX0_status : ByteArray := prog_1_method_87_code
def yX0_status : MethodName := ⟨RX0, "status", "()I"⟩
theorem dX0_status_0 : decode cX0_status 0 = .ok (.aload_n 0, 1) := by decide +kernel
theorem dX0_status_1 : decode cX0_status 1 = .ok (.getfield 126, 3) := by decide +kernel
theorem dX0_status_4 : decode cX0_status 4 = .ok (.ireturn, 1) := by decide +kernel
theorem q130 : (Jvm.Cond.initialized "CounterDesk") ∈ lw_all := lw_g (lw_at lw_m1 1 rfl) rfl
theorem q171 : (Jvm.Cond.instantiable "CounterDesk" (28 : Nat)) ∈ lw_all := lw_g (lw_at lw_m1 42 rfl) rfl
theorem q173 : (Jvm.Cond.instanceMethod ({ cls := "CounterDesk", name := "<init>", desc := "()V" } : Jvm.MethodName)) ∈ lw_all := lw_g (lw_at lw_m1 44 rfl) rfl
theorem q174 : (Jvm.Cond.code ({ cls := "CounterDesk", name := "<init>", desc := "()V" } : Jvm.MethodName) prog_1_method_4_code (1 : Nat) (Option.none : Option Jvm.ClassFile.FieldType)) ∈ lw_all := lw_g (lw_at lw_m1 45 rfl) rfl
theorem q175 : (Jvm.Cond.methodLink "CounterDesk" (9 : Nat) ({ cls := "java/lang/Object", name := "<init>", desc := "()V" } : Jvm.MethodName)) ∈ lw_all := lw_g (lw_at lw_m1 46 rfl) rfl
theorem q178 : (Jvm.Cond.classLink "CounterDesk" (15 : Nat) "CounterDesk$Desk") ∈ lw_all := lw_g (lw_at lw_m1 49 rfl) rfl
theorem q180 : (Jvm.Cond.methodLinkNest "CounterDesk" (17 : Nat) ({ cls := "CounterDesk$Desk", name := "<init>", desc := "()V" } : Jvm.MethodName) "CounterDesk") ∈ lw_tbl := lw_at lw_m1 51 rfl
theorem q220 : (Jvm.Cond.fieldLinkNest "CounterDesk" (160 : Nat) "CounterDesk$Books" "under" "[I" "CounterDesk") ∈ lw_tbl := lw_at lw_m1 91 rfl
theorem q223 : (Jvm.Cond.fieldLinkNest "CounterDesk" (163 : Nat) "CounterDesk$Books" "here" "[I" "CounterDesk") ∈ lw_tbl := lw_at lw_m1 94 rfl
theorem q226 : (Jvm.Cond.fieldLinkNest "CounterDesk" (196 : Nat) "CounterDesk$Books" "day" "I" "CounterDesk") ∈ lw_tbl := lw_at lw_m1 97 rfl
theorem q229 : (Jvm.Cond.fieldLinkNest "CounterDesk" (333 : Nat) "CounterDesk$Books" "sort" "I" "CounterDesk") ∈ lw_tbl := lw_at lw_m1 100 rfl
theorem q241 : (Jvm.Cond.fieldLinkNest "CounterDesk" (227 : Nat) "CounterDesk$Desk" "laws" "Ljava/util/ArrayList;" "CounterDesk") ∈ lw_tbl := lw_at lw_m1 112 rfl
theorem q243 : (Jvm.Cond.fieldLinkNest "CounterDesk" (199 : Nat) "CounterDesk$Desk" "terms" "[I" "CounterDesk") ∈ lw_tbl := lw_at lw_m1 114 rfl
theorem q245 : (Jvm.Cond.fieldLinkNest "CounterDesk" (381 : Nat) "CounterDesk$Desk" "heard" "[[I" "CounterDesk") ∈ lw_tbl := lw_at lw_m1 116 rfl
theorem q247 : (Jvm.Cond.fieldLinkNest "CounterDesk" (136 : Nat) "CounterDesk$Desk" "books" "LCounterDesk$Books;" "CounterDesk") ∈ lw_tbl := lw_at lw_m1 118 rfl
theorem q249 : (Jvm.Cond.fieldLinkNest "CounterDesk" (139 : Nat) "CounterDesk$Desk" "notes" "I" "CounterDesk") ∈ lw_tbl := lw_at lw_m1 120 rfl
theorem q251 : (Jvm.Cond.fieldLinkNest "CounterDesk" (378 : Nat) "CounterDesk$Desk" "nHeard" "I" "CounterDesk") ∈ lw_tbl := lw_at lw_m1 122 rfl
theorem q253 : (Jvm.Cond.fieldLinkNest "CounterDesk" (257 : Nat) "CounterDesk$Desk" "inForce" "I" "CounterDesk") ∈ lw_tbl := lw_at lw_m1 124 rfl
theorem q270 : (Jvm.Cond.classLink "CounterDesk" (26 : Nat) "CounterDesk$Steps") ∈ lw_all := lw_g (lw_at lw_m1 141 rfl) rfl
theorem q272 : (Jvm.Cond.methodLink "CounterDesk" (28 : Nat) ({ cls := "CounterDesk$Steps", name := "<init>", desc := "()V" } : Jvm.MethodName)) ∈ lw_all := lw_g (lw_at lw_m1 143 rfl) rfl
theorem q280 : (Jvm.Cond.fieldLinkNest "CounterDesk" (325 : Nat) "CounterDesk$Steps" "row" "[LCounterDesk$Books;" "CounterDesk") ∈ lw_tbl := lw_at lw_m1 151 rfl
theorem q282 : (Jvm.Cond.fieldLinkNest "CounterDesk" (129 : Nat) "CounterDesk$Steps" "n" "I" "CounterDesk") ∈ lw_tbl := lw_at lw_m1 153 rfl
theorem q288 : (Jvm.Cond.classLink "CounterDesk" (36 : Nat) "CounterDesk$Books") ∈ lw_all := lw_g (lw_at lw_m1 159 rfl) rfl
theorem q289 : (Jvm.Cond.methodLinkNest "CounterDesk" (38 : Nat) ({ cls := "CounterDesk$Books", name := "<init>", desc := "()V" } : Jvm.MethodName) "CounterDesk") ∈ lw_tbl := lw_at lw_m1 160 rfl
theorem q290 : (Jvm.Cond.classLink "CounterDesk" (46 : Nat) "CounterDesk$Asked") ∈ lw_all := lw_g (lw_at lw_m1 161 rfl) rfl
theorem q292 : (Jvm.Cond.methodLinkNest "CounterDesk" (48 : Nat) ({ cls := "CounterDesk$Asked", name := "<init>", desc := "()V" } : Jvm.MethodName) "CounterDesk") ∈ lw_tbl := lw_at lw_m1 163 rfl
theorem q299 : (Jvm.Cond.fieldLinkNest "CounterDesk" (264 : Nat) "CounterDesk$Asked" "numbers" "[J" "CounterDesk") ∈ lw_tbl := lw_at lw_m1 170 rfl
theorem q313 : (Jvm.Cond.classLink "CounterDesk" (56 : Nat) "CounterDesk$Text") ∈ lw_all := lw_g (lw_at lw_m1 184 rfl) rfl
theorem q315 : (Jvm.Cond.classLink "CounterDesk" (58 : Nat) "CounterDesk$Clause") ∈ lw_all := lw_g (lw_at lw_m1 186 rfl) rfl
theorem q317 : (Jvm.Cond.methodLink "CounterDesk" (60 : Nat) ({ cls := "CounterDesk$Text", name := "<init>", desc := "([LCounterDesk$Clause;)V" } : Jvm.MethodName)) ∈ lw_all := lw_g (lw_at lw_m1 188 rfl) rfl
theorem q325 : (Jvm.Cond.classLink "CounterDesk" (82 : Nat) "[[[Z") ∈ lw_all := lw_g (lw_at lw_m1 196 rfl) rfl
theorem q328 : (Jvm.Cond.classLink "CounterDesk" (87 : Nat) "[[[I") ∈ lw_all := lw_g (lw_at lw_m1 199 rfl) rfl
theorem q330 : (Jvm.Cond.classLink "CounterDesk" (95 : Nat) "[[I") ∈ lw_all := lw_g (lw_at lw_m1 201 rfl) rfl
theorem q331 : (Jvm.Cond.classLink "CounterDesk" (106 : Nat) "[[J") ∈ lw_all := lw_g (lw_at lw_m1 202 rfl) rfl
theorem q333 : (Jvm.Cond.fieldLink "CounterDesk" (18 : Nat) "CounterDesk" "desk" "LCounterDesk$Desk;") ∈ lw_all := lw_g (lw_at lw_m1 204 rfl) rfl
theorem q334 : (Jvm.Cond.fieldLink "CounterDesk" (22 : Nat) "CounterDesk" "images" "[LCounterDesk$Desk;") ∈ lw_all := lw_g (lw_at lw_m1 205 rfl) rfl
theorem q335 : (Jvm.Cond.fieldLink "CounterDesk" (29 : Nat) "CounterDesk" "undos" "LCounterDesk$Steps;") ∈ lw_all := lw_g (lw_at lw_m1 206 rfl) rfl
theorem q336 : (Jvm.Cond.fieldLink "CounterDesk" (33 : Nat) "CounterDesk" "before" "LCounterDesk$Steps;") ∈ lw_all := lw_g (lw_at lw_m1 207 rfl) rfl
theorem q337 : (Jvm.Cond.fieldLink "CounterDesk" (39 : Nat) "CounterDesk" "ahead" "LCounterDesk$Books;") ∈ lw_all := lw_g (lw_at lw_m1 208 rfl) rfl
theorem q338 : (Jvm.Cond.fieldLink "CounterDesk" (43 : Nat) "CounterDesk" "real" "LCounterDesk$Books;") ∈ lw_all := lw_g (lw_at lw_m1 209 rfl) rfl
theorem q339 : (Jvm.Cond.fieldLink "CounterDesk" (49 : Nat) "CounterDesk" "asked" "LCounterDesk$Asked;") ∈ lw_all := lw_g (lw_at lw_m1 210 rfl) rfl
theorem q341 : (Jvm.Cond.fieldLink "CounterDesk" (53 : Nat) "CounterDesk" "inOrders" "LCounterDesk$Asked;") ∈ lw_all := lw_g (lw_at lw_m1 212 rfl) rfl
theorem q342 : (Jvm.Cond.fieldLink "CounterDesk" (63 : Nat) "CounterDesk" "nothingTold" "LCounterDesk$Text;") ∈ lw_all := lw_g (lw_at lw_m1 213 rfl) rfl
theorem q343 : (Jvm.Cond.fieldLink "CounterDesk" (67 : Nat) "CounterDesk" "refused" "[I") ∈ lw_all := lw_g (lw_at lw_m1 214 rfl) rfl
theorem q344 : (Jvm.Cond.fieldLink "CounterDesk" (126 : Nat) "CounterDesk" "status" "I") ∈ lw_all := lw_g (lw_at lw_m1 215 rfl) rfl
theorem q345 : (Jvm.Cond.fieldLink "CounterDesk" (71 : Nat) "CounterDesk" "fault" "I") ∈ lw_all := lw_g (lw_at lw_m1 216 rfl) rfl
theorem q346 : (Jvm.Cond.fieldLink "CounterDesk" (218 : Nat) "CounterDesk" "blots" "I") ∈ lw_all := lw_g (lw_at lw_m1 217 rfl) rfl
theorem q347 : (Jvm.Cond.fieldLink "CounterDesk" (75 : Nat) "CounterDesk" "stopped" "I") ∈ lw_all := lw_g (lw_at lw_m1 218 rfl) rfl
theorem q350 : (Jvm.Cond.fieldLink "CounterDesk" (78 : Nat) "CounterDesk" "tape" "[B") ∈ lw_all := lw_g (lw_at lw_m1 221 rfl) rfl
theorem q352 : (Jvm.Cond.fieldLink "CounterDesk" (146 : Nat) "CounterDesk" "taped" "I") ∈ lw_all := lw_g (lw_at lw_m1 223 rfl) rfl
theorem q353 : (Jvm.Cond.fieldLink "CounterDesk" (84 : Nat) "CounterDesk" "goes" "[[[Z") ∈ lw_all := lw_g (lw_at lw_m1 224 rfl) rfl
theorem q354 : (Jvm.Cond.fieldLink "CounterDesk" (89 : Nat) "CounterDesk" "price" "[[[I") ∈ lw_all := lw_g (lw_at lw_m1 225 rfl) rfl
theorem q355 : (Jvm.Cond.fieldLink "CounterDesk" (92 : Nat) "CounterDesk" "gain" "[[[I") ∈ lw_all := lw_g (lw_at lw_m1 226 rfl) rfl
theorem q356 : (Jvm.Cond.fieldLink "CounterDesk" (97 : Nat) "CounterDesk" "least" "[[I") ∈ lw_all := lw_g (lw_at lw_m1 227 rfl) rfl
theorem q357 : (Jvm.Cond.fieldLink "CounterDesk" (100 : Nat) "CounterDesk" "most" "[[I") ∈ lw_all := lw_g (lw_at lw_m1 228 rfl) rfl
theorem q358 : (Jvm.Cond.fieldLink "CounterDesk" (103 : Nat) "CounterDesk" "fewest" "[[I") ∈ lw_all := lw_g (lw_at lw_m1 229 rfl) rfl
theorem q359 : (Jvm.Cond.fieldLink "CounterDesk" (108 : Nat) "CounterDesk" "many" "[[J") ∈ lw_all := lw_g (lw_at lw_m1 230 rfl) rfl
theorem q360 : (Jvm.Cond.fieldLink "CounterDesk" (111 : Nat) "CounterDesk" "alike" "[I") ∈ lw_all := lw_g (lw_at lw_m1 231 rfl) rfl
theorem q362 : (Jvm.Cond.fieldLink "CounterDesk" (411 : Nat) "CounterDesk" "done" "I") ∈ lw_all := lw_g (lw_at lw_m1 233 rfl) rfl
theorem q364 : (Jvm.Cond.fieldLink "CounterDesk" (423 : Nat) "CounterDesk" "latest" "I") ∈ lw_all := lw_g (lw_at lw_m1 235 rfl) rfl
theorem q365 : (Jvm.Cond.fieldLink "CounterDesk" (114 : Nat) "CounterDesk" "drawn" "LCounterDesk$Books;") ∈ lw_all := lw_g (lw_at lw_m1 236 rfl) rfl
theorem q366 : (Jvm.Cond.fieldLink "CounterDesk" (117 : Nat) "CounterDesk" "drawnNotes" "I") ∈ lw_all := lw_g (lw_at lw_m1 237 rfl) rfl
theorem q367 : (Jvm.Cond.lays "CounterDesk" "CounterDesk" "desk" "LCounterDesk$Desk;") ∈ lw_all := lw_g (lw_at lw_m1 238 rfl) rfl
theorem q368 : (Jvm.Cond.soleField "CounterDesk" "desk") ∈ lw_all := lw_g (lw_at lw_m1 239 rfl) rfl
theorem q369 : (Jvm.Cond.laysFinal "CounterDesk" "CounterDesk" "images" "[LCounterDesk$Desk;") ∈ lw_all := lw_g (lw_at lw_m2 0 rfl) rfl
theorem q370 : (Jvm.Cond.soleField "CounterDesk" "images") ∈ lw_all := lw_g (lw_at lw_m2 1 rfl) rfl
theorem q371 : (Jvm.Cond.laysFinal "CounterDesk" "CounterDesk" "undos" "LCounterDesk$Steps;") ∈ lw_all := lw_g (lw_at lw_m2 2 rfl) rfl
theorem q372 : (Jvm.Cond.soleField "CounterDesk" "undos") ∈ lw_all := lw_g (lw_at lw_m2 3 rfl) rfl
theorem q373 : (Jvm.Cond.laysFinal "CounterDesk" "CounterDesk" "before" "LCounterDesk$Steps;") ∈ lw_all := lw_g (lw_at lw_m2 4 rfl) rfl
theorem q374 : (Jvm.Cond.soleField "CounterDesk" "before") ∈ lw_all := lw_g (lw_at lw_m2 5 rfl) rfl
theorem q375 : (Jvm.Cond.laysFinal "CounterDesk" "CounterDesk" "ahead" "LCounterDesk$Books;") ∈ lw_all := lw_g (lw_at lw_m2 6 rfl) rfl
theorem q376 : (Jvm.Cond.soleField "CounterDesk" "ahead") ∈ lw_all := lw_g (lw_at lw_m2 7 rfl) rfl
theorem q377 : (Jvm.Cond.laysFinal "CounterDesk" "CounterDesk" "real" "LCounterDesk$Books;") ∈ lw_all := lw_g (lw_at lw_m2 8 rfl) rfl
theorem q378 : (Jvm.Cond.soleField "CounterDesk" "real") ∈ lw_all := lw_g (lw_at lw_m2 9 rfl) rfl
theorem q379 : (Jvm.Cond.laysFinal "CounterDesk" "CounterDesk" "asked" "LCounterDesk$Asked;") ∈ lw_all := lw_g (lw_at lw_m2 10 rfl) rfl
theorem q380 : (Jvm.Cond.soleField "CounterDesk" "asked") ∈ lw_all := lw_g (lw_at lw_m2 11 rfl) rfl
theorem q381 : (Jvm.Cond.laysFinal "CounterDesk" "CounterDesk" "inOrders" "LCounterDesk$Asked;") ∈ lw_all := lw_g (lw_at lw_m2 12 rfl) rfl
theorem q382 : (Jvm.Cond.soleField "CounterDesk" "inOrders") ∈ lw_all := lw_g (lw_at lw_m2 13 rfl) rfl
theorem q383 : (Jvm.Cond.laysFinal "CounterDesk" "CounterDesk" "nothingTold" "LCounterDesk$Text;") ∈ lw_all := lw_g (lw_at lw_m2 14 rfl) rfl
theorem q384 : (Jvm.Cond.soleField "CounterDesk" "nothingTold") ∈ lw_all := lw_g (lw_at lw_m2 15 rfl) rfl
theorem q385 : (Jvm.Cond.laysFinal "CounterDesk" "CounterDesk" "refused" "[I") ∈ lw_all := lw_g (lw_at lw_m2 16 rfl) rfl
theorem q386 : (Jvm.Cond.soleField "CounterDesk" "refused") ∈ lw_all := lw_g (lw_at lw_m2 17 rfl) rfl
theorem q387 : (Jvm.Cond.lays "CounterDesk" "CounterDesk" "status" "I") ∈ lw_all := lw_g (lw_at lw_m2 18 rfl) rfl
theorem q388 : (Jvm.Cond.soleField "CounterDesk" "status") ∈ lw_all := lw_g (lw_at lw_m2 19 rfl) rfl
theorem q389 : (Jvm.Cond.lays "CounterDesk" "CounterDesk" "fault" "I") ∈ lw_all := lw_g (lw_at lw_m2 20 rfl) rfl
theorem q390 : (Jvm.Cond.soleField "CounterDesk" "fault") ∈ lw_all := lw_g (lw_at lw_m2 21 rfl) rfl
theorem q391 : (Jvm.Cond.lays "CounterDesk" "CounterDesk" "blots" "I") ∈ lw_all := lw_g (lw_at lw_m2 22 rfl) rfl
theorem q392 : (Jvm.Cond.soleField "CounterDesk" "blots") ∈ lw_all := lw_g (lw_at lw_m2 23 rfl) rfl
theorem q393 : (Jvm.Cond.lays "CounterDesk" "CounterDesk" "stopped" "I") ∈ lw_all := lw_g (lw_at lw_m2 24 rfl) rfl
theorem q394 : (Jvm.Cond.soleField "CounterDesk" "stopped") ∈ lw_all := lw_g (lw_at lw_m2 25 rfl) rfl
theorem q395 : (Jvm.Cond.laysFinal "CounterDesk" "CounterDesk" "tape" "[B") ∈ lw_all := lw_g (lw_at lw_m2 26 rfl) rfl
theorem q396 : (Jvm.Cond.soleField "CounterDesk" "tape") ∈ lw_all := lw_g (lw_at lw_m2 27 rfl) rfl
theorem q397 : (Jvm.Cond.lays "CounterDesk" "CounterDesk" "taped" "I") ∈ lw_all := lw_g (lw_at lw_m2 28 rfl) rfl
theorem q398 : (Jvm.Cond.soleField "CounterDesk" "taped") ∈ lw_all := lw_g (lw_at lw_m2 29 rfl) rfl
theorem q399 : (Jvm.Cond.laysFinal "CounterDesk" "CounterDesk" "goes" "[[[Z") ∈ lw_all := lw_g (lw_at lw_m2 30 rfl) rfl
theorem q400 : (Jvm.Cond.soleField "CounterDesk" "goes") ∈ lw_all := lw_g (lw_at lw_m2 31 rfl) rfl
theorem q401 : (Jvm.Cond.laysFinal "CounterDesk" "CounterDesk" "price" "[[[I") ∈ lw_all := lw_g (lw_at lw_m2 32 rfl) rfl
theorem q402 : (Jvm.Cond.soleField "CounterDesk" "price") ∈ lw_all := lw_g (lw_at lw_m2 33 rfl) rfl
theorem q403 : (Jvm.Cond.laysFinal "CounterDesk" "CounterDesk" "gain" "[[[I") ∈ lw_all := lw_g (lw_at lw_m2 34 rfl) rfl
theorem q404 : (Jvm.Cond.soleField "CounterDesk" "gain") ∈ lw_all := lw_g (lw_at lw_m2 35 rfl) rfl
theorem q405 : (Jvm.Cond.laysFinal "CounterDesk" "CounterDesk" "least" "[[I") ∈ lw_all := lw_g (lw_at lw_m2 36 rfl) rfl
theorem q406 : (Jvm.Cond.soleField "CounterDesk" "least") ∈ lw_all := lw_g (lw_at lw_m2 37 rfl) rfl
theorem q407 : (Jvm.Cond.laysFinal "CounterDesk" "CounterDesk" "most" "[[I") ∈ lw_all := lw_g (lw_at lw_m2 38 rfl) rfl
theorem q408 : (Jvm.Cond.soleField "CounterDesk" "most") ∈ lw_all := lw_g (lw_at lw_m2 39 rfl) rfl
theorem q409 : (Jvm.Cond.laysFinal "CounterDesk" "CounterDesk" "fewest" "[[I") ∈ lw_all := lw_g (lw_at lw_m2 40 rfl) rfl
theorem q410 : (Jvm.Cond.soleField "CounterDesk" "fewest") ∈ lw_all := lw_g (lw_at lw_m2 41 rfl) rfl
theorem q411 : (Jvm.Cond.laysFinal "CounterDesk" "CounterDesk" "many" "[[J") ∈ lw_all := lw_g (lw_at lw_m2 42 rfl) rfl
theorem q412 : (Jvm.Cond.soleField "CounterDesk" "many") ∈ lw_all := lw_g (lw_at lw_m2 43 rfl) rfl
theorem q413 : (Jvm.Cond.laysFinal "CounterDesk" "CounterDesk" "alike" "[I") ∈ lw_all := lw_g (lw_at lw_m2 44 rfl) rfl
theorem q414 : (Jvm.Cond.soleField "CounterDesk" "alike") ∈ lw_all := lw_g (lw_at lw_m2 45 rfl) rfl
theorem q415 : (Jvm.Cond.lays "CounterDesk" "CounterDesk" "done" "I") ∈ lw_all := lw_g (lw_at lw_m2 46 rfl) rfl
theorem q416 : (Jvm.Cond.soleField "CounterDesk" "done") ∈ lw_all := lw_g (lw_at lw_m2 47 rfl) rfl
theorem q417 : (Jvm.Cond.lays "CounterDesk" "CounterDesk" "latest" "I") ∈ lw_all := lw_g (lw_at lw_m2 48 rfl) rfl
theorem q418 : (Jvm.Cond.soleField "CounterDesk" "latest") ∈ lw_all := lw_g (lw_at lw_m2 49 rfl) rfl
theorem q419 : (Jvm.Cond.laysFinal "CounterDesk" "CounterDesk" "drawn" "LCounterDesk$Books;") ∈ lw_all := lw_g (lw_at lw_m2 50 rfl) rfl
theorem q420 : (Jvm.Cond.soleField "CounterDesk" "drawn") ∈ lw_all := lw_g (lw_at lw_m2 51 rfl) rfl
theorem q421 : (Jvm.Cond.lays "CounterDesk" "CounterDesk" "drawnNotes" "I") ∈ lw_all := lw_g (lw_at lw_m2 52 rfl) rfl
theorem q422 : (Jvm.Cond.soleField "CounterDesk" "drawnNotes") ∈ lw_all := lw_g (lw_at lw_m2 53 rfl) rfl
theorem q423 : (Jvm.Cond.superclass "CounterDesk" "java/lang/Object") ∈ lw_all := lw_g (lw_at lw_m2 54 rfl) rfl
theorem q427 : (Jvm.Cond.instanceMethod ({ cls := "CounterDesk", name := "feed", desc := "(IIIII)I" } : Jvm.MethodName)) ∈ lw_all := lw_g (lw_at lw_m2 58 rfl) rfl
theorem q428 : (Jvm.Cond.selects "CounterDesk" ({ cls := "CounterDesk", name := "feed", desc := "(IIIII)I" } : Jvm.MethodName) ({ cls := "CounterDesk", name := "feed", desc := "(IIIII)I" } : Jvm.MethodName)) ∈ lw_all := lw_g (lw_at lw_m2 59 rfl) rfl
theorem q429 : (Jvm.Cond.code ({ cls := "CounterDesk", name := "feed", desc := "(IIIII)I" } : Jvm.MethodName) prog_1_method_12_code (6 : Nat) (Option.some Jvm.ClassFile.FieldType.int)) ∈ lw_all := lw_g (lw_at lw_m2 60 rfl) rfl
theorem q430 : (Jvm.Cond.methodLink "CounterDesk" (149 : Nat) ({ cls := "CounterDesk", name := "four", desc := "(I)V" } : Jvm.MethodName)) ∈ lw_all := lw_g (lw_at lw_m2 61 rfl) rfl
theorem q431 : (Jvm.Cond.privateMethod ({ cls := "CounterDesk", name := "four", desc := "(I)V" } : Jvm.MethodName)) ∈ lw_tbl := lw_at lw_m2 62 rfl
theorem q432 : (Jvm.Cond.instanceMethod ({ cls := "CounterDesk", name := "four", desc := "(I)V" } : Jvm.MethodName)) ∈ lw_all := lw_g (lw_at lw_m2 63 rfl) rfl
theorem q433 : (Jvm.Cond.code ({ cls := "CounterDesk", name := "four", desc := "(I)V" } : Jvm.MethodName) prog_1_method_11_code (3 : Nat) (Option.none : Option Jvm.ClassFile.FieldType)) ∈ lw_all := lw_g (lw_at lw_m2 64 rfl) rfl
theorem q435 : (Jvm.Cond.instanceMethod ({ cls := "CounterDesk", name := "end", desc := "(I)I" } : Jvm.MethodName)) ∈ lw_all := lw_g (lw_at lw_m2 66 rfl) rfl
theorem q436 : (Jvm.Cond.selects "CounterDesk" ({ cls := "CounterDesk", name := "end", desc := "(I)I" } : Jvm.MethodName) ({ cls := "CounterDesk", name := "end", desc := "(I)I" } : Jvm.MethodName)) ∈ lw_all := lw_g (lw_at lw_m2 67 rfl) rfl
theorem q437 : (Jvm.Cond.code ({ cls := "CounterDesk", name := "end", desc := "(I)I" } : Jvm.MethodName) prog_1_method_13_code (2 : Nat) (Option.some Jvm.ClassFile.FieldType.int)) ∈ lw_all := lw_g (lw_at lw_m2 68 rfl) rfl
theorem q438 : (Jvm.Cond.methodLink "CounterDesk" (5 : Nat) ({ cls := "CounterDesk", name := "in", desc := "(JJJ)Z" } : Jvm.MethodName)) ∈ lw_all := lw_g (lw_at lw_m2 69 rfl) rfl
theorem q439 : (Jvm.Cond.static ({ cls := "CounterDesk", name := "in", desc := "(JJJ)Z" } : Jvm.MethodName)) ∈ lw_all := lw_g (lw_at lw_m2 70 rfl) rfl
theorem q440 : (Jvm.Cond.code ({ cls := "CounterDesk", name := "in", desc := "(JJJ)Z" } : Jvm.MethodName) prog_1_method_1_code (6 : Nat) (Option.some Jvm.ClassFile.FieldType.boolean)) ∈ lw_all := lw_g (lw_at lw_m2 71 rfl) rfl
theorem q442 : (Jvm.Cond.instanceMethod ({ cls := "CounterDesk", name := "note", desc := "(II)I" } : Jvm.MethodName)) ∈ lw_all := lw_g (lw_at lw_m2 73 rfl) rfl
theorem q443 : (Jvm.Cond.selects "CounterDesk" ({ cls := "CounterDesk", name := "note", desc := "(II)I" } : Jvm.MethodName) ({ cls := "CounterDesk", name := "note", desc := "(II)I" } : Jvm.MethodName)) ∈ lw_all := lw_g (lw_at lw_m2 74 rfl) rfl
theorem q444 : (Jvm.Cond.code ({ cls := "CounterDesk", name := "note", desc := "(II)I" } : Jvm.MethodName) prog_1_method_17_code (3 : Nat) (Option.some Jvm.ClassFile.FieldType.int)) ∈ lw_all := lw_g (lw_at lw_m2 75 rfl) rfl
theorem q445 : (Jvm.Cond.methodLink "CounterDesk" (166 : Nat) ({ cls := "CounterDesk", name := "come", desc := "(II)I" } : Jvm.MethodName)) ∈ lw_all := lw_g (lw_at lw_m2 76 rfl) rfl
theorem q446 : (Jvm.Cond.privateMethod ({ cls := "CounterDesk", name := "come", desc := "(II)I" } : Jvm.MethodName)) ∈ lw_tbl := lw_at lw_m2 77 rfl
theorem q447 : (Jvm.Cond.instanceMethod ({ cls := "CounterDesk", name := "come", desc := "(II)I" } : Jvm.MethodName)) ∈ lw_all := lw_g (lw_at lw_m2 78 rfl) rfl
theorem q448 : (Jvm.Cond.code ({ cls := "CounterDesk", name := "come", desc := "(II)I" } : Jvm.MethodName) prog_1_method_16_code (4 : Nat) (Option.some Jvm.ClassFile.FieldType.int)) ∈ lw_all := lw_g (lw_at lw_m2 79 rfl) rfl
theorem q449 : (Jvm.Cond.methodLink "CounterDesk" (153 : Nat) ({ cls := "CounterDesk", name := "isPitch", desc := "(I)Z" } : Jvm.MethodName)) ∈ lw_all := lw_g (lw_at lw_m2 80 rfl) rfl
theorem q450 : (Jvm.Cond.static ({ cls := "CounterDesk", name := "isPitch", desc := "(I)Z" } : Jvm.MethodName)) ∈ lw_all := lw_g (lw_at lw_m2 81 rfl) rfl
theorem q451 : (Jvm.Cond.code ({ cls := "CounterDesk", name := "isPitch", desc := "(I)Z" } : Jvm.MethodName) prog_1_method_3_code (1 : Nat) (Option.some Jvm.ClassFile.FieldType.boolean)) ∈ lw_all := lw_g (lw_at lw_m2 82 rfl) rfl
theorem q452 : (Jvm.Cond.constantLong "CounterDesk" (3 : Nat) (24 : Int64)) ∈ lw_all := lw_g (lw_at lw_m2 83 rfl) rfl
theorem q453 : (Jvm.Cond.methodLink "CounterDesk" (142 : Nat) ({ cls := "CounterDesk", name := "nNotes", desc := "()I" } : Jvm.MethodName)) ∈ lw_all := lw_g (lw_at lw_m2 84 rfl) rfl
theorem q454 : (Jvm.Cond.privateMethod ({ cls := "CounterDesk", name := "nNotes", desc := "()I" } : Jvm.MethodName)) ∈ lw_tbl := lw_at lw_m2 85 rfl
theorem q455 : (Jvm.Cond.instanceMethod ({ cls := "CounterDesk", name := "nNotes", desc := "()I" } : Jvm.MethodName)) ∈ lw_all := lw_g (lw_at lw_m2 86 rfl) rfl
theorem q456 : (Jvm.Cond.code ({ cls := "CounterDesk", name := "nNotes", desc := "()I" } : Jvm.MethodName) prog_1_method_9_code (1 : Nat) (Option.some Jvm.ClassFile.FieldType.int)) ∈ lw_all := lw_g (lw_at lw_m2 87 rfl) rfl
theorem q457 : (Jvm.Cond.methodLink "CounterDesk" (157 : Nat) ({ cls := "CounterDesk", name := "books", desc := "()LCounterDesk$Books;" } : Jvm.MethodName)) ∈ lw_all := lw_g (lw_at lw_m2 88 rfl) rfl
theorem q458 : (Jvm.Cond.privateMethod ({ cls := "CounterDesk", name := "books", desc := "()LCounterDesk$Books;" } : Jvm.MethodName)) ∈ lw_tbl := lw_at lw_m2 89 rfl
theorem q459 : (Jvm.Cond.instanceMethod ({ cls := "CounterDesk", name := "books", desc := "()LCounterDesk$Books;" } : Jvm.MethodName)) ∈ lw_all := lw_g (lw_at lw_m2 90 rfl) rfl
theorem q460 : (Jvm.Cond.code ({ cls := "CounterDesk", name := "books", desc := "()LCounterDesk$Books;" } : Jvm.MethodName) prog_1_method_8_code (1 : Nat) (Option.some (Jvm.ClassFile.FieldType.object "CounterDesk$Books"))) ∈ lw_all := lw_g (lw_at lw_m2 91 rfl) rfl
theorem q461 : (Jvm.Cond.methodLink "CounterDesk" (169 : Nat) ({ cls := "CounterDesk", name := "settled", desc := "(I)I" } : Jvm.MethodName)) ∈ lw_all := lw_g (lw_at lw_m2 92 rfl) rfl
theorem q462 : (Jvm.Cond.privateMethod ({ cls := "CounterDesk", name := "settled", desc := "(I)I" } : Jvm.MethodName)) ∈ lw_tbl := lw_at lw_m2 93 rfl
theorem q463 : (Jvm.Cond.instanceMethod ({ cls := "CounterDesk", name := "settled", desc := "(I)I" } : Jvm.MethodName)) ∈ lw_all := lw_g (lw_at lw_m2 94 rfl) rfl
theorem q464 : (Jvm.Cond.code ({ cls := "CounterDesk", name := "settled", desc := "(I)I" } : Jvm.MethodName) prog_1_method_6_code (2 : Nat) (Option.some Jvm.ClassFile.FieldType.int)) ∈ lw_all := lw_g (lw_at lw_m2 95 rfl) rfl
theorem q465 : (Jvm.Cond.methodLink "CounterDesk" (132 : Nat) ({ cls := "CounterDesk", name := "tell", desc := "(I)I" } : Jvm.MethodName)) ∈ lw_all := lw_g (lw_at lw_m2 96 rfl) rfl
theorem q466 : (Jvm.Cond.privateMethod ({ cls := "CounterDesk", name := "tell", desc := "(I)I" } : Jvm.MethodName)) ∈ lw_tbl := lw_at lw_m2 97 rfl
theorem q467 : (Jvm.Cond.instanceMethod ({ cls := "CounterDesk", name := "tell", desc := "(I)I" } : Jvm.MethodName)) ∈ lw_all := lw_g (lw_at lw_m2 98 rfl) rfl
theorem q468 : (Jvm.Cond.code ({ cls := "CounterDesk", name := "tell", desc := "(I)I" } : Jvm.MethodName) prog_1_method_5_code (2 : Nat) (Option.some Jvm.ClassFile.FieldType.int)) ∈ lw_all := lw_g (lw_at lw_m2 99 rfl) rfl
theorem q469 : (Jvm.Cond.methodLink "CounterDesk" (120 : Nat) ({ cls := "java/lang/Math", name := "min", desc := "(II)I" } : Jvm.MethodName)) ∈ lw_all := lw_g (lw_at lw_m2 100 rfl) rfl
theorem q473 : (Jvm.Cond.instanceMethod ({ cls := "CounterDesk", name := "of", desc := "(II)I" } : Jvm.MethodName)) ∈ lw_all := lw_g (lw_at lw_m2 104 rfl) rfl
theorem q474 : (Jvm.Cond.selects "CounterDesk" ({ cls := "CounterDesk", name := "of", desc := "(II)I" } : Jvm.MethodName) ({ cls := "CounterDesk", name := "of", desc := "(II)I" } : Jvm.MethodName)) ∈ lw_all := lw_g (lw_at lw_m2 105 rfl) rfl
theorem q475 : (Jvm.Cond.code ({ cls := "CounterDesk", name := "of", desc := "(II)I" } : Jvm.MethodName) prog_1_method_18_code (3 : Nat) (Option.some Jvm.ClassFile.FieldType.int)) ∈ lw_all := lw_g (lw_at lw_m2 106 rfl) rfl
theorem q476 : (Jvm.Cond.methodLink "CounterDesk" (172 : Nat) ({ cls := "CounterDesk", name := "isNote", desc := "(I)Z" } : Jvm.MethodName)) ∈ lw_all := lw_g (lw_at lw_m2 107 rfl) rfl
theorem q477 : (Jvm.Cond.privateMethod ({ cls := "CounterDesk", name := "isNote", desc := "(I)Z" } : Jvm.MethodName)) ∈ lw_tbl := lw_at lw_m2 108 rfl
theorem q478 : (Jvm.Cond.instanceMethod ({ cls := "CounterDesk", name := "isNote", desc := "(I)Z" } : Jvm.MethodName)) ∈ lw_all := lw_g (lw_at lw_m2 109 rfl) rfl
theorem q479 : (Jvm.Cond.code ({ cls := "CounterDesk", name := "isNote", desc := "(I)Z" } : Jvm.MethodName) prog_1_method_10_code (2 : Nat) (Option.some Jvm.ClassFile.FieldType.boolean)) ∈ lw_all := lw_g (lw_at lw_m2 110 rfl) rfl
theorem q480 : (Jvm.Cond.methodLink "CounterDesk" (175 : Nat) ({ cls := "CounterDesk", name := "costsHere", desc := "(I)I" } : Jvm.MethodName)) ∈ lw_all := lw_g (lw_at lw_m2 111 rfl) rfl
theorem q481 : (Jvm.Cond.privateMethod ({ cls := "CounterDesk", name := "costsHere", desc := "(I)I" } : Jvm.MethodName)) ∈ lw_tbl := lw_at lw_m2 112 rfl
theorem q482 : (Jvm.Cond.instanceMethod ({ cls := "CounterDesk", name := "costsHere", desc := "(I)I" } : Jvm.MethodName)) ∈ lw_all := lw_g (lw_at lw_m2 113 rfl) rfl
theorem q483 : (Jvm.Cond.code ({ cls := "CounterDesk", name := "costsHere", desc := "(I)I" } : Jvm.MethodName) prog_1_method_38_code (2 : Nat) (Option.some Jvm.ClassFile.FieldType.int)) ∈ lw_all := lw_g (lw_at lw_m2 114 rfl) rfl
theorem q484 : (Jvm.Cond.methodLink "CounterDesk" (286 : Nat) ({ cls := "CounterDesk", name := "beforeOf", desc := "(I)I" } : Jvm.MethodName)) ∈ lw_all := lw_g (lw_at lw_m2 115 rfl) rfl
theorem q485 : (Jvm.Cond.privateMethod ({ cls := "CounterDesk", name := "beforeOf", desc := "(I)I" } : Jvm.MethodName)) ∈ lw_tbl := lw_at lw_m2 116 rfl
theorem q486 : (Jvm.Cond.instanceMethod ({ cls := "CounterDesk", name := "beforeOf", desc := "(I)I" } : Jvm.MethodName)) ∈ lw_all := lw_g (lw_at lw_m2 117 rfl) rfl
theorem q487 : (Jvm.Cond.code ({ cls := "CounterDesk", name := "beforeOf", desc := "(I)I" } : Jvm.MethodName) prog_1_method_37_code (2 : Nat) (Option.some Jvm.ClassFile.FieldType.int)) ∈ lw_all := lw_g (lw_at lw_m2 118 rfl) rfl
theorem q488 : (Jvm.Cond.methodLink "CounterDesk" (289 : Nat) ({ cls := "CounterDesk", name := "costs", desc := "(III)I" } : Jvm.MethodName)) ∈ lw_all := lw_g (lw_at lw_m2 119 rfl) rfl
theorem q489 : (Jvm.Cond.privateMethod ({ cls := "CounterDesk", name := "costs", desc := "(III)I" } : Jvm.MethodName)) ∈ lw_tbl := lw_at lw_m2 120 rfl
theorem q490 : (Jvm.Cond.instanceMethod ({ cls := "CounterDesk", name := "costs", desc := "(III)I" } : Jvm.MethodName)) ∈ lw_all := lw_g (lw_at lw_m2 121 rfl) rfl
theorem q491 : (Jvm.Cond.code ({ cls := "CounterDesk", name := "costs", desc := "(III)I" } : Jvm.MethodName) prog_1_method_34_code (4 : Nat) (Option.some Jvm.ClassFile.FieldType.int)) ∈ lw_all := lw_g (lw_at lw_m2 122 rfl) rfl
theorem q492 : (Jvm.Cond.methodLink "CounterDesk" (268 : Nat) ({ cls := "CounterDesk", name := "about", desc := "(III)V" } : Jvm.MethodName)) ∈ lw_all := lw_g (lw_at lw_m2 123 rfl) rfl
theorem q493 : (Jvm.Cond.privateMethod ({ cls := "CounterDesk", name := "about", desc := "(III)V" } : Jvm.MethodName)) ∈ lw_tbl := lw_at lw_m2 124 rfl
theorem q494 : (Jvm.Cond.instanceMethod ({ cls := "CounterDesk", name := "about", desc := "(III)V" } : Jvm.MethodName)) ∈ lw_all := lw_g (lw_at lw_m2 125 rfl) rfl
theorem q495 : (Jvm.Cond.code ({ cls := "CounterDesk", name := "about", desc := "(III)V" } : Jvm.MethodName) prog_1_method_33_code (5 : Nat) (Option.none : Option Jvm.ClassFile.FieldType)) ∈ lw_all := lw_g (lw_at lw_m2 126 rfl) rfl
theorem q496 : (Jvm.Cond.methodLink "CounterDesk" (272 : Nat) ({ cls := "CounterDesk", name := "law1", desc := "()LCounterDesk$Text;" } : Jvm.MethodName)) ∈ lw_all := lw_g (lw_at lw_m2 127 rfl) rfl
theorem q497 : (Jvm.Cond.privateMethod ({ cls := "CounterDesk", name := "law1", desc := "()LCounterDesk$Text;" } : Jvm.MethodName)) ∈ lw_tbl := lw_at lw_m2 128 rfl
theorem q498 : (Jvm.Cond.instanceMethod ({ cls := "CounterDesk", name := "law1", desc := "()LCounterDesk$Text;" } : Jvm.MethodName)) ∈ lw_all := lw_g (lw_at lw_m2 129 rfl) rfl
theorem q499 : (Jvm.Cond.code ({ cls := "CounterDesk", name := "law1", desc := "()LCounterDesk$Text;" } : Jvm.MethodName) prog_1_method_32_code (1 : Nat) (Option.some (Jvm.ClassFile.FieldType.object "CounterDesk$Text"))) ∈ lw_all := lw_g (lw_at lw_m2 130 rfl) rfl
theorem q500 : (Jvm.Cond.methodLink "CounterDesk" (260 : Nat) ({ cls := "java/util/ArrayList", name := "get", desc := "(I)Ljava/lang/Object;" } : Jvm.MethodName)) ∈ lw_all := lw_g (lw_at lw_m2 131 rfl) rfl
theorem q514 : (Jvm.Cond.methodLink "CounterDesk" (275 : Nat) ({ cls := "java/lang/Math", name := "abs", desc := "(I)I" } : Jvm.MethodName)) ∈ lw_all := lw_g (lw_at lw_m2 145 rfl) rfl
theorem q517 : (Jvm.Cond.methodLink "CounterDesk" (278 : Nat) ({ cls := "CounterDesk$Text", name := "tells", desc := "(ILCounterDesk$Asked;II)I" } : Jvm.MethodName)) ∈ lw_all := lw_g (lw_at lw_m2 148 rfl) rfl
theorem q571 : (Jvm.Cond.methodLink "CounterDesk" (178 : Nat) ({ cls := "CounterDesk", name := "earnsHere", desc := "(I)I" } : Jvm.MethodName)) ∈ lw_all := lw_g (lw_at lw_m2 202 rfl) rfl
theorem q572 : (Jvm.Cond.privateMethod ({ cls := "CounterDesk", name := "earnsHere", desc := "(I)I" } : Jvm.MethodName)) ∈ lw_tbl := lw_at lw_m2 203 rfl
theorem q573 : (Jvm.Cond.instanceMethod ({ cls := "CounterDesk", name := "earnsHere", desc := "(I)I" } : Jvm.MethodName)) ∈ lw_all := lw_g (lw_at lw_m2 204 rfl) rfl
theorem q574 : (Jvm.Cond.code ({ cls := "CounterDesk", name := "earnsHere", desc := "(I)I" } : Jvm.MethodName) prog_1_method_39_code (2 : Nat) (Option.some Jvm.ClassFile.FieldType.int)) ∈ lw_all := lw_g (lw_at lw_m2 205 rfl) rfl
theorem q575 : (Jvm.Cond.methodLink "CounterDesk" (293 : Nat) ({ cls := "CounterDesk", name := "earns", desc := "(III)I" } : Jvm.MethodName)) ∈ lw_all := lw_g (lw_at lw_m2 206 rfl) rfl
theorem q576 : (Jvm.Cond.privateMethod ({ cls := "CounterDesk", name := "earns", desc := "(III)I" } : Jvm.MethodName)) ∈ lw_tbl := lw_at lw_m2 207 rfl
theorem q577 : (Jvm.Cond.instanceMethod ({ cls := "CounterDesk", name := "earns", desc := "(III)I" } : Jvm.MethodName)) ∈ lw_all := lw_g (lw_at lw_m2 208 rfl) rfl
theorem q578 : (Jvm.Cond.code ({ cls := "CounterDesk", name := "earns", desc := "(III)I" } : Jvm.MethodName) prog_1_method_35_code (4 : Nat) (Option.some Jvm.ClassFile.FieldType.int)) ∈ lw_all := lw_g (lw_at lw_m2 209 rfl) rfl
theorem q579 : (Jvm.Cond.methodLink "CounterDesk" (181 : Nat) ({ cls := "CounterDesk", name := "isBarredHere", desc := "(I)Z" } : Jvm.MethodName)) ∈ lw_all := lw_g (lw_at lw_m2 210 rfl) rfl
theorem q580 : (Jvm.Cond.privateMethod ({ cls := "CounterDesk", name := "isBarredHere", desc := "(I)Z" } : Jvm.MethodName)) ∈ lw_tbl := lw_at lw_m2 211 rfl
theorem q581 : (Jvm.Cond.instanceMethod ({ cls := "CounterDesk", name := "isBarredHere", desc := "(I)Z" } : Jvm.MethodName)) ∈ lw_all := lw_g (lw_at lw_m2 212 rfl) rfl
theorem q582 : (Jvm.Cond.code ({ cls := "CounterDesk", name := "isBarredHere", desc := "(I)Z" } : Jvm.MethodName) prog_1_method_40_code (2 : Nat) (Option.some Jvm.ClassFile.FieldType.boolean)) ∈ lw_all := lw_g (lw_at lw_m2 213 rfl) rfl
theorem q583 : (Jvm.Cond.methodLink "CounterDesk" (296 : Nat) ({ cls := "CounterDesk", name := "isBarred", desc := "(III)Z" } : Jvm.MethodName)) ∈ lw_all := lw_g (lw_at lw_m2 214 rfl) rfl
theorem q584 : (Jvm.Cond.privateMethod ({ cls := "CounterDesk", name := "isBarred", desc := "(III)Z" } : Jvm.MethodName)) ∈ lw_tbl := lw_at lw_m2 215 rfl
theorem q585 : (Jvm.Cond.instanceMethod ({ cls := "CounterDesk", name := "isBarred", desc := "(III)Z" } : Jvm.MethodName)) ∈ lw_all := lw_g (lw_at lw_m2 216 rfl) rfl
theorem q586 : (Jvm.Cond.code ({ cls := "CounterDesk", name := "isBarred", desc := "(III)Z" } : Jvm.MethodName) prog_1_method_36_code (4 : Nat) (Option.some Jvm.ClassFile.FieldType.boolean)) ∈ lw_all := lw_g (lw_at lw_m2 217 rfl) rfl
theorem q587 : (Jvm.Cond.methodLink "CounterDesk" (282 : Nat) ({ cls := "CounterDesk$Text", name := "has", desc := "(ILCounterDesk$Asked;)Z" } : Jvm.MethodName)) ∈ lw_all := lw_g (lw_at lw_m2 218 rfl) rfl
theorem q592 : (Jvm.Cond.instanceMethod ({ cls := "CounterDesk", name := "at", desc := "(II)I" } : Jvm.MethodName)) ∈ lw_all := lw_g (lw_at lw_m2 223 rfl) rfl
theorem q593 : (Jvm.Cond.selects "CounterDesk" ({ cls := "CounterDesk", name := "at", desc := "(II)I" } : Jvm.MethodName) ({ cls := "CounterDesk", name := "at", desc := "(II)I" } : Jvm.MethodName)) ∈ lw_all := lw_g (lw_at lw_m2 224 rfl) rfl
theorem q594 : (Jvm.Cond.code ({ cls := "CounterDesk", name := "at", desc := "(II)I" } : Jvm.MethodName) prog_1_method_21_code (3 : Nat) (Option.some Jvm.ClassFile.FieldType.int)) ∈ lw_all := lw_g (lw_at lw_m2 225 rfl) rfl
theorem q595 : (Jvm.Cond.methodLink "CounterDesk" (184 : Nat) ({ cls := "CounterDesk", name := "apart", desc := "(I)I" } : Jvm.MethodName)) ∈ lw_all := lw_g (lw_at lw_m2 226 rfl) rfl
theorem q596 : (Jvm.Cond.privateMethod ({ cls := "CounterDesk", name := "apart", desc := "(I)I" } : Jvm.MethodName)) ∈ lw_tbl := lw_at lw_m2 227 rfl
theorem q597 : (Jvm.Cond.instanceMethod ({ cls := "CounterDesk", name := "apart", desc := "(I)I" } : Jvm.MethodName)) ∈ lw_all := lw_g (lw_at lw_m2 228 rfl) rfl
theorem q598 : (Jvm.Cond.code ({ cls := "CounterDesk", name := "apart", desc := "(I)I" } : Jvm.MethodName) prog_1_method_19_code (2 : Nat) (Option.some Jvm.ClassFile.FieldType.int)) ∈ lw_all := lw_g (lw_at lw_m2 229 rfl) rfl
theorem q599 : (Jvm.Cond.methodLink "CounterDesk" (187 : Nat) ({ cls := "CounterDesk", name := "leap", desc := "(I)I" } : Jvm.MethodName)) ∈ lw_all := lw_g (lw_at lw_m2 230 rfl) rfl
theorem q600 : (Jvm.Cond.privateMethod ({ cls := "CounterDesk", name := "leap", desc := "(I)I" } : Jvm.MethodName)) ∈ lw_tbl := lw_at lw_m2 231 rfl
theorem q601 : (Jvm.Cond.instanceMethod ({ cls := "CounterDesk", name := "leap", desc := "(I)I" } : Jvm.MethodName)) ∈ lw_all := lw_g (lw_at lw_m2 232 rfl) rfl
theorem q602 : (Jvm.Cond.code ({ cls := "CounterDesk", name := "leap", desc := "(I)I" } : Jvm.MethodName) prog_1_method_20_code (2 : Nat) (Option.some Jvm.ClassFile.FieldType.int)) ∈ lw_all := lw_g (lw_at lw_m2 233 rfl) rfl
theorem q604 : (Jvm.Cond.instanceMethod ({ cls := "CounterDesk", name := "terms", desc := "(II)I" } : Jvm.MethodName)) ∈ lw_all := lw_g (lw_at lw_m2 235 rfl) rfl
theorem q605 : (Jvm.Cond.selects "CounterDesk" ({ cls := "CounterDesk", name := "terms", desc := "(II)I" } : Jvm.MethodName) ({ cls := "CounterDesk", name := "terms", desc := "(II)I" } : Jvm.MethodName)) ∈ lw_all := lw_g (lw_at lw_m2 236 rfl) rfl
theorem q606 : (Jvm.Cond.code ({ cls := "CounterDesk", name := "terms", desc := "(II)I" } : Jvm.MethodName) prog_1_method_24_code (4 : Nat) (Option.some Jvm.ClassFile.FieldType.int)) ∈ lw_all := lw_g (lw_at lw_m2 237 rfl) rfl
theorem q607 : (Jvm.Cond.methodLink "CounterDesk" (202 : Nat) ({ cls := "CounterDesk", name := "isTerm", desc := "(II)Z" } : Jvm.MethodName)) ∈ lw_all := lw_g (lw_at lw_m2 238 rfl) rfl
theorem q608 : (Jvm.Cond.static ({ cls := "CounterDesk", name := "isTerm", desc := "(II)Z" } : Jvm.MethodName)) ∈ lw_all := lw_g (lw_at lw_m2 239 rfl) rfl
theorem q609 : (Jvm.Cond.code ({ cls := "CounterDesk", name := "isTerm", desc := "(II)Z" } : Jvm.MethodName) prog_1_method_22_code (2 : Nat) (Option.some Jvm.ClassFile.FieldType.boolean)) ∈ lw_all := lw_g (lw_at lw_m3 0 rfl) rfl
theorem q610 : (Jvm.Cond.constantLong "CounterDesk" (190 : Nat) (999 : Int64)) ∈ lw_all := lw_g (lw_at lw_m3 1 rfl) rfl
theorem q611 : (Jvm.Cond.constantLong "CounterDesk" (192 : Nat) (10 : Int64)) ∈ lw_all := lw_g (lw_at lw_m3 2 rfl) rfl
theorem q612 : (Jvm.Cond.constantLong "CounterDesk" (194 : Nat) (9 : Int64)) ∈ lw_all := lw_g (lw_at lw_m3 3 rfl) rfl
theorem q613 : (Jvm.Cond.methodLink "CounterDesk" (206 : Nat) ({ cls := "CounterDesk", name := "term", desc := "(I)I" } : Jvm.MethodName)) ∈ lw_all := lw_g (lw_at lw_m3 4 rfl) rfl
theorem q614 : (Jvm.Cond.privateMethod ({ cls := "CounterDesk", name := "term", desc := "(I)I" } : Jvm.MethodName)) ∈ lw_tbl := lw_at lw_m3 5 rfl
theorem q615 : (Jvm.Cond.instanceMethod ({ cls := "CounterDesk", name := "term", desc := "(I)I" } : Jvm.MethodName)) ∈ lw_all := lw_g (lw_at lw_m3 6 rfl) rfl
theorem q616 : (Jvm.Cond.code ({ cls := "CounterDesk", name := "term", desc := "(I)I" } : Jvm.MethodName) prog_1_method_23_code (2 : Nat) (Option.some Jvm.ClassFile.FieldType.int)) ∈ lw_all := lw_g (lw_at lw_m3 7 rfl) rfl
theorem q617 : (Jvm.Cond.methodLink "CounterDesk" (209 : Nat) ({ cls := "CounterDesk", name := "had", desc := "(I)I" } : Jvm.MethodName)) ∈ lw_all := lw_g (lw_at lw_m3 8 rfl) rfl
theorem q618 : (Jvm.Cond.privateMethod ({ cls := "CounterDesk", name := "had", desc := "(I)I" } : Jvm.MethodName)) ∈ lw_tbl := lw_at lw_m3 9 rfl
theorem q619 : (Jvm.Cond.instanceMethod ({ cls := "CounterDesk", name := "had", desc := "(I)I" } : Jvm.MethodName)) ∈ lw_all := lw_g (lw_at lw_m3 10 rfl) rfl
theorem q620 : (Jvm.Cond.code ({ cls := "CounterDesk", name := "had", desc := "(I)I" } : Jvm.MethodName) prog_1_method_7_code (2 : Nat) (Option.some Jvm.ClassFile.FieldType.int)) ∈ lw_all := lw_g (lw_at lw_m3 11 rfl) rfl
theorem q622 : (Jvm.Cond.instanceMethod ({ cls := "CounterDesk", name := "row", desc := "()I" } : Jvm.MethodName)) ∈ lw_all := lw_g (lw_at lw_m3 13 rfl) rfl
theorem q623 : (Jvm.Cond.selects "CounterDesk" ({ cls := "CounterDesk", name := "row", desc := "()I" } : Jvm.MethodName) ({ cls := "CounterDesk", name := "row", desc := "()I" } : Jvm.MethodName)) ∈ lw_all := lw_g (lw_at lw_m3 14 rfl) rfl
theorem q624 : (Jvm.Cond.codeWith ({ cls := "CounterDesk", name := "row", desc := "()I" } : Jvm.MethodName) prog_1_method_26_code (7 : Nat) (Option.some Jvm.ClassFile.FieldType.int) [((58 : Nat), (84 : Nat), (119 : Nat), (225 : Nat)), ((58 : Nat), (84 : Nat), (159 : Nat), (0 : Nat)), ((119 : Nat), (124 : Nat), (159 : Nat), (0 : Nat)), ((159 : Nat), (161 : Nat), (159 : Nat), (0 : Nat))]) ∈ lw_all := lw_g (lw_at lw_m3 15 rfl) rfl
theorem q625 : (Jvm.Cond.classLink "CounterDesk" (225 : Nat) "java/lang/ArrayIndexOutOfBoundsException") ∈ lw_all := lw_g (lw_at lw_m3 16 rfl) rfl
theorem q699 : (Jvm.Cond.methodLink "CounterDesk" (212 : Nat) ({ cls := "java/lang/System", name := "arraycopy", desc := "(Ljava/lang/Object;ILjava/lang/Object;II)V" } : Jvm.MethodName)) ∈ lw_all := lw_g (lw_at lw_m3 90 rfl) rfl
theorem q702 : (Jvm.Cond.methodLink "CounterDesk" (221 : Nat) ({ cls := "CounterDesk", name := "byteAt", desc := "([BI)I" } : Jvm.MethodName)) ∈ lw_all := lw_g (lw_at lw_m3 93 rfl) rfl
theorem q703 : (Jvm.Cond.static ({ cls := "CounterDesk", name := "byteAt", desc := "([BI)I" } : Jvm.MethodName)) ∈ lw_all := lw_g (lw_at lw_m3 94 rfl) rfl
theorem q704 : (Jvm.Cond.code ({ cls := "CounterDesk", name := "byteAt", desc := "([BI)I" } : Jvm.MethodName) prog_1_method_25_code (2 : Nat) (Option.some Jvm.ClassFile.FieldType.int)) ∈ lw_all := lw_g (lw_at lw_m3 95 rfl) rfl
theorem q706 : (Jvm.Cond.instanceMethod ({ cls := "CounterDesk", name := "blots", desc := "()I" } : Jvm.MethodName)) ∈ lw_all := lw_g (lw_at lw_m3 97 rfl) rfl
theorem q707 : (Jvm.Cond.selects "CounterDesk" ({ cls := "CounterDesk", name := "blots", desc := "()I" } : Jvm.MethodName) ({ cls := "CounterDesk", name := "blots", desc := "()I" } : Jvm.MethodName)) ∈ lw_all := lw_g (lw_at lw_m3 98 rfl) rfl
theorem q708 : (Jvm.Cond.code ({ cls := "CounterDesk", name := "blots", desc := "()I" } : Jvm.MethodName) prog_1_method_27_code (1 : Nat) (Option.some Jvm.ClassFile.FieldType.int)) ∈ lw_all := lw_g (lw_at lw_m3 99 rfl) rfl
theorem q710 : (Jvm.Cond.instanceMethod ({ cls := "CounterDesk", name := "law", desc := "()I" } : Jvm.MethodName)) ∈ lw_all := lw_g (lw_at lw_m3 101 rfl) rfl
theorem q711 : (Jvm.Cond.selects "CounterDesk" ({ cls := "CounterDesk", name := "law", desc := "()I" } : Jvm.MethodName) ({ cls := "CounterDesk", name := "law", desc := "()I" } : Jvm.MethodName)) ∈ lw_all := lw_g (lw_at lw_m3 102 rfl) rfl
theorem q712 : (Jvm.Cond.codeWith ({ cls := "CounterDesk", name := "law", desc := "()I" } : Jvm.MethodName) prog_1_method_28_code (4 : Nat) (Option.some Jvm.ClassFile.FieldType.int) [((27 : Nat), (71 : Nat), (78 : Nat), (249 : Nat)), ((27 : Nat), (71 : Nat), (101 : Nat), (0 : Nat)), ((78 : Nat), (94 : Nat), (101 : Nat), (0 : Nat))]) ∈ lw_all := lw_g (lw_at lw_m3 103 rfl) rfl
theorem q713 : (Jvm.Cond.classLink "CounterDesk" (249 : Nat) "CounterDesk$Wrong") ∈ lw_all := lw_g (lw_at lw_m3 104 rfl) rfl
theorem q714 : (Jvm.Cond.methodLink "CounterDesk" (231 : Nat) ({ cls := "java/util/ArrayList", name := "size", desc := "()I" } : Jvm.MethodName)) ∈ lw_all := lw_g (lw_at lw_m3 105 rfl) rfl
theorem q718 : (Jvm.Cond.classLink "CounterDesk" (236 : Nat) "CounterDesk$LawReader") ∈ lw_all := lw_g (lw_at lw_m3 109 rfl) rfl
theorem q720 : (Jvm.Cond.methodLink "CounterDesk" (238 : Nat) ({ cls := "CounterDesk$LawReader", name := "<init>", desc := "(LCounterDesk;)V" } : Jvm.MethodName)) ∈ lw_all := lw_g (lw_at lw_m3 111 rfl) rfl
theorem q783 : (Jvm.Cond.methodLink "CounterDesk" (241 : Nat) ({ cls := "CounterDesk$LawReader", name := "read", desc := "()LCounterDesk$Text;" } : Jvm.MethodName)) ∈ lw_all := lw_g (lw_at lw_m3 174 rfl) rfl
theorem q800 : (Jvm.Cond.static ({ cls := "CounterDesk", name := "isLetter", desc := "(I)Z" } : Jvm.MethodName)) ∈ lw_all := lw_g (lw_at lw_m3 191 rfl) rfl
theorem q801 : (Jvm.Cond.code ({ cls := "CounterDesk", name := "isLetter", desc := "(I)Z" } : Jvm.MethodName) prog_1_method_14_code (1 : Nat) (Option.some Jvm.ClassFile.FieldType.boolean)) ∈ lw_all := lw_g (lw_at lw_m3 192 rfl) rfl
theorem q803 : (Jvm.Cond.static ({ cls := "CounterDesk", name := "isDigit", desc := "(I)Z" } : Jvm.MethodName)) ∈ lw_all := lw_g (lw_at lw_m3 194 rfl) rfl
theorem q804 : (Jvm.Cond.code ({ cls := "CounterDesk", name := "isDigit", desc := "(I)Z" } : Jvm.MethodName) prog_1_method_15_code (1 : Nat) (Option.some Jvm.ClassFile.FieldType.boolean)) ∈ lw_all := lw_g (lw_at lw_m3 195 rfl) rfl
theorem q830 : (Jvm.Cond.fieldLinkNest "CounterDesk" (251 : Nat) "CounterDesk$Wrong" "place" "I" "CounterDesk") ∈ lw_tbl := lw_at lw_m3 221 rfl
theorem q1147 : (Jvm.Cond.fieldLinkNest "CounterDesk" (403 : Nat) "CounterDesk$Act" "times" "I" "CounterDesk") ∈ lw_tbl := lw_at lw_m5 58 rfl
theorem q1192 : (Jvm.Cond.methodLink "CounterDesk" (245 : Nat) ({ cls := "java/util/ArrayList", name := "add", desc := "(Ljava/lang/Object;)Z" } : Jvm.MethodName)) ∈ lw_all := lw_g (lw_at lw_m5 103 rfl) rfl
theorem q1224 : (Jvm.Cond.selects "CounterDesk" ({ cls := "java/lang/Object", name := "getClass", desc := "()Ljava/lang/Class;" } : Jvm.MethodName) ({ cls := "java/lang/Object", name := "getClass", desc := "()Ljava/lang/Class;" } : Jvm.MethodName)) ∈ lw_all := lw_g (lw_at lw_m5 135 rfl) rfl
theorem q1258 : (Jvm.Cond.instanceMethod ({ cls := "CounterDesk", name := "fault", desc := "()I" } : Jvm.MethodName)) ∈ lw_all := lw_g (lw_at lw_m5 169 rfl) rfl
theorem q1259 : (Jvm.Cond.selects "CounterDesk" ({ cls := "CounterDesk", name := "fault", desc := "()I" } : Jvm.MethodName) ({ cls := "CounterDesk", name := "fault", desc := "()I" } : Jvm.MethodName)) ∈ lw_all := lw_g (lw_at lw_m5 170 rfl) rfl
theorem q1260 : (Jvm.Cond.code ({ cls := "CounterDesk", name := "fault", desc := "()I" } : Jvm.MethodName) prog_1_method_29_code (1 : Nat) (Option.some Jvm.ClassFile.FieldType.int)) ∈ lw_all := lw_g (lw_at lw_m5 171 rfl) rfl
theorem q1262 : (Jvm.Cond.instanceMethod ({ cls := "CounterDesk", name := "force", desc := "(I)I" } : Jvm.MethodName)) ∈ lw_all := lw_g (lw_at lw_m5 173 rfl) rfl
theorem q1263 : (Jvm.Cond.selects "CounterDesk" ({ cls := "CounterDesk", name := "force", desc := "(I)I" } : Jvm.MethodName) ({ cls := "CounterDesk", name := "force", desc := "(I)I" } : Jvm.MethodName)) ∈ lw_all := lw_g (lw_at lw_m5 174 rfl) rfl
theorem q1264 : (Jvm.Cond.code ({ cls := "CounterDesk", name := "force", desc := "(I)I" } : Jvm.MethodName) prog_1_method_31_code (3 : Nat) (Option.some Jvm.ClassFile.FieldType.int)) ∈ lw_all := lw_g (lw_at lw_m5 175 rfl) rfl
theorem q1265 : (Jvm.Cond.methodLink "CounterDesk" (254 : Nat) ({ cls := "CounterDesk", name := "isLaw", desc := "(I)Z" } : Jvm.MethodName)) ∈ lw_all := lw_g (lw_at lw_m5 176 rfl) rfl
theorem q1266 : (Jvm.Cond.privateMethod ({ cls := "CounterDesk", name := "isLaw", desc := "(I)Z" } : Jvm.MethodName)) ∈ lw_tbl := lw_at lw_m5 177 rfl
theorem q1267 : (Jvm.Cond.instanceMethod ({ cls := "CounterDesk", name := "isLaw", desc := "(I)Z" } : Jvm.MethodName)) ∈ lw_all := lw_g (lw_at lw_m5 178 rfl) rfl
theorem q1268 : (Jvm.Cond.code ({ cls := "CounterDesk", name := "isLaw", desc := "(I)Z" } : Jvm.MethodName) prog_1_method_30_code (2 : Nat) (Option.some Jvm.ClassFile.FieldType.boolean)) ∈ lw_all := lw_g (lw_at lw_m5 179 rfl) rfl
theorem q1270 : (Jvm.Cond.instanceMethod ({ cls := "CounterDesk", name := "all", desc := "(I)I" } : Jvm.MethodName)) ∈ lw_all := lw_g (lw_at lw_m5 181 rfl) rfl
theorem q1271 : (Jvm.Cond.selects "CounterDesk" ({ cls := "CounterDesk", name := "all", desc := "(I)I" } : Jvm.MethodName) ({ cls := "CounterDesk", name := "all", desc := "(I)I" } : Jvm.MethodName)) ∈ lw_all := lw_g (lw_at lw_m5 182 rfl) rfl
theorem q1272 : (Jvm.Cond.code ({ cls := "CounterDesk", name := "all", desc := "(I)I" } : Jvm.MethodName) prog_1_method_43_code (2 : Nat) (Option.some Jvm.ClassFile.FieldType.int)) ∈ lw_all := lw_g (lw_at lw_m5 183 rfl) rfl
theorem q1273 : (Jvm.Cond.methodLink "CounterDesk" (300 : Nat) ({ cls := "CounterDesk", name := "barredOnes", desc := "()I" } : Jvm.MethodName)) ∈ lw_all := lw_g (lw_at lw_m5 184 rfl) rfl
theorem q1274 : (Jvm.Cond.privateMethod ({ cls := "CounterDesk", name := "barredOnes", desc := "()I" } : Jvm.MethodName)) ∈ lw_tbl := lw_at lw_m5 185 rfl
theorem q1275 : (Jvm.Cond.instanceMethod ({ cls := "CounterDesk", name := "barredOnes", desc := "()I" } : Jvm.MethodName)) ∈ lw_all := lw_g (lw_at lw_m5 186 rfl) rfl
theorem q1276 : (Jvm.Cond.code ({ cls := "CounterDesk", name := "barredOnes", desc := "()I" } : Jvm.MethodName) prog_1_method_41_code (3 : Nat) (Option.some Jvm.ClassFile.FieldType.int)) ∈ lw_all := lw_g (lw_at lw_m5 187 rfl) rfl
theorem q1277 : (Jvm.Cond.methodLink "CounterDesk" (303 : Nat) ({ cls := "CounterDesk", name := "sumOf", desc := "(I)I" } : Jvm.MethodName)) ∈ lw_all := lw_g (lw_at lw_m5 188 rfl) rfl
theorem q1278 : (Jvm.Cond.privateMethod ({ cls := "CounterDesk", name := "sumOf", desc := "(I)I" } : Jvm.MethodName)) ∈ lw_tbl := lw_at lw_m5 189 rfl
theorem q1279 : (Jvm.Cond.instanceMethod ({ cls := "CounterDesk", name := "sumOf", desc := "(I)I" } : Jvm.MethodName)) ∈ lw_all := lw_g (lw_at lw_m5 190 rfl) rfl
theorem q1280 : (Jvm.Cond.code ({ cls := "CounterDesk", name := "sumOf", desc := "(I)I" } : Jvm.MethodName) prog_1_method_42_code (4 : Nat) (Option.some Jvm.ClassFile.FieldType.int)) ∈ lw_all := lw_g (lw_at lw_m5 191 rfl) rfl
theorem q1282 : (Jvm.Cond.instanceMethod ({ cls := "CounterDesk", name := "set", desc := "(II)I" } : Jvm.MethodName)) ∈ lw_all := lw_g (lw_at lw_m5 193 rfl) rfl
theorem q1283 : (Jvm.Cond.selects "CounterDesk" ({ cls := "CounterDesk", name := "set", desc := "(II)I" } : Jvm.MethodName) ({ cls := "CounterDesk", name := "set", desc := "(II)I" } : Jvm.MethodName)) ∈ lw_all := lw_g (lw_at lw_m5 194 rfl) rfl
theorem q1284 : (Jvm.Cond.code ({ cls := "CounterDesk", name := "set", desc := "(II)I" } : Jvm.MethodName) prog_1_method_45_code (3 : Nat) (Option.some Jvm.ClassFile.FieldType.int)) ∈ lw_all := lw_g (lw_at lw_m5 195 rfl) rfl
theorem q1285 : (Jvm.Cond.methodLink "CounterDesk" (310 : Nat) ({ cls := "CounterDesk", name := "setNow", desc := "(II)I" } : Jvm.MethodName)) ∈ lw_all := lw_g (lw_at lw_m5 196 rfl) rfl
theorem q1286 : (Jvm.Cond.privateMethod ({ cls := "CounterDesk", name := "setNow", desc := "(II)I" } : Jvm.MethodName)) ∈ lw_tbl := lw_at lw_m5 197 rfl
theorem q1287 : (Jvm.Cond.instanceMethod ({ cls := "CounterDesk", name := "setNow", desc := "(II)I" } : Jvm.MethodName)) ∈ lw_all := lw_g (lw_at lw_m5 198 rfl) rfl
theorem q1288 : (Jvm.Cond.code ({ cls := "CounterDesk", name := "setNow", desc := "(II)I" } : Jvm.MethodName) prog_1_method_44_code (4 : Nat) (Option.some Jvm.ClassFile.FieldType.int)) ∈ lw_all := lw_g (lw_at lw_m5 199 rfl) rfl
theorem q1289 : (Jvm.Cond.methodLink "CounterDesk" (306 : Nat) ({ cls := "CounterDesk$Steps", name := "append", desc := "(LCounterDesk$Books;I)V" } : Jvm.MethodName)) ∈ lw_all := lw_g (lw_at lw_m5 200 rfl) rfl
theorem q1300 : (Jvm.Cond.instanceMethod ({ cls := "CounterDesk", name := "shift", desc := "(II)I" } : Jvm.MethodName)) ∈ lw_all := lw_g (lw_at lw_m5 211 rfl) rfl
theorem q1301 : (Jvm.Cond.selects "CounterDesk" ({ cls := "CounterDesk", name := "shift", desc := "(II)I" } : Jvm.MethodName) ({ cls := "CounterDesk", name := "shift", desc := "(II)I" } : Jvm.MethodName)) ∈ lw_all := lw_g (lw_at lw_m5 212 rfl) rfl
theorem q1302 : (Jvm.Cond.code ({ cls := "CounterDesk", name := "shift", desc := "(II)I" } : Jvm.MethodName) prog_1_method_47_code (3 : Nat) (Option.some Jvm.ClassFile.FieldType.int)) ∈ lw_all := lw_g (lw_at lw_m5 213 rfl) rfl
theorem q1303 : (Jvm.Cond.methodLink "CounterDesk" (313 : Nat) ({ cls := "CounterDesk", name := "shiftNow", desc := "(II)I" } : Jvm.MethodName)) ∈ lw_all := lw_g (lw_at lw_m5 214 rfl) rfl
theorem q1304 : (Jvm.Cond.privateMethod ({ cls := "CounterDesk", name := "shiftNow", desc := "(II)I" } : Jvm.MethodName)) ∈ lw_tbl := lw_at lw_m5 215 rfl
theorem q1305 : (Jvm.Cond.instanceMethod ({ cls := "CounterDesk", name := "shiftNow", desc := "(II)I" } : Jvm.MethodName)) ∈ lw_all := lw_g (lw_at lw_m5 216 rfl) rfl
theorem q1306 : (Jvm.Cond.code ({ cls := "CounterDesk", name := "shiftNow", desc := "(II)I" } : Jvm.MethodName) prog_1_method_46_code (4 : Nat) (Option.some Jvm.ClassFile.FieldType.int)) ∈ lw_all := lw_g (lw_at lw_m5 217 rfl) rfl
theorem q1308 : (Jvm.Cond.instanceMethod ({ cls := "CounterDesk", name := "swap", desc := "()I" } : Jvm.MethodName)) ∈ lw_all := lw_g (lw_at lw_m5 219 rfl) rfl
theorem q1309 : (Jvm.Cond.selects "CounterDesk" ({ cls := "CounterDesk", name := "swap", desc := "()I" } : Jvm.MethodName) ({ cls := "CounterDesk", name := "swap", desc := "()I" } : Jvm.MethodName)) ∈ lw_all := lw_g (lw_at lw_m5 220 rfl) rfl
theorem q1310 : (Jvm.Cond.code ({ cls := "CounterDesk", name := "swap", desc := "()I" } : Jvm.MethodName) prog_1_method_49_code (1 : Nat) (Option.some Jvm.ClassFile.FieldType.int)) ∈ lw_all := lw_g (lw_at lw_m5 221 rfl) rfl
theorem q1311 : (Jvm.Cond.methodLink "CounterDesk" (319 : Nat) ({ cls := "CounterDesk", name := "swapNow", desc := "()I" } : Jvm.MethodName)) ∈ lw_all := lw_g (lw_at lw_m5 222 rfl) rfl
theorem q1312 : (Jvm.Cond.privateMethod ({ cls := "CounterDesk", name := "swapNow", desc := "()I" } : Jvm.MethodName)) ∈ lw_tbl := lw_at lw_m5 223 rfl
theorem q1313 : (Jvm.Cond.instanceMethod ({ cls := "CounterDesk", name := "swapNow", desc := "()I" } : Jvm.MethodName)) ∈ lw_all := lw_g (lw_at lw_m5 224 rfl) rfl
theorem q1314 : (Jvm.Cond.code ({ cls := "CounterDesk", name := "swapNow", desc := "()I" } : Jvm.MethodName) prog_1_method_48_code (1 : Nat) (Option.some Jvm.ClassFile.FieldType.int)) ∈ lw_all := lw_g (lw_at lw_m5 225 rfl) rfl
theorem q1315 : (Jvm.Cond.methodLink "CounterDesk" (316 : Nat) ({ cls := "CounterDesk$Books", name := "exchange", desc := "(I)V" } : Jvm.MethodName)) ∈ lw_all := lw_g (lw_at lw_m5 226 rfl) rfl
theorem q1320 : (Jvm.Cond.instanceMethod ({ cls := "CounterDesk", name := "pass", desc := "()I" } : Jvm.MethodName)) ∈ lw_all := lw_g (lw_at lw_m5 231 rfl) rfl
theorem q1321 : (Jvm.Cond.selects "CounterDesk" ({ cls := "CounterDesk", name := "pass", desc := "()I" } : Jvm.MethodName) ({ cls := "CounterDesk", name := "pass", desc := "()I" } : Jvm.MethodName)) ∈ lw_all := lw_g (lw_at lw_m5 232 rfl) rfl
theorem q1322 : (Jvm.Cond.code ({ cls := "CounterDesk", name := "pass", desc := "()I" } : Jvm.MethodName) prog_1_method_51_code (1 : Nat) (Option.some Jvm.ClassFile.FieldType.int)) ∈ lw_all := lw_g (lw_at lw_m5 233 rfl) rfl
theorem q1323 : (Jvm.Cond.methodLink "CounterDesk" (322 : Nat) ({ cls := "CounterDesk", name := "passNow", desc := "()I" } : Jvm.MethodName)) ∈ lw_all := lw_g (lw_at lw_m5 234 rfl) rfl
theorem q1324 : (Jvm.Cond.privateMethod ({ cls := "CounterDesk", name := "passNow", desc := "()I" } : Jvm.MethodName)) ∈ lw_tbl := lw_at lw_m5 235 rfl
theorem q1325 : (Jvm.Cond.instanceMethod ({ cls := "CounterDesk", name := "passNow", desc := "()I" } : Jvm.MethodName)) ∈ lw_all := lw_g (lw_at lw_m5 236 rfl) rfl
theorem q1326 : (Jvm.Cond.code ({ cls := "CounterDesk", name := "passNow", desc := "()I" } : Jvm.MethodName) prog_1_method_50_code (2 : Nat) (Option.some Jvm.ClassFile.FieldType.int)) ∈ lw_all := lw_g (lw_at lw_m5 237 rfl) rfl
theorem q1328 : (Jvm.Cond.instanceMethod ({ cls := "CounterDesk", name := "undo", desc := "()I" } : Jvm.MethodName)) ∈ lw_all := lw_g (lw_at lw_m5 239 rfl) rfl
theorem q1329 : (Jvm.Cond.selects "CounterDesk" ({ cls := "CounterDesk", name := "undo", desc := "()I" } : Jvm.MethodName) ({ cls := "CounterDesk", name := "undo", desc := "()I" } : Jvm.MethodName)) ∈ lw_all := lw_g (lw_at lw_m6 0 rfl) rfl
theorem q1330 : (Jvm.Cond.code ({ cls := "CounterDesk", name := "undo", desc := "()I" } : Jvm.MethodName) prog_1_method_52_code (1 : Nat) (Option.some Jvm.ClassFile.FieldType.int)) ∈ lw_all := lw_g (lw_at lw_m6 1 rfl) rfl
theorem q1331 : (Jvm.Cond.methodLink "CounterDesk" (329 : Nat) ({ cls := "CounterDesk$Books", name := "as", desc := "(LCounterDesk$Books;)LCounterDesk$Books;" } : Jvm.MethodName)) ∈ lw_all := lw_g (lw_at lw_m6 2 rfl) rfl
theorem q1333 : (Jvm.Cond.instanceMethod ({ cls := "CounterDesk", name := "best", desc := "(I)I" } : Jvm.MethodName)) ∈ lw_all := lw_g (lw_at lw_m6 4 rfl) rfl
theorem q1334 : (Jvm.Cond.selects "CounterDesk" ({ cls := "CounterDesk", name := "best", desc := "(I)I" } : Jvm.MethodName) ({ cls := "CounterDesk", name := "best", desc := "(I)I" } : Jvm.MethodName)) ∈ lw_all := lw_g (lw_at lw_m6 5 rfl) rfl
theorem q1335 : (Jvm.Cond.code ({ cls := "CounterDesk", name := "best", desc := "(I)I" } : Jvm.MethodName) prog_1_method_60_code (5 : Nat) (Option.some Jvm.ClassFile.FieldType.int)) ∈ lw_all := lw_g (lw_at lw_m6 6 rfl) rfl
theorem q1336 : (Jvm.Cond.methodLink "CounterDesk" (359 : Nat) ({ cls := "CounterDesk", name := "layAll", desc := "()V" } : Jvm.MethodName)) ∈ lw_all := lw_g (lw_at lw_m6 7 rfl) rfl
theorem q1337 : (Jvm.Cond.privateMethod ({ cls := "CounterDesk", name := "layAll", desc := "()V" } : Jvm.MethodName)) ∈ lw_tbl := lw_at lw_m6 8 rfl
theorem q1338 : (Jvm.Cond.instanceMethod ({ cls := "CounterDesk", name := "layAll", desc := "()V" } : Jvm.MethodName)) ∈ lw_all := lw_g (lw_at lw_m6 9 rfl) rfl
theorem q1339 : (Jvm.Cond.code ({ cls := "CounterDesk", name := "layAll", desc := "()V" } : Jvm.MethodName) prog_1_method_58_code (1 : Nat) (Option.none : Option Jvm.ClassFile.FieldType)) ∈ lw_all := lw_g (lw_at lw_m6 10 rfl) rfl
theorem q1340 : (Jvm.Cond.methodLink "CounterDesk" (352 : Nat) ({ cls := "CounterDesk", name := "layNotes", desc := "(Z)V" } : Jvm.MethodName)) ∈ lw_all := lw_g (lw_at lw_m6 11 rfl) rfl
theorem q1341 : (Jvm.Cond.privateMethod ({ cls := "CounterDesk", name := "layNotes", desc := "(Z)V" } : Jvm.MethodName)) ∈ lw_tbl := lw_at lw_m6 12 rfl
theorem q1342 : (Jvm.Cond.instanceMethod ({ cls := "CounterDesk", name := "layNotes", desc := "(Z)V" } : Jvm.MethodName)) ∈ lw_all := lw_g (lw_at lw_m6 13 rfl) rfl
theorem q1343 : (Jvm.Cond.code ({ cls := "CounterDesk", name := "layNotes", desc := "(Z)V" } : Jvm.MethodName) prog_1_method_54_code (3 : Nat) (Option.none : Option Jvm.ClassFile.FieldType)) ∈ lw_all := lw_g (lw_at lw_m6 14 rfl) rfl
theorem q1344 : (Jvm.Cond.methodLink "CounterDesk" (336 : Nat) ({ cls := "CounterDesk", name := "layNote", desc := "(IZ)V" } : Jvm.MethodName)) ∈ lw_all := lw_g (lw_at lw_m6 15 rfl) rfl
theorem q1345 : (Jvm.Cond.privateMethod ({ cls := "CounterDesk", name := "layNote", desc := "(IZ)V" } : Jvm.MethodName)) ∈ lw_tbl := lw_at lw_m6 16 rfl
theorem q1346 : (Jvm.Cond.instanceMethod ({ cls := "CounterDesk", name := "layNote", desc := "(IZ)V" } : Jvm.MethodName)) ∈ lw_all := lw_g (lw_at lw_m6 17 rfl) rfl
theorem q1347 : (Jvm.Cond.code ({ cls := "CounterDesk", name := "layNote", desc := "(IZ)V" } : Jvm.MethodName) prog_1_method_53_code (5 : Nat) (Option.none : Option Jvm.ClassFile.FieldType)) ∈ lw_all := lw_g (lw_at lw_m6 18 rfl) rfl
theorem q1348 : (Jvm.Cond.methodLink "CounterDesk" (356 : Nat) ({ cls := "CounterDesk", name := "layVoices", desc := "(III)V" } : Jvm.MethodName)) ∈ lw_all := lw_g (lw_at lw_m6 19 rfl) rfl
theorem q1349 : (Jvm.Cond.privateMethod ({ cls := "CounterDesk", name := "layVoices", desc := "(III)V" } : Jvm.MethodName)) ∈ lw_tbl := lw_at lw_m6 20 rfl
theorem q1350 : (Jvm.Cond.instanceMethod ({ cls := "CounterDesk", name := "layVoices", desc := "(III)V" } : Jvm.MethodName)) ∈ lw_all := lw_g (lw_at lw_m6 21 rfl) rfl
theorem q1351 : (Jvm.Cond.code ({ cls := "CounterDesk", name := "layVoices", desc := "(III)V" } : Jvm.MethodName) prog_1_method_55_code (7 : Nat) (Option.none : Option Jvm.ClassFile.FieldType)) ∈ lw_all := lw_g (lw_at lw_m6 22 rfl) rfl
theorem q1352 : (Jvm.Cond.constant "CounterDesk" (340 : Nat) (100000000 : Int32)) ∈ lw_all := lw_g (lw_at lw_m6 23 rfl) rfl
theorem q1353 : (Jvm.Cond.constant "CounterDesk" (341 : Nat) (-100000000 : Int32)) ∈ lw_all := lw_g (lw_at lw_m6 24 rfl) rfl
theorem q1354 : (Jvm.Cond.methodLink "CounterDesk" (342 : Nat) ({ cls := "CounterDesk", name := "layFrom", desc := "(IIII)V" } : Jvm.MethodName)) ∈ lw_all := lw_g (lw_at lw_m6 25 rfl) rfl
theorem q1355 : (Jvm.Cond.privateMethod ({ cls := "CounterDesk", name := "layFrom", desc := "(IIII)V" } : Jvm.MethodName)) ∈ lw_tbl := lw_at lw_m6 26 rfl
theorem q1356 : (Jvm.Cond.instanceMethod ({ cls := "CounterDesk", name := "layFrom", desc := "(IIII)V" } : Jvm.MethodName)) ∈ lw_all := lw_g (lw_at lw_m6 27 rfl) rfl
theorem q1357 : (Jvm.Cond.code ({ cls := "CounterDesk", name := "layFrom", desc := "(IIII)V" } : Jvm.MethodName) prog_1_method_56_code (6 : Nat) (Option.none : Option Jvm.ClassFile.FieldType)) ∈ lw_all := lw_g (lw_at lw_m6 28 rfl) rfl
theorem q1358 : (Jvm.Cond.methodLink "CounterDesk" (346 : Nat) ({ cls := "java/lang/Math", name := "max", desc := "(II)I" } : Jvm.MethodName)) ∈ lw_all := lw_g (lw_at lw_m6 29 rfl) rfl
theorem q1359 : (Jvm.Cond.methodLink "CounterDesk" (349 : Nat) ({ cls := "CounterDesk", name := "differs", desc := "(II)I" } : Jvm.MethodName)) ∈ lw_all := lw_g (lw_at lw_m6 30 rfl) rfl
theorem q1360 : (Jvm.Cond.privateMethod ({ cls := "CounterDesk", name := "differs", desc := "(II)I" } : Jvm.MethodName)) ∈ lw_tbl := lw_at lw_m6 31 rfl
theorem q1361 : (Jvm.Cond.instanceMethod ({ cls := "CounterDesk", name := "differs", desc := "(II)I" } : Jvm.MethodName)) ∈ lw_all := lw_g (lw_at lw_m6 32 rfl) rfl
theorem q1362 : (Jvm.Cond.code ({ cls := "CounterDesk", name := "differs", desc := "(II)I" } : Jvm.MethodName) prog_1_method_57_code (3 : Nat) (Option.some Jvm.ClassFile.FieldType.int)) ∈ lw_all := lw_g (lw_at lw_m6 33 rfl) rfl
theorem q1363 : (Jvm.Cond.methodLink "CounterDesk" (362 : Nat) ({ cls := "CounterDesk", name := "isThere", desc := "()Z" } : Jvm.MethodName)) ∈ lw_all := lw_g (lw_at lw_m6 34 rfl) rfl
theorem q1364 : (Jvm.Cond.privateMethod ({ cls := "CounterDesk", name := "isThere", desc := "()Z" } : Jvm.MethodName)) ∈ lw_tbl := lw_at lw_m6 35 rfl
theorem q1365 : (Jvm.Cond.instanceMethod ({ cls := "CounterDesk", name := "isThere", desc := "()Z" } : Jvm.MethodName)) ∈ lw_all := lw_g (lw_at lw_m6 36 rfl) rfl
theorem q1366 : (Jvm.Cond.code ({ cls := "CounterDesk", name := "isThere", desc := "()Z" } : Jvm.MethodName) prog_1_method_59_code (1 : Nat) (Option.some Jvm.ClassFile.FieldType.boolean)) ∈ lw_all := lw_g (lw_at lw_m6 37 rfl) rfl
theorem q1368 : (Jvm.Cond.instanceMethod ({ cls := "CounterDesk", name := "between", desc := "(II)I" } : Jvm.MethodName)) ∈ lw_all := lw_g (lw_at lw_m6 39 rfl) rfl
theorem q1369 : (Jvm.Cond.selects "CounterDesk" ({ cls := "CounterDesk", name := "between", desc := "(II)I" } : Jvm.MethodName) ({ cls := "CounterDesk", name := "between", desc := "(II)I" } : Jvm.MethodName)) ∈ lw_all := lw_g (lw_at lw_m6 40 rfl) rfl
theorem q1370 : (Jvm.Cond.code ({ cls := "CounterDesk", name := "between", desc := "(II)I" } : Jvm.MethodName) prog_1_method_61_code (5 : Nat) (Option.some Jvm.ClassFile.FieldType.int)) ∈ lw_all := lw_g (lw_at lw_m6 41 rfl) rfl
theorem q1372 : (Jvm.Cond.instanceMethod ({ cls := "CounterDesk", name := "richest", desc := "()I" } : Jvm.MethodName)) ∈ lw_all := lw_g (lw_at lw_m6 43 rfl) rfl
theorem q1373 : (Jvm.Cond.selects "CounterDesk" ({ cls := "CounterDesk", name := "richest", desc := "()I" } : Jvm.MethodName) ({ cls := "CounterDesk", name := "richest", desc := "()I" } : Jvm.MethodName)) ∈ lw_all := lw_g (lw_at lw_m6 44 rfl) rfl
theorem q1374 : (Jvm.Cond.code ({ cls := "CounterDesk", name := "richest", desc := "()I" } : Jvm.MethodName) prog_1_method_62_code (1 : Nat) (Option.some Jvm.ClassFile.FieldType.int)) ∈ lw_all := lw_g (lw_at lw_m6 45 rfl) rfl
theorem q1376 : (Jvm.Cond.instanceMethod ({ cls := "CounterDesk", name := "ways", desc := "()J" } : Jvm.MethodName)) ∈ lw_all := lw_g (lw_at lw_m6 47 rfl) rfl
theorem q1377 : (Jvm.Cond.selects "CounterDesk" ({ cls := "CounterDesk", name := "ways", desc := "()J" } : Jvm.MethodName) ({ cls := "CounterDesk", name := "ways", desc := "()J" } : Jvm.MethodName)) ∈ lw_all := lw_g (lw_at lw_m6 48 rfl) rfl
theorem q1378 : (Jvm.Cond.code ({ cls := "CounterDesk", name := "ways", desc := "()J" } : Jvm.MethodName) prog_1_method_63_code (1 : Nat) (Option.some Jvm.ClassFile.FieldType.long)) ∈ lw_all := lw_g (lw_at lw_m6 49 rfl) rfl
theorem q1380 : (Jvm.Cond.instanceMethod ({ cls := "CounterDesk", name := "mend", desc := "(I)I" } : Jvm.MethodName)) ∈ lw_all := lw_g (lw_at lw_m6 51 rfl) rfl
theorem q1381 : (Jvm.Cond.selects "CounterDesk" ({ cls := "CounterDesk", name := "mend", desc := "(I)I" } : Jvm.MethodName) ({ cls := "CounterDesk", name := "mend", desc := "(I)I" } : Jvm.MethodName)) ∈ lw_all := lw_g (lw_at lw_m6 52 rfl) rfl
theorem q1382 : (Jvm.Cond.code ({ cls := "CounterDesk", name := "mend", desc := "(I)I" } : Jvm.MethodName) prog_1_method_64_code (5 : Nat) (Option.some Jvm.ClassFile.FieldType.int)) ∈ lw_all := lw_g (lw_at lw_m6 53 rfl) rfl
theorem q1384 : (Jvm.Cond.instanceMethod ({ cls := "CounterDesk", name := "compass", desc := "(I)I" } : Jvm.MethodName)) ∈ lw_all := lw_g (lw_at lw_m6 55 rfl) rfl
theorem q1385 : (Jvm.Cond.selects "CounterDesk" ({ cls := "CounterDesk", name := "compass", desc := "(I)I" } : Jvm.MethodName) ({ cls := "CounterDesk", name := "compass", desc := "(I)I" } : Jvm.MethodName)) ∈ lw_all := lw_g (lw_at lw_m6 56 rfl) rfl
theorem q1386 : (Jvm.Cond.code ({ cls := "CounterDesk", name := "compass", desc := "(I)I" } : Jvm.MethodName) prog_1_method_65_code (6 : Nat) (Option.some Jvm.ClassFile.FieldType.int)) ∈ lw_all := lw_g (lw_at lw_m6 57 rfl) rfl
theorem q1388 : (Jvm.Cond.instanceMethod ({ cls := "CounterDesk", name := "cheapest", desc := "(II)I" } : Jvm.MethodName)) ∈ lw_all := lw_g (lw_at lw_m6 59 rfl) rfl
theorem q1389 : (Jvm.Cond.selects "CounterDesk" ({ cls := "CounterDesk", name := "cheapest", desc := "(II)I" } : Jvm.MethodName) ({ cls := "CounterDesk", name := "cheapest", desc := "(II)I" } : Jvm.MethodName)) ∈ lw_all := lw_g (lw_at lw_m6 60 rfl) rfl
theorem q1390 : (Jvm.Cond.code ({ cls := "CounterDesk", name := "cheapest", desc := "(II)I" } : Jvm.MethodName) prog_1_method_67_code (7 : Nat) (Option.some Jvm.ClassFile.FieldType.int)) ∈ lw_all := lw_g (lw_at lw_m6 61 rfl) rfl
theorem q1392 : (Jvm.Cond.instanceMethod ({ cls := "CounterDesk", name := "compare", desc := "(I)I" } : Jvm.MethodName)) ∈ lw_all := lw_g (lw_at lw_m6 63 rfl) rfl
theorem q1393 : (Jvm.Cond.selects "CounterDesk" ({ cls := "CounterDesk", name := "compare", desc := "(I)I" } : Jvm.MethodName) ({ cls := "CounterDesk", name := "compare", desc := "(I)I" } : Jvm.MethodName)) ∈ lw_all := lw_g (lw_at lw_m6 64 rfl) rfl
theorem q1394 : (Jvm.Cond.code ({ cls := "CounterDesk", name := "compare", desc := "(I)I" } : Jvm.MethodName) prog_1_method_68_code (4 : Nat) (Option.some Jvm.ClassFile.FieldType.int)) ∈ lw_all := lw_g (lw_at lw_m6 65 rfl) rfl
theorem q1395 : (Jvm.Cond.methodLink "CounterDesk" (366 : Nat) ({ cls := "CounterDesk", name := "bestCosts", desc := "()I" } : Jvm.MethodName)) ∈ lw_all := lw_g (lw_at lw_m6 66 rfl) rfl
theorem q1396 : (Jvm.Cond.privateMethod ({ cls := "CounterDesk", name := "bestCosts", desc := "()I" } : Jvm.MethodName)) ∈ lw_tbl := lw_at lw_m6 67 rfl
theorem q1397 : (Jvm.Cond.instanceMethod ({ cls := "CounterDesk", name := "bestCosts", desc := "()I" } : Jvm.MethodName)) ∈ lw_all := lw_g (lw_at lw_m6 68 rfl) rfl
theorem q1398 : (Jvm.Cond.code ({ cls := "CounterDesk", name := "bestCosts", desc := "()I" } : Jvm.MethodName) prog_1_method_66_code (1 : Nat) (Option.some Jvm.ClassFile.FieldType.int)) ∈ lw_all := lw_g (lw_at lw_m6 69 rfl) rfl
theorem q1400 : (Jvm.Cond.instanceMethod ({ cls := "CounterDesk", name := "canon", desc := "(II)I" } : Jvm.MethodName)) ∈ lw_all := lw_g (lw_at lw_m6 71 rfl) rfl
theorem q1401 : (Jvm.Cond.selects "CounterDesk" ({ cls := "CounterDesk", name := "canon", desc := "(II)I" } : Jvm.MethodName) ({ cls := "CounterDesk", name := "canon", desc := "(II)I" } : Jvm.MethodName)) ∈ lw_all := lw_g (lw_at lw_m6 72 rfl) rfl
theorem q1402 : (Jvm.Cond.code ({ cls := "CounterDesk", name := "canon", desc := "(II)I" } : Jvm.MethodName) prog_1_method_70_code (5 : Nat) (Option.some Jvm.ClassFile.FieldType.int)) ∈ lw_all := lw_g (lw_at lw_m6 73 rfl) rfl
theorem q1403 : (Jvm.Cond.constantLong "CounterDesk" (369 : Nat) (11 : Int64)) ∈ lw_all := lw_g (lw_at lw_m6 74 rfl) rfl
theorem q1404 : (Jvm.Cond.methodLink "CounterDesk" (371 : Nat) ({ cls := "CounterDesk", name := "goesInCanon", desc := "(II)Z" } : Jvm.MethodName)) ∈ lw_all := lw_g (lw_at lw_m6 75 rfl) rfl
theorem q1405 : (Jvm.Cond.privateMethod ({ cls := "CounterDesk", name := "goesInCanon", desc := "(II)Z" } : Jvm.MethodName)) ∈ lw_tbl := lw_at lw_m6 76 rfl
theorem q1406 : (Jvm.Cond.instanceMethod ({ cls := "CounterDesk", name := "goesInCanon", desc := "(II)Z" } : Jvm.MethodName)) ∈ lw_all := lw_g (lw_at lw_m6 77 rfl) rfl
theorem q1407 : (Jvm.Cond.code ({ cls := "CounterDesk", name := "goesInCanon", desc := "(II)Z" } : Jvm.MethodName) prog_1_method_69_code (6 : Nat) (Option.some Jvm.ClassFile.FieldType.boolean)) ∈ lw_all := lw_g (lw_at lw_m6 78 rfl) rfl
theorem q1409 : (Jvm.Cond.instanceMethod ({ cls := "CounterDesk", name := "parallels", desc := "(I)I" } : Jvm.MethodName)) ∈ lw_all := lw_g (lw_at lw_m6 80 rfl) rfl
theorem q1410 : (Jvm.Cond.selects "CounterDesk" ({ cls := "CounterDesk", name := "parallels", desc := "(I)I" } : Jvm.MethodName) ({ cls := "CounterDesk", name := "parallels", desc := "(I)I" } : Jvm.MethodName)) ∈ lw_all := lw_g (lw_at lw_m6 81 rfl) rfl
theorem q1411 : (Jvm.Cond.code ({ cls := "CounterDesk", name := "parallels", desc := "(I)I" } : Jvm.MethodName) prog_1_method_71_code (4 : Nat) (Option.some Jvm.ClassFile.FieldType.int)) ∈ lw_all := lw_g (lw_at lw_m6 82 rfl) rfl
theorem q1413 : (Jvm.Cond.instanceMethod ({ cls := "CounterDesk", name := "heard", desc := "(II)I" } : Jvm.MethodName)) ∈ lw_all := lw_g (lw_at lw_m6 84 rfl) rfl
theorem q1414 : (Jvm.Cond.selects "CounterDesk" ({ cls := "CounterDesk", name := "heard", desc := "(II)I" } : Jvm.MethodName) ({ cls := "CounterDesk", name := "heard", desc := "(II)I" } : Jvm.MethodName)) ∈ lw_all := lw_g (lw_at lw_m6 85 rfl) rfl
theorem q1415 : (Jvm.Cond.code ({ cls := "CounterDesk", name := "heard", desc := "(II)I" } : Jvm.MethodName) prog_1_method_72_code (4 : Nat) (Option.some Jvm.ClassFile.FieldType.int)) ∈ lw_all := lw_g (lw_at lw_m6 86 rfl) rfl
theorem q1416 : (Jvm.Cond.constantLong "CounterDesk" (374 : Nat) (3 : Int64)) ∈ lw_all := lw_g (lw_at lw_m6 87 rfl) rfl
theorem q1417 : (Jvm.Cond.constantLong "CounterDesk" (376 : Nat) (-24 : Int64)) ∈ lw_all := lw_g (lw_at lw_m6 88 rfl) rfl
theorem q1419 : (Jvm.Cond.instanceMethod ({ cls := "CounterDesk", name := "forget", desc := "()I" } : Jvm.MethodName)) ∈ lw_all := lw_g (lw_at lw_m6 90 rfl) rfl
theorem q1420 : (Jvm.Cond.selects "CounterDesk" ({ cls := "CounterDesk", name := "forget", desc := "()I" } : Jvm.MethodName) ({ cls := "CounterDesk", name := "forget", desc := "()I" } : Jvm.MethodName)) ∈ lw_all := lw_g (lw_at lw_m6 91 rfl) rfl
theorem q1421 : (Jvm.Cond.code ({ cls := "CounterDesk", name := "forget", desc := "()I" } : Jvm.MethodName) prog_1_method_73_code (2 : Nat) (Option.some Jvm.ClassFile.FieldType.int)) ∈ lw_all := lw_g (lw_at lw_m6 92 rfl) rfl
theorem q1423 : (Jvm.Cond.instanceMethod ({ cls := "CounterDesk", name := "canBe", desc := "()I" } : Jvm.MethodName)) ∈ lw_all := lw_g (lw_at lw_m6 94 rfl) rfl
theorem q1424 : (Jvm.Cond.selects "CounterDesk" ({ cls := "CounterDesk", name := "canBe", desc := "()I" } : Jvm.MethodName) ({ cls := "CounterDesk", name := "canBe", desc := "()I" } : Jvm.MethodName)) ∈ lw_all := lw_g (lw_at lw_m6 95 rfl) rfl
theorem q1425 : (Jvm.Cond.code ({ cls := "CounterDesk", name := "canBe", desc := "()I" } : Jvm.MethodName) prog_1_method_75_code (5 : Nat) (Option.some Jvm.ClassFile.FieldType.int)) ∈ lw_all := lw_g (lw_at lw_m6 96 rfl) rfl
theorem q1426 : (Jvm.Cond.methodLink "CounterDesk" (384 : Nat) ({ cls := "CounterDesk", name := "fact", desc := "(II)I" } : Jvm.MethodName)) ∈ lw_all := lw_g (lw_at lw_m6 97 rfl) rfl
theorem q1427 : (Jvm.Cond.privateMethod ({ cls := "CounterDesk", name := "fact", desc := "(II)I" } : Jvm.MethodName)) ∈ lw_tbl := lw_at lw_m6 98 rfl
theorem q1428 : (Jvm.Cond.instanceMethod ({ cls := "CounterDesk", name := "fact", desc := "(II)I" } : Jvm.MethodName)) ∈ lw_all := lw_g (lw_at lw_m6 99 rfl) rfl
theorem q1429 : (Jvm.Cond.code ({ cls := "CounterDesk", name := "fact", desc := "(II)I" } : Jvm.MethodName) prog_1_method_74_code (3 : Nat) (Option.some Jvm.ClassFile.FieldType.int)) ∈ lw_all := lw_g (lw_at lw_m6 100 rfl) rfl
theorem q1431 : (Jvm.Cond.instanceMethod ({ cls := "CounterDesk", name := "listen", desc := "(I)I" } : Jvm.MethodName)) ∈ lw_all := lw_g (lw_at lw_m6 102 rfl) rfl
theorem q1432 : (Jvm.Cond.selects "CounterDesk" ({ cls := "CounterDesk", name := "listen", desc := "(I)I" } : Jvm.MethodName) ({ cls := "CounterDesk", name := "listen", desc := "(I)I" } : Jvm.MethodName)) ∈ lw_all := lw_g (lw_at lw_m6 103 rfl) rfl
theorem q1433 : (Jvm.Cond.code ({ cls := "CounterDesk", name := "listen", desc := "(I)I" } : Jvm.MethodName) prog_1_method_77_code (7 : Nat) (Option.some Jvm.ClassFile.FieldType.int)) ∈ lw_all := lw_g (lw_at lw_m6 104 rfl) rfl
theorem q1434 : (Jvm.Cond.methodLink "CounterDesk" (389 : Nat) ({ cls := "CounterDesk", name := "canBe", desc := "()I" } : Jvm.MethodName)) ∈ lw_all := lw_g (lw_at lw_m6 105 rfl) rfl
theorem q1435 : (Jvm.Cond.methodLink "CounterDesk" (392 : Nat) ({ cls := "CounterDesk", name := "mostAlike", desc := "(II)I" } : Jvm.MethodName)) ∈ lw_all := lw_g (lw_at lw_m6 106 rfl) rfl
theorem q1436 : (Jvm.Cond.privateMethod ({ cls := "CounterDesk", name := "mostAlike", desc := "(II)I" } : Jvm.MethodName)) ∈ lw_tbl := lw_at lw_m6 107 rfl
theorem q1437 : (Jvm.Cond.instanceMethod ({ cls := "CounterDesk", name := "mostAlike", desc := "(II)I" } : Jvm.MethodName)) ∈ lw_all := lw_g (lw_at lw_m6 108 rfl) rfl
theorem q1438 : (Jvm.Cond.code ({ cls := "CounterDesk", name := "mostAlike", desc := "(II)I" } : Jvm.MethodName) prog_1_method_76_code (7 : Nat) (Option.some Jvm.ClassFile.FieldType.int)) ∈ lw_all := lw_g (lw_at lw_m6 109 rfl) rfl
theorem q1439 : (Jvm.Cond.methodLink "CounterDesk" (387 : Nat) ({ cls := "CounterDesk", name := "has", desc := "(II)Z" } : Jvm.MethodName)) ∈ lw_all := lw_g (lw_at lw_m6 110 rfl) rfl
theorem q1440 : (Jvm.Cond.static ({ cls := "CounterDesk", name := "has", desc := "(II)Z" } : Jvm.MethodName)) ∈ lw_all := lw_g (lw_at lw_m6 111 rfl) rfl
theorem q1441 : (Jvm.Cond.code ({ cls := "CounterDesk", name := "has", desc := "(II)Z" } : Jvm.MethodName) prog_1_method_2_code (2 : Nat) (Option.some Jvm.ClassFile.FieldType.boolean)) ∈ lw_all := lw_g (lw_at lw_m6 112 rfl) rfl
theorem q1443 : (Jvm.Cond.instanceMethod ({ cls := "CounterDesk", name := "few", desc := "(II)J" } : Jvm.MethodName)) ∈ lw_all := lw_g (lw_at lw_m6 114 rfl) rfl
theorem q1444 : (Jvm.Cond.selects "CounterDesk" ({ cls := "CounterDesk", name := "few", desc := "(II)J" } : Jvm.MethodName) ({ cls := "CounterDesk", name := "few", desc := "(II)J" } : Jvm.MethodName)) ∈ lw_all := lw_g (lw_at lw_m6 115 rfl) rfl
theorem q1445 : (Jvm.Cond.code ({ cls := "CounterDesk", name := "few", desc := "(II)J" } : Jvm.MethodName) prog_1_method_78_code (8 : Nat) (Option.some Jvm.ClassFile.FieldType.long)) ∈ lw_all := lw_g (lw_at lw_m6 116 rfl) rfl
theorem q1446 : (Jvm.Cond.constantLong "CounterDesk" (395 : Nat) (20 : Int64)) ∈ lw_all := lw_g (lw_at lw_m6 117 rfl) rfl
theorem q1447 : (Jvm.Cond.constantLong "CounterDesk" (397 : Nat) (99 : Int64)) ∈ lw_all := lw_g (lw_at lw_m6 118 rfl) rfl
theorem q1448 : (Jvm.Cond.constantLong "CounterDesk" (399 : Nat) (-1 : Int64)) ∈ lw_all := lw_g (lw_at lw_m6 119 rfl) rfl
theorem q1449 : (Jvm.Cond.constantLong "CounterDesk" (401 : Nat) (1000000000000 : Int64)) ∈ lw_all := lw_g (lw_at lw_m6 120 rfl) rfl
theorem q1451 : (Jvm.Cond.instanceMethod ({ cls := "CounterDesk", name := "orders", desc := "()I" } : Jvm.MethodName)) ∈ lw_all := lw_g (lw_at lw_m6 122 rfl) rfl
theorem q1452 : (Jvm.Cond.selects "CounterDesk" ({ cls := "CounterDesk", name := "orders", desc := "()I" } : Jvm.MethodName) ({ cls := "CounterDesk", name := "orders", desc := "()I" } : Jvm.MethodName)) ∈ lw_all := lw_g (lw_at lw_m6 123 rfl) rfl
theorem q1453 : (Jvm.Cond.codeWith ({ cls := "CounterDesk", name := "orders", desc := "()I" } : Jvm.MethodName) prog_1_method_80_code (5 : Nat) (Option.some Jvm.ClassFile.FieldType.int) [((5 : Nat), (22 : Nat), (30 : Nat), (249 : Nat)), ((5 : Nat), (22 : Nat), (53 : Nat), (0 : Nat)), ((30 : Nat), (46 : Nat), (53 : Nat), (0 : Nat)), ((53 : Nat), (55 : Nat), (53 : Nat), (0 : Nat))]) ∈ lw_all := lw_g (lw_at lw_m6 124 rfl) rfl
theorem q1454 : (Jvm.Cond.classLink "CounterDesk" (414 : Nat) "CounterDesk$OrderReader") ∈ lw_all := lw_g (lw_at lw_m6 125 rfl) rfl
theorem q1455 : (Jvm.Cond.methodLink "CounterDesk" (416 : Nat) ({ cls := "CounterDesk$OrderReader", name := "<init>", desc := "(LCounterDesk;)V" } : Jvm.MethodName)) ∈ lw_all := lw_g (lw_at lw_m6 126 rfl) rfl
theorem q1483 : (Jvm.Cond.methodLink "CounterDesk" (417 : Nat) ({ cls := "CounterDesk$OrderReader", name := "read", desc := "()[LCounterDesk$Act;" } : Jvm.MethodName)) ∈ lw_all := lw_g (lw_at lw_m6 154 rfl) rfl
theorem q1491 : (Jvm.Cond.methodLink "CounterDesk" (420 : Nat) ({ cls := "CounterDesk$Steps", name := "as", desc := "(LCounterDesk$Steps;)V" } : Jvm.MethodName)) ∈ lw_all := lw_g (lw_at lw_m6 162 rfl) rfl
theorem q1495 : (Jvm.Cond.methodLink "CounterDesk" (426 : Nat) ({ cls := "CounterDesk", name := "runAll", desc := "([LCounterDesk$Act;)I" } : Jvm.MethodName)) ∈ lw_all := lw_g (lw_at lw_m6 166 rfl) rfl
theorem q1496 : (Jvm.Cond.privateMethod ({ cls := "CounterDesk", name := "runAll", desc := "([LCounterDesk$Act;)I" } : Jvm.MethodName)) ∈ lw_tbl := lw_at lw_m6 167 rfl
theorem q1497 : (Jvm.Cond.instanceMethod ({ cls := "CounterDesk", name := "runAll", desc := "([LCounterDesk$Act;)I" } : Jvm.MethodName)) ∈ lw_all := lw_g (lw_at lw_m6 168 rfl) rfl
theorem q1498 : (Jvm.Cond.code ({ cls := "CounterDesk", name := "runAll", desc := "([LCounterDesk$Act;)I" } : Jvm.MethodName) prog_1_method_79_code (4 : Nat) (Option.some Jvm.ClassFile.FieldType.int)) ∈ lw_all := lw_g (lw_at lw_m6 169 rfl) rfl
theorem q1499 : (Jvm.Cond.methodLink "CounterDesk" (408 : Nat) ({ cls := "CounterDesk$Act", name := "run", desc := "()I" } : Jvm.MethodName)) ∈ lw_all := lw_g (lw_at lw_m6 170 rfl) rfl
theorem q1525 : (Jvm.Cond.instanceMethod ({ cls := "CounterDesk", name := "stopped", desc := "()I" } : Jvm.MethodName)) ∈ lw_all := lw_g (lw_at lw_m6 196 rfl) rfl
theorem q1526 : (Jvm.Cond.selects "CounterDesk" ({ cls := "CounterDesk", name := "stopped", desc := "()I" } : Jvm.MethodName) ({ cls := "CounterDesk", name := "stopped", desc := "()I" } : Jvm.MethodName)) ∈ lw_all := lw_g (lw_at lw_m6 197 rfl) rfl
theorem q1527 : (Jvm.Cond.code ({ cls := "CounterDesk", name := "stopped", desc := "()I" } : Jvm.MethodName) prog_1_method_81_code (1 : Nat) (Option.some Jvm.ClassFile.FieldType.int)) ∈ lw_all := lw_g (lw_at lw_m6 198 rfl) rfl
theorem q1529 : (Jvm.Cond.instanceMethod ({ cls := "CounterDesk", name := "weeks", desc := "(II)I" } : Jvm.MethodName)) ∈ lw_all := lw_g (lw_at lw_m6 200 rfl) rfl
theorem q1530 : (Jvm.Cond.selects "CounterDesk" ({ cls := "CounterDesk", name := "weeks", desc := "(II)I" } : Jvm.MethodName) ({ cls := "CounterDesk", name := "weeks", desc := "(II)I" } : Jvm.MethodName)) ∈ lw_all := lw_g (lw_at lw_m6 201 rfl) rfl
theorem q1531 : (Jvm.Cond.code ({ cls := "CounterDesk", name := "weeks", desc := "(II)I" } : Jvm.MethodName) prog_1_method_82_code (9 : Nat) (Option.some Jvm.ClassFile.FieldType.int)) ∈ lw_all := lw_g (lw_at lw_m6 202 rfl) rfl
theorem q1532 : (Jvm.Cond.constantLong "CounterDesk" (430 : Nat) (1000000 : Int64)) ∈ lw_all := lw_g (lw_at lw_m6 203 rfl) rfl
theorem q1533 : (Jvm.Cond.constantLong "CounterDesk" (432 : Nat) (60 : Int64)) ∈ lw_all := lw_g (lw_at lw_m6 204 rfl) rfl
theorem q1534 : (Jvm.Cond.classLink "CounterDesk" (434 : Nat) "CounterDesk$Draws") ∈ lw_all := lw_g (lw_at lw_m6 205 rfl) rfl
theorem q1536 : (Jvm.Cond.methodLink "CounterDesk" (436 : Nat) ({ cls := "CounterDesk$Draws", name := "<init>", desc := "(I)V" } : Jvm.MethodName)) ∈ lw_all := lw_g (lw_at lw_m6 207 rfl) rfl
theorem q1544 : (Jvm.Cond.methodLink "CounterDesk" (438 : Nat) ({ cls := "CounterDesk$Draws", name := "next", desc := "(I)I" } : Jvm.MethodName)) ∈ lw_all := lw_g (lw_at lw_m6 215 rfl) rfl
theorem q1552 : (Jvm.Cond.instanceMethod ({ cls := "CounterDesk", name := "drawn", desc := "(II)I" } : Jvm.MethodName)) ∈ lw_all := lw_g (lw_at lw_m6 223 rfl) rfl
theorem q1553 : (Jvm.Cond.selects "CounterDesk" ({ cls := "CounterDesk", name := "drawn", desc := "(II)I" } : Jvm.MethodName) ({ cls := "CounterDesk", name := "drawn", desc := "(II)I" } : Jvm.MethodName)) ∈ lw_all := lw_g (lw_at lw_m6 224 rfl) rfl
theorem q1554 : (Jvm.Cond.code ({ cls := "CounterDesk", name := "drawn", desc := "(II)I" } : Jvm.MethodName) prog_1_method_83_code (3 : Nat) (Option.some Jvm.ClassFile.FieldType.int)) ∈ lw_all := lw_g (lw_at lw_m6 225 rfl) rfl
theorem q1556 : (Jvm.Cond.instanceMethod ({ cls := "CounterDesk", name := "image", desc := "(I)I" } : Jvm.MethodName)) ∈ lw_all := lw_g (lw_at lw_m6 227 rfl) rfl
theorem q1557 : (Jvm.Cond.selects "CounterDesk" ({ cls := "CounterDesk", name := "image", desc := "(I)I" } : Jvm.MethodName) ({ cls := "CounterDesk", name := "image", desc := "(I)I" } : Jvm.MethodName)) ∈ lw_all := lw_g (lw_at lw_m6 228 rfl) rfl
theorem q1558 : (Jvm.Cond.code ({ cls := "CounterDesk", name := "image", desc := "(I)I" } : Jvm.MethodName) prog_1_method_84_code (2 : Nat) (Option.some Jvm.ClassFile.FieldType.int)) ∈ lw_all := lw_g (lw_at lw_m6 229 rfl) rfl
theorem q1559 : (Jvm.Cond.methodLink "CounterDesk" (441 : Nat) ({ cls := "CounterDesk$Desk", name := "copy", desc := "()LCounterDesk$Desk;" } : Jvm.MethodName)) ∈ lw_all := lw_g (lw_at lw_m6 230 rfl) rfl
theorem q1583 : (Jvm.Cond.instanceMethod ({ cls := "CounterDesk", name := "back", desc := "(I)I" } : Jvm.MethodName)) ∈ lw_all := lw_g (lw_at lw_m7 14 rfl) rfl
theorem q1584 : (Jvm.Cond.selects "CounterDesk" ({ cls := "CounterDesk", name := "back", desc := "(I)I" } : Jvm.MethodName) ({ cls := "CounterDesk", name := "back", desc := "(I)I" } : Jvm.MethodName)) ∈ lw_all := lw_g (lw_at lw_m7 15 rfl) rfl
theorem q1585 : (Jvm.Cond.code ({ cls := "CounterDesk", name := "back", desc := "(I)I" } : Jvm.MethodName) prog_1_method_85_code (2 : Nat) (Option.some Jvm.ClassFile.FieldType.int)) ∈ lw_all := lw_g (lw_at lw_m7 16 rfl) rfl
theorem q1587 : (Jvm.Cond.instanceMethod ({ cls := "CounterDesk", name := "count", desc := "(I)I" } : Jvm.MethodName)) ∈ lw_all := lw_g (lw_at lw_m7 18 rfl) rfl
theorem q1588 : (Jvm.Cond.selects "CounterDesk" ({ cls := "CounterDesk", name := "count", desc := "(I)I" } : Jvm.MethodName) ({ cls := "CounterDesk", name := "count", desc := "(I)I" } : Jvm.MethodName)) ∈ lw_all := lw_g (lw_at lw_m7 19 rfl) rfl
theorem q1589 : (Jvm.Cond.code ({ cls := "CounterDesk", name := "count", desc := "(I)I" } : Jvm.MethodName) prog_1_method_86_code (2 : Nat) (Option.some Jvm.ClassFile.FieldType.int)) ∈ lw_all := lw_g (lw_at lw_m7 20 rfl) rfl
theorem q1590 : (Jvm.Cond.constantLong "CounterDesk" (445 : Nat) (12 : Int64)) ∈ lw_all := lw_g (lw_at lw_m7 21 rfl) rfl
theorem q1591 : (Jvm.Cond.constantLong "CounterDesk" (447 : Nat) (16 : Int64)) ∈ lw_all := lw_g (lw_at lw_m7 22 rfl) rfl
theorem q1593 : (Jvm.Cond.instanceMethod ({ cls := "CounterDesk", name := "status", desc := "()I" } : Jvm.MethodName)) ∈ lw_all := lw_g (lw_at lw_m7 24 rfl) rfl
theorem q1594 : (Jvm.Cond.selects "CounterDesk" ({ cls := "CounterDesk", name := "status", desc := "()I" } : Jvm.MethodName) ({ cls := "CounterDesk", name := "status", desc := "()I" } : Jvm.MethodName)) ∈ lw_all := lw_g (lw_at lw_m7 25 rfl) rfl
theorem q1595 : (Jvm.Cond.code ({ cls := "CounterDesk", name := "status", desc := "()I" } : Jvm.MethodName) prog_1_method_87_code (1 : Nat) (Option.some Jvm.ClassFile.FieldType.int)) ∈ lw_all := lw_g (lw_at lw_m7 26 rfl) rfl
theorem q2317 : (Jvm.Cond.castable "CounterDesk" "java/lang/Object") ∈ lw_tbl := lw_at lw_m10 28 rfl
theorem in_X0 : ∀ w ∈ wsX00, w ∈ lw_all := lw_in wsX00 [367, 369, 371, 373, 375, 377, 379, 381, 383, 385, 387, 389, 391, 393, 395, 397, 399, 401, 403, 405, 407, 409, 411, 413, 415, 417, 419, 421] (by decide +kernel) (by decide +kernel)
