/-! CounterDeskModel -/
set_option maxRecDepth 100000
def RX6 : String := "CounterDeskModel"
def TX6 : u_T := fun k => match k with
  | 0 => ("CounterDeskModel", "status", "I", false)
  | 1 => ("CounterDeskModel", "refused", "[I", true)
  | 2 => ("CounterDeskModel", "kept", "[I", true)
  | 3 => ("CounterDeskModel", "images", "[I", true)
  | 4 => ("CounterDeskModel", "hasImage", "[Z", true)
  | 5 => ("CounterDeskModel", "aside", "[I", true)
  | 6 => ("CounterDeskModel", "blots0", "I", false)
  | 7 => ("CounterDeskModel", "words", "[B", true)
  | 8 => ("CounterDeskModel", "firstWord", "I", false)
  | 9 => ("CounterDeskModel", "lastWord", "I", false)
  | 10 => ("CounterDeskModel", "isOrders", "Z", false)
  | 11 => ("CounterDeskModel", "tape", "[B", true)
  | 12 => ("CounterDeskModel", "five", "[I", true)
  | 13 => ("CounterDeskModel", "taped", "I", false)
  | 14 => ("CounterDeskModel", "fault", "I", false)
  | 15 => ("CounterDeskModel", "code", "[I", true)
  | 16 => ("CounterDeskModel", "value", "[I", true)
  | 17 => ("CounterDeskModel", "placed", "[I", true)
  | 18 => ("CounterDeskModel", "tokens", "I", false)
  | 19 => ("CounterDeskModel", "token", "I", false)
  | 20 => ("CounterDeskModel", "leaves", "I", false)
  | 21 => ("CounterDeskModel", "bad", "I", false)
  | 22 => ("CounterDeskModel", "go", "I", false)
  | 23 => ("CounterDeskModel", "goEnd", "I", false)
  | 24 => ("CounterDeskModel", "broken", "Z", false)
  | 25 => ("CounterDeskModel", "inOrders", "Z", false)
  | 26 => ("CounterDeskModel", "asked", "[I", true)
  | 27 => ("CounterDeskModel", "orderDone", "I", false)
  | 28 => ("CounterDeskModel", "orderLatest", "I", false)
  | 29 => ("CounterDeskModel", "orderBarred", "I", false)
  | 30 => ("CounterDeskModel", "orderCosts", "I", false)
  | 31 => ("CounterDeskModel", "left0", "[I", true)
  | 32 => ("CounterDeskModel", "leftAhead", "[I", true)
  | 33 => ("CounterDeskModel", "undoMany", "I", false)
  | 34 => ("CounterDeskModel", "price", "[I", true)
  | 35 => ("CounterDeskModel", "gain", "[I", true)
  | 36 => ("CounterDeskModel", "can", "[Z", true)
  | 37 => ("CounterDeskModel", "rest", "[I", true)
  | 38 => ("CounterDeskModel", "waysRest", "[J", true)
  | 39 => ("CounterDeskModel", "facts", "[I", true)
  | 40 => ("CounterDeskModel", "shares", "[J", true)
  | 41 => ("CounterDeskModel", "stopped0", "I", false)
  | 42 => ("CounterDeskModel", "orderAt", "I", false)
  | 43 => ("CounterDeskModel", "howOften", "I", false)
  | 44 => ("CounterDeskModel", "head", "I", false)
  | 45 => ("CounterDeskModel", "sumsAre", "Z", false)
  | 46 => ("CounterDeskModel", "testIs", "Z", false)
  | 47 => ("CounterDeskModel", "sums", "[J", true)
  | 48 => ("CounterDeskModel", "drawnMoved", "[I", true)
  | 49 => ("CounterDeskModel", "drawnMany", "I", false)
  | _ => ("CounterDeskModel", "latest", "I", false)
def tyX6 : Nat → FieldType := fun k => match k with
  | 0 => .int
  | 1 => .array .int
  | 2 => .array .int
  | 3 => .array .int
  | 4 => .array .boolean
  | 5 => .array .int
  | 6 => .int
  | 7 => .array .byte
  | 8 => .int
  | 9 => .int
  | 10 => .boolean
  | 11 => .array .byte
  | 12 => .array .int
  | 13 => .int
  | 14 => .int
  | 15 => .array .int
  | 16 => .array .int
  | 17 => .array .int
  | 18 => .int
  | 19 => .int
  | 20 => .int
  | 21 => .int
  | 22 => .int
  | 23 => .int
  | 24 => .boolean
  | 25 => .boolean
  | 26 => .array .int
  | 27 => .int
  | 28 => .int
  | 29 => .int
  | 30 => .int
  | 31 => .array .int
  | 32 => .array .int
  | 33 => .int
  | 34 => .array .int
  | 35 => .array .int
  | 36 => .array .boolean
  | 37 => .array .int
  | 38 => .array .long
  | 39 => .array .int
  | 40 => .array .long
  | 41 => .int
  | 42 => .int
  | 43 => .int
  | 44 => .int
  | 45 => .boolean
  | 46 => .boolean
  | 47 => .array .long
  | 48 => .array .int
  | 49 => .int
  | _ => .int
abbrev wsX60 : List Cond := u_ws RX6 TX6 51
set_option maxRecDepth 100000 in
theorem nmX6 : ∀ a, a < 51 → ∀ b, b < 51 → a ≠ b → (TX6 a).2.1 ≠ (TX6 b).2.1 := by decide +kernel
set_option maxRecDepth 100000 in
theorem tyX6_ok : ∀ k, k < 51 → parseFieldDescriptor (TX6 k).2.2.1 = some (tyX6 k) := by decide +kernel
abbrev cX6_init : ByteArray := prog_24_method_11_code
def yX6_init : MethodName := ⟨RX6, "<init>", "()V"⟩
def dkwX6_init_44 : List UInt8 := [42, 180, 0, 28, 16, 40, 16, 24, 79, 42, 180, 0, 28, 16, 44, 2, 79, 177]
abbrev dktX6_init_44 : List UInt8 := dkwX6_init_44 ++ []
def dkwX6_init_43 : List UInt8 := [181, 0, 97, 42, 16, 25, 188, 10, 181, 0, 100, 42, 2, 181, 0, 103, 42, 180, 0, 28, 16, 37, 4, 79]
abbrev dktX6_init_43 : List UInt8 := dkwX6_init_43 ++ dktX6_init_44
def dkwX6_init_42 : List UInt8 := [188, 10, 181, 0, 88, 42, 16, 21, 188, 11, 181, 0, 91, 42, 2, 181, 0, 94, 42, 5, 188, 11]
abbrev dktX6_init_42 : List UInt8 := dkwX6_init_42 ++ dktX6_init_43
def dkwX6_init_41 : List UInt8 := [181, 0, 78, 42, 17, 1, 44, 188, 10, 181, 0, 81, 42, 17, 1, 44, 188, 11, 181, 0, 84, 42, 16, 48]
abbrev dktX6_init_41 : List UInt8 := dkwX6_init_41 ++ dktX6_init_42
def dkwX6_init_40 : List UInt8 := [17, 29, 76, 188, 10, 181, 0, 72, 42, 17, 29, 76, 188, 10, 181, 0, 75, 42, 17, 29, 76, 188, 4]
abbrev dktX6_init_40 : List UInt8 := dkwX6_init_40 ++ dktX6_init_41
def dkwX6_init_39 : List UInt8 := [181, 0, 63, 42, 17, 1, 160, 188, 10, 181, 0, 66, 42, 17, 1, 160, 188, 10, 181, 0, 69, 42]
abbrev dktX6_init_39 : List UInt8 := dkwX6_init_39 ++ dktX6_init_40
def dkwX6_init_38 : List UInt8 := [42, 17, 1, 145, 188, 10, 181, 0, 57, 42, 17, 1, 145, 188, 10, 181, 0, 60, 42, 16, 10, 188, 10]
abbrev dktX6_init_38 : List UInt8 := dkwX6_init_38 ++ dktX6_init_39
def dkwX6_init_37 : List UInt8 := [181, 0, 45, 42, 8, 188, 10, 181, 0, 48, 42, 2, 181, 0, 51, 42, 17, 1, 145, 188, 10, 181, 0, 54]
abbrev dktX6_init_37 : List UInt8 := dkwX6_init_37 ++ dktX6_init_38
def dkwX6_init_36 : List UInt8 := [89, 17, 0, 135, 16, 115, 84, 89, 17, 0, 136, 16, 32, 84, 181, 0, 41, 42, 17, 1, 144, 188, 8]
abbrev dktX6_init_36 : List UInt8 := dkwX6_init_36 ++ dktX6_init_37
def dkwX6_init_35 : List UInt8 := [16, 116, 84, 89, 17, 0, 132, 16, 105, 84, 89, 17, 0, 133, 16, 109, 84, 89, 17, 0, 134, 16, 101, 84]
abbrev dktX6_init_35 : List UInt8 := dkwX6_init_35 ++ dktX6_init_36
def dkwX6_init_34 : List UInt8 := [17, 0, 128, 16, 116, 84, 89, 17, 0, 129, 16, 111, 84, 89, 17, 0, 130, 16, 32, 84, 89, 17, 0, 131]
abbrev dktX6_init_34 : List UInt8 := dkwX6_init_34 ++ dktX6_init_35
def dkwX6_init_33 : List UInt8 := [16, 124, 16, 97, 84, 89, 16, 125, 16, 115, 84, 89, 16, 126, 16, 115, 84, 89, 16, 127, 16, 32, 84, 89]
abbrev dktX6_init_33 : List UInt8 := dkwX6_init_33 ++ dktX6_init_34
def dkwX6_init_32 : List UInt8 := [16, 120, 16, 97, 84, 89, 16, 121, 16, 112, 84, 89, 16, 122, 16, 32, 84, 89, 16, 123, 16, 112, 84, 89]
abbrev dktX6_init_32 : List UInt8 := dkwX6_init_32 ++ dktX6_init_33
def dkwX6_init_31 : List UInt8 := [16, 116, 16, 116, 84, 89, 16, 117, 16, 32, 84, 89, 16, 118, 16, 115, 84, 89, 16, 119, 16, 119, 84, 89]
abbrev dktX6_init_31 : List UInt8 := dkwX6_init_31 ++ dktX6_init_32
def dkwX6_init_30 : List UInt8 := [16, 112, 16, 115, 84, 89, 16, 113, 16, 104, 84, 89, 16, 114, 16, 105, 84, 89, 16, 115, 16, 102, 84, 89]
abbrev dktX6_init_30 : List UInt8 := dkwX6_init_30 ++ dktX6_init_31
def dkwX6_init_29 : List UInt8 := [16, 108, 16, 115, 84, 89, 16, 109, 16, 101, 84, 89, 16, 110, 16, 116, 84, 89, 16, 111, 16, 32, 84, 89]
abbrev dktX6_init_29 : List UInt8 := dkwX6_init_29 ++ dktX6_init_30
def dkwX6_init_28 : List UInt8 := [16, 104, 16, 97, 84, 89, 16, 105, 16, 108, 84, 89, 16, 106, 16, 108, 84, 89, 16, 107, 16, 32, 84, 89]
abbrev dktX6_init_28 : List UInt8 := dkwX6_init_28 ++ dktX6_init_29
def dkwX6_init_27 : List UInt8 := [16, 100, 16, 114, 84, 89, 16, 101, 16, 101, 84, 89, 16, 102, 16, 100, 84, 89, 16, 103, 16, 32, 84, 89]
abbrev dktX6_init_27 : List UInt8 := dkwX6_init_27 ++ dktX6_init_28
def dkwX6_init_26 : List UInt8 := [16, 96, 16, 32, 84, 89, 16, 97, 16, 98, 84, 89, 16, 98, 16, 97, 84, 89, 16, 99, 16, 114, 84, 89]
abbrev dktX6_init_26 : List UInt8 := dkwX6_init_26 ++ dktX6_init_27
def dkwX6_init_25 : List UInt8 := [16, 92, 16, 116, 84, 89, 16, 93, 16, 101, 84, 89, 16, 94, 16, 115, 84, 89, 16, 95, 16, 116, 84, 89]
abbrev dktX6_init_25 : List UInt8 := dkwX6_init_25 ++ dktX6_init_26
def dkwX6_init_24 : List UInt8 := [16, 88, 16, 101, 84, 89, 16, 89, 16, 32, 84, 89, 16, 90, 16, 108, 84, 89, 16, 91, 16, 97, 84, 89]
abbrev dktX6_init_24 : List UInt8 := dkwX6_init_24 ++ dktX6_init_25
def dkwX6_init_23 : List UInt8 := [16, 84, 16, 32, 84, 89, 16, 85, 16, 100, 84, 89, 16, 86, 16, 111, 84, 89, 16, 87, 16, 110, 84, 89]
abbrev dktX6_init_23 : List UInt8 := dkwX6_init_23 ++ dktX6_init_24
def dkwX6_init_22 : List UInt8 := [16, 80, 16, 32, 84, 89, 16, 81, 16, 100, 84, 89, 16, 82, 16, 97, 84, 89, 16, 83, 16, 121, 84, 89]
abbrev dktX6_init_22 : List UInt8 := dkwX6_init_22 ++ dktX6_init_23
def dkwX6_init_21 : List UInt8 := [16, 76, 16, 110, 84, 89, 16, 77, 16, 100, 84, 89, 16, 78, 16, 101, 84, 89, 16, 79, 16, 114, 84, 89]
abbrev dktX6_init_21 : List UInt8 := dkwX6_init_21 ++ dktX6_init_22
def dkwX6_init_20 : List UInt8 := [16, 72, 16, 114, 84, 89, 16, 73, 16, 101, 84, 89, 16, 74, 16, 32, 84, 89, 16, 75, 16, 117, 84, 89]
abbrev dktX6_init_20 : List UInt8 := dkwX6_init_20 ++ dktX6_init_21
def dkwX6_init_19 : List UInt8 := [16, 68, 16, 100, 84, 89, 16, 69, 16, 32, 84, 89, 16, 70, 16, 104, 84, 89, 16, 71, 16, 101, 84, 89]
abbrev dktX6_init_19 : List UInt8 := dkwX6_init_19 ++ dktX6_init_20
def dkwX6_init_18 : List UInt8 := [16, 64, 16, 32, 84, 89, 16, 65, 16, 109, 84, 89, 16, 66, 16, 111, 84, 89, 16, 67, 16, 111, 84, 89]
abbrev dktX6_init_18 : List UInt8 := dkwX6_init_18 ++ dktX6_init_19
def dkwX6_init_17 : List UInt8 := [16, 60, 16, 108, 84, 89, 16, 61, 16, 97, 84, 89, 16, 62, 16, 115, 84, 89, 16, 63, 16, 116, 84, 89]
abbrev dktX6_init_17 : List UInt8 := dkwX6_init_17 ++ dktX6_init_18
def dkwX6_init_16 : List UInt8 := [16, 56, 16, 118, 84, 89, 16, 57, 16, 101, 84, 89, 16, 58, 16, 115, 84, 89, 16, 59, 16, 32, 84, 89]
abbrev dktX6_init_16 : List UInt8 := dkwX6_init_16 ++ dktX6_init_17
def dkwX6_init_15 : List UInt8 := [16, 52, 16, 112, 84, 89, 16, 53, 16, 32, 84, 89, 16, 54, 16, 109, 84, 89, 16, 55, 16, 111, 84, 89]
abbrev dktX6_init_15 : List UInt8 := dkwX6_init_15 ++ dktX6_init_16
def dkwX6_init_14 : List UInt8 := [16, 48, 16, 32, 84, 89, 16, 49, 16, 108, 84, 89, 16, 50, 16, 101, 84, 89, 16, 51, 16, 97, 84, 89]
abbrev dktX6_init_14 : List UInt8 := dkwX6_init_14 ++ dktX6_init_15
def dkwX6_init_13 : List UInt8 := [16, 44, 16, 104, 84, 89, 16, 45, 16, 101, 84, 89, 16, 46, 16, 97, 84, 89, 16, 47, 16, 100, 84, 89]
abbrev dktX6_init_13 : List UInt8 := dkwX6_init_13 ++ dktX6_init_14
def dkwX6_init_12 : List UInt8 := [16, 40, 16, 114, 84, 89, 16, 41, 16, 116, 84, 89, 16, 42, 16, 32, 84, 89, 16, 43, 16, 97, 84, 89]
abbrev dktX6_init_12 : List UInt8 := dkwX6_init_12 ++ dktX6_init_13
def dkwX6_init_11 : List UInt8 := [16, 36, 16, 32, 84, 89, 16, 37, 16, 97, 84, 89, 16, 38, 16, 112, 84, 89, 16, 39, 16, 97, 84, 89]
abbrev dktX6_init_11 : List UInt8 := dkwX6_init_11 ++ dktX6_init_12
def dkwX6_init_10 : List UInt8 := [16, 32, 16, 108, 84, 89, 16, 33, 16, 97, 84, 89, 16, 34, 16, 99, 84, 89, 16, 35, 16, 101, 84, 89]
abbrev dktX6_init_10 : List UInt8 := dkwX6_init_10 ++ dktX6_init_11
def dkwX6_init_9 : List UInt8 := [16, 28, 16, 111, 84, 89, 16, 29, 16, 116, 84, 89, 16, 30, 16, 32, 84, 89, 16, 31, 16, 112, 84, 89]
abbrev dktX6_init_9 : List UInt8 := dkwX6_init_9 ++ dktX6_init_10
def dkwX6_init_8 : List UInt8 := [16, 24, 16, 110, 84, 89, 16, 25, 16, 100, 84, 89, 16, 26, 16, 32, 84, 89, 16, 27, 16, 110, 84, 89]
abbrev dktX6_init_8 : List UInt8 := dkwX6_init_8 ++ dktX6_init_9
def dkwX6_init_7 : List UInt8 := [16, 20, 16, 111, 84, 89, 16, 21, 16, 114, 84, 89, 16, 22, 16, 32, 84, 89, 16, 23, 16, 97, 84, 89]
abbrev dktX6_init_7 : List UInt8 := dkwX6_init_7 ++ dktX6_init_8
def dkwX6_init_6 : List UInt8 := [16, 16, 16, 32, 84, 89, 16, 17, 16, 105, 84, 89, 16, 18, 16, 102, 84, 89, 16, 19, 16, 32, 84, 89]
abbrev dktX6_init_6 : List UInt8 := dkwX6_init_6 ++ dktX6_init_7
def dkwX6_init_5 : List UInt8 := [16, 12, 16, 98, 84, 89, 16, 13, 16, 97, 84, 89, 16, 14, 16, 114, 84, 89, 16, 15, 16, 115, 84, 89]
abbrev dktX6_init_5 : List UInt8 := dkwX6_init_5 ++ dktX6_init_6
def dkwX6_init_4 : List UInt8 := [16, 8, 16, 114, 84, 89, 16, 9, 16, 110, 84, 89, 16, 10, 16, 115, 84, 89, 16, 11, 16, 32, 84, 89]
abbrev dktX6_init_4 : List UInt8 := dkwX6_init_4 ++ dktX6_init_5
def dkwX6_init_3 : List UInt8 := [84, 89, 7, 16, 115, 84, 89, 8, 16, 32, 84, 89, 16, 6, 16, 101, 84, 89, 16, 7, 16, 97, 84, 89]
abbrev dktX6_init_3 : List UInt8 := dkwX6_init_3 ++ dktX6_init_4
def dkwX6_init_2 : List UInt8 := [17, 0, 137, 188, 8, 89, 3, 16, 99, 84, 89, 4, 16, 111, 84, 89, 5, 16, 115, 84, 89, 6, 16, 116]
abbrev dktX6_init_2 : List UInt8 := dkwX6_init_2 ++ dktX6_init_3
def dkwX6_init_1 : List UInt8 := [17, 44, 40, 188, 10, 181, 0, 31, 42, 5, 188, 4, 181, 0, 34, 42, 16, 50, 188, 10, 181, 0, 38, 42]
abbrev dktX6_init_1 : List UInt8 := dkwX6_init_1 ++ dktX6_init_2
def dkwX6_init_0 : List UInt8 := [42, 183, 0, 22, 42, 16, 7, 188, 10, 181, 0, 7, 42, 17, 22, 20, 188, 10, 181, 0, 28, 42]
abbrev dktX6_init_0 : List UInt8 := dkwX6_init_0 ++ dktX6_init_1
theorem dksX6_init_0 : cX6_init.data.toList.drop 0 = dktX6_init_0 := by decide +kernel
theorem dksX6_init_1 : cX6_init.data.toList.drop 22 = dktX6_init_1 := dk_seg dksX6_init_0 22 rfl rfl
theorem dksX6_init_2 : cX6_init.data.toList.drop 46 = dktX6_init_2 := dk_seg dksX6_init_1 24 rfl rfl
theorem dksX6_init_3 : cX6_init.data.toList.drop 70 = dktX6_init_3 := dk_seg dksX6_init_2 24 rfl rfl
theorem dksX6_init_4 : cX6_init.data.toList.drop 94 = dktX6_init_4 := dk_seg dksX6_init_3 24 rfl rfl
theorem dksX6_init_5 : cX6_init.data.toList.drop 118 = dktX6_init_5 := dk_seg dksX6_init_4 24 rfl rfl
theorem dksX6_init_6 : cX6_init.data.toList.drop 142 = dktX6_init_6 := dk_seg dksX6_init_5 24 rfl rfl
theorem dksX6_init_7 : cX6_init.data.toList.drop 166 = dktX6_init_7 := dk_seg dksX6_init_6 24 rfl rfl
theorem dksX6_init_8 : cX6_init.data.toList.drop 190 = dktX6_init_8 := dk_seg dksX6_init_7 24 rfl rfl
theorem dksX6_init_9 : cX6_init.data.toList.drop 214 = dktX6_init_9 := dk_seg dksX6_init_8 24 rfl rfl
theorem dksX6_init_10 : cX6_init.data.toList.drop 238 = dktX6_init_10 := dk_seg dksX6_init_9 24 rfl rfl
theorem dksX6_init_11 : cX6_init.data.toList.drop 262 = dktX6_init_11 := dk_seg dksX6_init_10 24 rfl rfl
theorem dksX6_init_12 : cX6_init.data.toList.drop 286 = dktX6_init_12 := dk_seg dksX6_init_11 24 rfl rfl
theorem dksX6_init_13 : cX6_init.data.toList.drop 310 = dktX6_init_13 := dk_seg dksX6_init_12 24 rfl rfl
theorem dksX6_init_14 : cX6_init.data.toList.drop 334 = dktX6_init_14 := dk_seg dksX6_init_13 24 rfl rfl
theorem dksX6_init_15 : cX6_init.data.toList.drop 358 = dktX6_init_15 := dk_seg dksX6_init_14 24 rfl rfl
theorem dksX6_init_16 : cX6_init.data.toList.drop 382 = dktX6_init_16 := dk_seg dksX6_init_15 24 rfl rfl
theorem dksX6_init_17 : cX6_init.data.toList.drop 406 = dktX6_init_17 := dk_seg dksX6_init_16 24 rfl rfl
theorem dksX6_init_18 : cX6_init.data.toList.drop 430 = dktX6_init_18 := dk_seg dksX6_init_17 24 rfl rfl
theorem dksX6_init_19 : cX6_init.data.toList.drop 454 = dktX6_init_19 := dk_seg dksX6_init_18 24 rfl rfl
theorem dksX6_init_20 : cX6_init.data.toList.drop 478 = dktX6_init_20 := dk_seg dksX6_init_19 24 rfl rfl
theorem dksX6_init_21 : cX6_init.data.toList.drop 502 = dktX6_init_21 := dk_seg dksX6_init_20 24 rfl rfl
theorem dksX6_init_22 : cX6_init.data.toList.drop 526 = dktX6_init_22 := dk_seg dksX6_init_21 24 rfl rfl
theorem dksX6_init_23 : cX6_init.data.toList.drop 550 = dktX6_init_23 := dk_seg dksX6_init_22 24 rfl rfl
theorem dksX6_init_24 : cX6_init.data.toList.drop 574 = dktX6_init_24 := dk_seg dksX6_init_23 24 rfl rfl
theorem dksX6_init_25 : cX6_init.data.toList.drop 598 = dktX6_init_25 := dk_seg dksX6_init_24 24 rfl rfl
theorem dksX6_init_26 : cX6_init.data.toList.drop 622 = dktX6_init_26 := dk_seg dksX6_init_25 24 rfl rfl
theorem dksX6_init_27 : cX6_init.data.toList.drop 646 = dktX6_init_27 := dk_seg dksX6_init_26 24 rfl rfl
theorem dksX6_init_28 : cX6_init.data.toList.drop 670 = dktX6_init_28 := dk_seg dksX6_init_27 24 rfl rfl
theorem dksX6_init_29 : cX6_init.data.toList.drop 694 = dktX6_init_29 := dk_seg dksX6_init_28 24 rfl rfl
theorem dksX6_init_30 : cX6_init.data.toList.drop 718 = dktX6_init_30 := dk_seg dksX6_init_29 24 rfl rfl
theorem dksX6_init_31 : cX6_init.data.toList.drop 742 = dktX6_init_31 := dk_seg dksX6_init_30 24 rfl rfl
theorem dksX6_init_32 : cX6_init.data.toList.drop 766 = dktX6_init_32 := dk_seg dksX6_init_31 24 rfl rfl
theorem dksX6_init_33 : cX6_init.data.toList.drop 790 = dktX6_init_33 := dk_seg dksX6_init_32 24 rfl rfl
theorem dksX6_init_34 : cX6_init.data.toList.drop 814 = dktX6_init_34 := dk_seg dksX6_init_33 24 rfl rfl
theorem dksX6_init_35 : cX6_init.data.toList.drop 838 = dktX6_init_35 := dk_seg dksX6_init_34 24 rfl rfl
theorem dksX6_init_36 : cX6_init.data.toList.drop 862 = dktX6_init_36 := dk_seg dksX6_init_35 24 rfl rfl
theorem dksX6_init_37 : cX6_init.data.toList.drop 885 = dktX6_init_37 := dk_seg dksX6_init_36 23 rfl rfl
theorem dksX6_init_38 : cX6_init.data.toList.drop 909 = dktX6_init_38 := dk_seg dksX6_init_37 24 rfl rfl
theorem dksX6_init_39 : cX6_init.data.toList.drop 932 = dktX6_init_39 := dk_seg dksX6_init_38 23 rfl rfl
theorem dksX6_init_40 : cX6_init.data.toList.drop 954 = dktX6_init_40 := dk_seg dksX6_init_39 22 rfl rfl
theorem dksX6_init_41 : cX6_init.data.toList.drop 977 = dktX6_init_41 := dk_seg dksX6_init_40 23 rfl rfl
theorem dksX6_init_42 : cX6_init.data.toList.drop 1001 = dktX6_init_42 := dk_seg dksX6_init_41 24 rfl rfl
theorem dksX6_init_43 : cX6_init.data.toList.drop 1023 = dktX6_init_43 := dk_seg dksX6_init_42 22 rfl rfl
theorem dksX6_init_44 : cX6_init.data.toList.drop 1047 = dktX6_init_44 := dk_seg dksX6_init_43 24 rfl rfl
theorem dX6_init_0 : decode cX6_init 0 = .ok (.aload_n 0, 1) := dk_42 (dk_at dksX6_init_0 0 rfl rfl)
theorem dX6_init_1 : decode cX6_init 1 = .ok (.invokespecial 22, 3) := dk_183 0 22 (dk_at dksX6_init_0 1 rfl rfl)
theorem dX6_init_4 : decode cX6_init 4 = .ok (.aload_n 0, 1) := dk_42 (dk_at dksX6_init_0 4 rfl rfl)
theorem dX6_init_5 : decode cX6_init 5 = .ok (.bipush 7, 2) := dk_16 7 (dk_at dksX6_init_0 5 rfl rfl)
theorem dX6_init_7 : decode cX6_init 7 = .ok (.newarray .int, 2) := dk_188_10 (dk_at dksX6_init_0 7 rfl rfl)
theorem dX6_init_9 : decode cX6_init 9 = .ok (.putfield 7, 3) := dk_181 0 7 (dk_at dksX6_init_0 9 rfl rfl)
theorem dX6_init_12 : decode cX6_init 12 = .ok (.aload_n 0, 1) := dk_42 (dk_at dksX6_init_0 12 rfl rfl)
theorem dX6_init_13 : decode cX6_init 13 = .ok (.sipush 5652, 3) := dk_17 22 20 (dk_at dksX6_init_0 13 rfl rfl)
theorem dX6_init_16 : decode cX6_init 16 = .ok (.newarray .int, 2) := dk_188_10 (dk_at dksX6_init_0 16 rfl rfl)
theorem dX6_init_18 : decode cX6_init 18 = .ok (.putfield 28, 3) := dk_181 0 28 (dk_at dksX6_init_0 18 rfl rfl)
theorem dX6_init_21 : decode cX6_init 21 = .ok (.aload_n 0, 1) := dk_42 (dk_at dksX6_init_0 21 rfl rfl)
theorem dX6_init_22 : decode cX6_init 22 = .ok (.sipush 11304, 3) := dk_17 44 40 (dk_at dksX6_init_1 0 rfl rfl)
theorem dX6_init_25 : decode cX6_init 25 = .ok (.newarray .int, 2) := dk_188_10 (dk_at dksX6_init_1 3 rfl rfl)
theorem dX6_init_27 : decode cX6_init 27 = .ok (.putfield 31, 3) := dk_181 0 31 (dk_at dksX6_init_1 5 rfl rfl)
theorem dX6_init_30 : decode cX6_init 30 = .ok (.aload_n 0, 1) := dk_42 (dk_at dksX6_init_1 8 rfl rfl)
theorem dX6_init_31 : decode cX6_init 31 = .ok (.iconst 2, 1) := dk_5 (dk_at dksX6_init_1 9 rfl rfl)
theorem dX6_init_32 : decode cX6_init 32 = .ok (.newarray .boolean, 2) := dk_188_4 (dk_at dksX6_init_1 10 rfl rfl)
theorem dX6_init_34 : decode cX6_init 34 = .ok (.putfield 34, 3) := dk_181 0 34 (dk_at dksX6_init_1 12 rfl rfl)
theorem dX6_init_37 : decode cX6_init 37 = .ok (.aload_n 0, 1) := dk_42 (dk_at dksX6_init_1 15 rfl rfl)
theorem dX6_init_38 : decode cX6_init 38 = .ok (.bipush 50, 2) := dk_16 50 (dk_at dksX6_init_1 16 rfl rfl)
theorem dX6_init_40 : decode cX6_init 40 = .ok (.newarray .int, 2) := dk_188_10 (dk_at dksX6_init_1 18 rfl rfl)
theorem dX6_init_42 : decode cX6_init 42 = .ok (.putfield 38, 3) := dk_181 0 38 (dk_at dksX6_init_1 20 rfl rfl)
theorem dX6_init_45 : decode cX6_init 45 = .ok (.aload_n 0, 1) := dk_42 (dk_at dksX6_init_1 23 rfl rfl)
theorem dX6_init_46 : decode cX6_init 46 = .ok (.sipush 137, 3) := dk_17 0 137 (dk_at dksX6_init_2 0 rfl rfl)
theorem dX6_init_49 : decode cX6_init 49 = .ok (.newarray .byte, 2) := dk_188_8 (dk_at dksX6_init_2 3 rfl rfl)
theorem dX6_init_51 : decode cX6_init 51 = .ok (.dup, 1) := dk_89 (dk_at dksX6_init_2 5 rfl rfl)
theorem dX6_init_52 : decode cX6_init 52 = .ok (.iconst 0, 1) := dk_3 (dk_at dksX6_init_2 6 rfl rfl)
theorem dX6_init_53 : decode cX6_init 53 = .ok (.bipush 99, 2) := dk_16 99 (dk_at dksX6_init_2 7 rfl rfl)
theorem dX6_init_55 : decode cX6_init 55 = .ok (.bastore, 1) := dk_84 (dk_at dksX6_init_2 9 rfl rfl)
theorem dX6_init_56 : decode cX6_init 56 = .ok (.dup, 1) := dk_89 (dk_at dksX6_init_2 10 rfl rfl)
theorem dX6_init_57 : decode cX6_init 57 = .ok (.iconst 1, 1) := dk_4 (dk_at dksX6_init_2 11 rfl rfl)
theorem dX6_init_58 : decode cX6_init 58 = .ok (.bipush 111, 2) := dk_16 111 (dk_at dksX6_init_2 12 rfl rfl)
theorem dX6_init_60 : decode cX6_init 60 = .ok (.bastore, 1) := dk_84 (dk_at dksX6_init_2 14 rfl rfl)
theorem dX6_init_61 : decode cX6_init 61 = .ok (.dup, 1) := dk_89 (dk_at dksX6_init_2 15 rfl rfl)
theorem dX6_init_62 : decode cX6_init 62 = .ok (.iconst 2, 1) := dk_5 (dk_at dksX6_init_2 16 rfl rfl)
theorem dX6_init_63 : decode cX6_init 63 = .ok (.bipush 115, 2) := dk_16 115 (dk_at dksX6_init_2 17 rfl rfl)
theorem dX6_init_65 : decode cX6_init 65 = .ok (.bastore, 1) := dk_84 (dk_at dksX6_init_2 19 rfl rfl)
theorem dX6_init_66 : decode cX6_init 66 = .ok (.dup, 1) := dk_89 (dk_at dksX6_init_2 20 rfl rfl)
theorem dX6_init_67 : decode cX6_init 67 = .ok (.iconst 3, 1) := dk_6 (dk_at dksX6_init_2 21 rfl rfl)
theorem dX6_init_68 : decode cX6_init 68 = .ok (.bipush 116, 2) := dk_16 116 (dk_at dksX6_init_2 22 rfl rfl)
theorem dX6_init_70 : decode cX6_init 70 = .ok (.bastore, 1) := dk_84 (dk_at dksX6_init_3 0 rfl rfl)
theorem dX6_init_71 : decode cX6_init 71 = .ok (.dup, 1) := dk_89 (dk_at dksX6_init_3 1 rfl rfl)
theorem dX6_init_72 : decode cX6_init 72 = .ok (.iconst 4, 1) := dk_7 (dk_at dksX6_init_3 2 rfl rfl)
theorem dX6_init_73 : decode cX6_init 73 = .ok (.bipush 115, 2) := dk_16 115 (dk_at dksX6_init_3 3 rfl rfl)
theorem dX6_init_75 : decode cX6_init 75 = .ok (.bastore, 1) := dk_84 (dk_at dksX6_init_3 5 rfl rfl)
theorem dX6_init_76 : decode cX6_init 76 = .ok (.dup, 1) := dk_89 (dk_at dksX6_init_3 6 rfl rfl)
theorem dX6_init_77 : decode cX6_init 77 = .ok (.iconst 5, 1) := dk_8 (dk_at dksX6_init_3 7 rfl rfl)
theorem dX6_init_78 : decode cX6_init 78 = .ok (.bipush 32, 2) := dk_16 32 (dk_at dksX6_init_3 8 rfl rfl)
theorem dX6_init_80 : decode cX6_init 80 = .ok (.bastore, 1) := dk_84 (dk_at dksX6_init_3 10 rfl rfl)
theorem dX6_init_81 : decode cX6_init 81 = .ok (.dup, 1) := dk_89 (dk_at dksX6_init_3 11 rfl rfl)
theorem dX6_init_82 : decode cX6_init 82 = .ok (.bipush 6, 2) := dk_16 6 (dk_at dksX6_init_3 12 rfl rfl)
theorem dX6_init_84 : decode cX6_init 84 = .ok (.bipush 101, 2) := dk_16 101 (dk_at dksX6_init_3 14 rfl rfl)
theorem dX6_init_86 : decode cX6_init 86 = .ok (.bastore, 1) := dk_84 (dk_at dksX6_init_3 16 rfl rfl)
theorem dX6_init_87 : decode cX6_init 87 = .ok (.dup, 1) := dk_89 (dk_at dksX6_init_3 17 rfl rfl)
theorem dX6_init_88 : decode cX6_init 88 = .ok (.bipush 7, 2) := dk_16 7 (dk_at dksX6_init_3 18 rfl rfl)
theorem dX6_init_90 : decode cX6_init 90 = .ok (.bipush 97, 2) := dk_16 97 (dk_at dksX6_init_3 20 rfl rfl)
theorem dX6_init_92 : decode cX6_init 92 = .ok (.bastore, 1) := dk_84 (dk_at dksX6_init_3 22 rfl rfl)
theorem dX6_init_93 : decode cX6_init 93 = .ok (.dup, 1) := dk_89 (dk_at dksX6_init_3 23 rfl rfl)
theorem dX6_init_94 : decode cX6_init 94 = .ok (.bipush 8, 2) := dk_16 8 (dk_at dksX6_init_4 0 rfl rfl)
theorem dX6_init_96 : decode cX6_init 96 = .ok (.bipush 114, 2) := dk_16 114 (dk_at dksX6_init_4 2 rfl rfl)
theorem dX6_init_98 : decode cX6_init 98 = .ok (.bastore, 1) := dk_84 (dk_at dksX6_init_4 4 rfl rfl)
theorem dX6_init_99 : decode cX6_init 99 = .ok (.dup, 1) := dk_89 (dk_at dksX6_init_4 5 rfl rfl)
theorem dX6_init_100 : decode cX6_init 100 = .ok (.bipush 9, 2) := dk_16 9 (dk_at dksX6_init_4 6 rfl rfl)
theorem dX6_init_102 : decode cX6_init 102 = .ok (.bipush 110, 2) := dk_16 110 (dk_at dksX6_init_4 8 rfl rfl)
theorem dX6_init_104 : decode cX6_init 104 = .ok (.bastore, 1) := dk_84 (dk_at dksX6_init_4 10 rfl rfl)
theorem dX6_init_105 : decode cX6_init 105 = .ok (.dup, 1) := dk_89 (dk_at dksX6_init_4 11 rfl rfl)
theorem dX6_init_106 : decode cX6_init 106 = .ok (.bipush 10, 2) := dk_16 10 (dk_at dksX6_init_4 12 rfl rfl)
theorem dX6_init_108 : decode cX6_init 108 = .ok (.bipush 115, 2) := dk_16 115 (dk_at dksX6_init_4 14 rfl rfl)
theorem dX6_init_110 : decode cX6_init 110 = .ok (.bastore, 1) := dk_84 (dk_at dksX6_init_4 16 rfl rfl)
theorem dX6_init_111 : decode cX6_init 111 = .ok (.dup, 1) := dk_89 (dk_at dksX6_init_4 17 rfl rfl)
theorem dX6_init_112 : decode cX6_init 112 = .ok (.bipush 11, 2) := dk_16 11 (dk_at dksX6_init_4 18 rfl rfl)
theorem dX6_init_114 : decode cX6_init 114 = .ok (.bipush 32, 2) := dk_16 32 (dk_at dksX6_init_4 20 rfl rfl)
theorem dX6_init_116 : decode cX6_init 116 = .ok (.bastore, 1) := dk_84 (dk_at dksX6_init_4 22 rfl rfl)
theorem dX6_init_117 : decode cX6_init 117 = .ok (.dup, 1) := dk_89 (dk_at dksX6_init_4 23 rfl rfl)
theorem dX6_init_118 : decode cX6_init 118 = .ok (.bipush 12, 2) := dk_16 12 (dk_at dksX6_init_5 0 rfl rfl)
theorem dX6_init_120 : decode cX6_init 120 = .ok (.bipush 98, 2) := dk_16 98 (dk_at dksX6_init_5 2 rfl rfl)
theorem dX6_init_122 : decode cX6_init 122 = .ok (.bastore, 1) := dk_84 (dk_at dksX6_init_5 4 rfl rfl)
theorem dX6_init_123 : decode cX6_init 123 = .ok (.dup, 1) := dk_89 (dk_at dksX6_init_5 5 rfl rfl)
theorem dX6_init_124 : decode cX6_init 124 = .ok (.bipush 13, 2) := dk_16 13 (dk_at dksX6_init_5 6 rfl rfl)
theorem dX6_init_126 : decode cX6_init 126 = .ok (.bipush 97, 2) := dk_16 97 (dk_at dksX6_init_5 8 rfl rfl)
theorem dX6_init_128 : decode cX6_init 128 = .ok (.bastore, 1) := dk_84 (dk_at dksX6_init_5 10 rfl rfl)
theorem dX6_init_129 : decode cX6_init 129 = .ok (.dup, 1) := dk_89 (dk_at dksX6_init_5 11 rfl rfl)
theorem dX6_init_130 : decode cX6_init 130 = .ok (.bipush 14, 2) := dk_16 14 (dk_at dksX6_init_5 12 rfl rfl)
theorem dX6_init_132 : decode cX6_init 132 = .ok (.bipush 114, 2) := dk_16 114 (dk_at dksX6_init_5 14 rfl rfl)
theorem dX6_init_134 : decode cX6_init 134 = .ok (.bastore, 1) := dk_84 (dk_at dksX6_init_5 16 rfl rfl)
theorem dX6_init_135 : decode cX6_init 135 = .ok (.dup, 1) := dk_89 (dk_at dksX6_init_5 17 rfl rfl)
theorem dX6_init_136 : decode cX6_init 136 = .ok (.bipush 15, 2) := dk_16 15 (dk_at dksX6_init_5 18 rfl rfl)
theorem dX6_init_138 : decode cX6_init 138 = .ok (.bipush 115, 2) := dk_16 115 (dk_at dksX6_init_5 20 rfl rfl)
theorem dX6_init_140 : decode cX6_init 140 = .ok (.bastore, 1) := dk_84 (dk_at dksX6_init_5 22 rfl rfl)
theorem dX6_init_141 : decode cX6_init 141 = .ok (.dup, 1) := dk_89 (dk_at dksX6_init_5 23 rfl rfl)
theorem dX6_init_142 : decode cX6_init 142 = .ok (.bipush 16, 2) := dk_16 16 (dk_at dksX6_init_6 0 rfl rfl)
theorem dX6_init_144 : decode cX6_init 144 = .ok (.bipush 32, 2) := dk_16 32 (dk_at dksX6_init_6 2 rfl rfl)
theorem dX6_init_146 : decode cX6_init 146 = .ok (.bastore, 1) := dk_84 (dk_at dksX6_init_6 4 rfl rfl)
theorem dX6_init_147 : decode cX6_init 147 = .ok (.dup, 1) := dk_89 (dk_at dksX6_init_6 5 rfl rfl)
theorem dX6_init_148 : decode cX6_init 148 = .ok (.bipush 17, 2) := dk_16 17 (dk_at dksX6_init_6 6 rfl rfl)
theorem dX6_init_150 : decode cX6_init 150 = .ok (.bipush 105, 2) := dk_16 105 (dk_at dksX6_init_6 8 rfl rfl)
theorem dX6_init_152 : decode cX6_init 152 = .ok (.bastore, 1) := dk_84 (dk_at dksX6_init_6 10 rfl rfl)
theorem dX6_init_153 : decode cX6_init 153 = .ok (.dup, 1) := dk_89 (dk_at dksX6_init_6 11 rfl rfl)
theorem dX6_init_154 : decode cX6_init 154 = .ok (.bipush 18, 2) := dk_16 18 (dk_at dksX6_init_6 12 rfl rfl)
theorem dX6_init_156 : decode cX6_init 156 = .ok (.bipush 102, 2) := dk_16 102 (dk_at dksX6_init_6 14 rfl rfl)
theorem dX6_init_158 : decode cX6_init 158 = .ok (.bastore, 1) := dk_84 (dk_at dksX6_init_6 16 rfl rfl)
theorem dX6_init_159 : decode cX6_init 159 = .ok (.dup, 1) := dk_89 (dk_at dksX6_init_6 17 rfl rfl)
theorem dX6_init_160 : decode cX6_init 160 = .ok (.bipush 19, 2) := dk_16 19 (dk_at dksX6_init_6 18 rfl rfl)
theorem dX6_init_162 : decode cX6_init 162 = .ok (.bipush 32, 2) := dk_16 32 (dk_at dksX6_init_6 20 rfl rfl)
theorem dX6_init_164 : decode cX6_init 164 = .ok (.bastore, 1) := dk_84 (dk_at dksX6_init_6 22 rfl rfl)
theorem dX6_init_165 : decode cX6_init 165 = .ok (.dup, 1) := dk_89 (dk_at dksX6_init_6 23 rfl rfl)
theorem dX6_init_166 : decode cX6_init 166 = .ok (.bipush 20, 2) := dk_16 20 (dk_at dksX6_init_7 0 rfl rfl)
theorem dX6_init_168 : decode cX6_init 168 = .ok (.bipush 111, 2) := dk_16 111 (dk_at dksX6_init_7 2 rfl rfl)
theorem dX6_init_170 : decode cX6_init 170 = .ok (.bastore, 1) := dk_84 (dk_at dksX6_init_7 4 rfl rfl)
theorem dX6_init_171 : decode cX6_init 171 = .ok (.dup, 1) := dk_89 (dk_at dksX6_init_7 5 rfl rfl)
theorem dX6_init_172 : decode cX6_init 172 = .ok (.bipush 21, 2) := dk_16 21 (dk_at dksX6_init_7 6 rfl rfl)
theorem dX6_init_174 : decode cX6_init 174 = .ok (.bipush 114, 2) := dk_16 114 (dk_at dksX6_init_7 8 rfl rfl)
theorem dX6_init_176 : decode cX6_init 176 = .ok (.bastore, 1) := dk_84 (dk_at dksX6_init_7 10 rfl rfl)
theorem dX6_init_177 : decode cX6_init 177 = .ok (.dup, 1) := dk_89 (dk_at dksX6_init_7 11 rfl rfl)
theorem dX6_init_178 : decode cX6_init 178 = .ok (.bipush 22, 2) := dk_16 22 (dk_at dksX6_init_7 12 rfl rfl)
theorem dX6_init_180 : decode cX6_init 180 = .ok (.bipush 32, 2) := dk_16 32 (dk_at dksX6_init_7 14 rfl rfl)
theorem dX6_init_182 : decode cX6_init 182 = .ok (.bastore, 1) := dk_84 (dk_at dksX6_init_7 16 rfl rfl)
theorem dX6_init_183 : decode cX6_init 183 = .ok (.dup, 1) := dk_89 (dk_at dksX6_init_7 17 rfl rfl)
theorem dX6_init_184 : decode cX6_init 184 = .ok (.bipush 23, 2) := dk_16 23 (dk_at dksX6_init_7 18 rfl rfl)
theorem dX6_init_186 : decode cX6_init 186 = .ok (.bipush 97, 2) := dk_16 97 (dk_at dksX6_init_7 20 rfl rfl)
theorem dX6_init_188 : decode cX6_init 188 = .ok (.bastore, 1) := dk_84 (dk_at dksX6_init_7 22 rfl rfl)
theorem dX6_init_189 : decode cX6_init 189 = .ok (.dup, 1) := dk_89 (dk_at dksX6_init_7 23 rfl rfl)
theorem dX6_init_190 : decode cX6_init 190 = .ok (.bipush 24, 2) := dk_16 24 (dk_at dksX6_init_8 0 rfl rfl)
theorem dX6_init_192 : decode cX6_init 192 = .ok (.bipush 110, 2) := dk_16 110 (dk_at dksX6_init_8 2 rfl rfl)
theorem dX6_init_194 : decode cX6_init 194 = .ok (.bastore, 1) := dk_84 (dk_at dksX6_init_8 4 rfl rfl)
theorem dX6_init_195 : decode cX6_init 195 = .ok (.dup, 1) := dk_89 (dk_at dksX6_init_8 5 rfl rfl)
theorem dX6_init_196 : decode cX6_init 196 = .ok (.bipush 25, 2) := dk_16 25 (dk_at dksX6_init_8 6 rfl rfl)
theorem dX6_init_198 : decode cX6_init 198 = .ok (.bipush 100, 2) := dk_16 100 (dk_at dksX6_init_8 8 rfl rfl)
theorem dX6_init_200 : decode cX6_init 200 = .ok (.bastore, 1) := dk_84 (dk_at dksX6_init_8 10 rfl rfl)
theorem dX6_init_201 : decode cX6_init 201 = .ok (.dup, 1) := dk_89 (dk_at dksX6_init_8 11 rfl rfl)
theorem dX6_init_202 : decode cX6_init 202 = .ok (.bipush 26, 2) := dk_16 26 (dk_at dksX6_init_8 12 rfl rfl)
theorem dX6_init_204 : decode cX6_init 204 = .ok (.bipush 32, 2) := dk_16 32 (dk_at dksX6_init_8 14 rfl rfl)
theorem dX6_init_206 : decode cX6_init 206 = .ok (.bastore, 1) := dk_84 (dk_at dksX6_init_8 16 rfl rfl)
theorem dX6_init_207 : decode cX6_init 207 = .ok (.dup, 1) := dk_89 (dk_at dksX6_init_8 17 rfl rfl)
theorem dX6_init_208 : decode cX6_init 208 = .ok (.bipush 27, 2) := dk_16 27 (dk_at dksX6_init_8 18 rfl rfl)
theorem dX6_init_210 : decode cX6_init 210 = .ok (.bipush 110, 2) := dk_16 110 (dk_at dksX6_init_8 20 rfl rfl)
theorem dX6_init_212 : decode cX6_init 212 = .ok (.bastore, 1) := dk_84 (dk_at dksX6_init_8 22 rfl rfl)
theorem dX6_init_213 : decode cX6_init 213 = .ok (.dup, 1) := dk_89 (dk_at dksX6_init_8 23 rfl rfl)
theorem dX6_init_214 : decode cX6_init 214 = .ok (.bipush 28, 2) := dk_16 28 (dk_at dksX6_init_9 0 rfl rfl)
theorem dX6_init_216 : decode cX6_init 216 = .ok (.bipush 111, 2) := dk_16 111 (dk_at dksX6_init_9 2 rfl rfl)
theorem dX6_init_218 : decode cX6_init 218 = .ok (.bastore, 1) := dk_84 (dk_at dksX6_init_9 4 rfl rfl)
theorem dX6_init_219 : decode cX6_init 219 = .ok (.dup, 1) := dk_89 (dk_at dksX6_init_9 5 rfl rfl)
theorem dX6_init_220 : decode cX6_init 220 = .ok (.bipush 29, 2) := dk_16 29 (dk_at dksX6_init_9 6 rfl rfl)
theorem dX6_init_222 : decode cX6_init 222 = .ok (.bipush 116, 2) := dk_16 116 (dk_at dksX6_init_9 8 rfl rfl)
theorem dX6_init_224 : decode cX6_init 224 = .ok (.bastore, 1) := dk_84 (dk_at dksX6_init_9 10 rfl rfl)
theorem dX6_init_225 : decode cX6_init 225 = .ok (.dup, 1) := dk_89 (dk_at dksX6_init_9 11 rfl rfl)
theorem dX6_init_226 : decode cX6_init 226 = .ok (.bipush 30, 2) := dk_16 30 (dk_at dksX6_init_9 12 rfl rfl)
theorem dX6_init_228 : decode cX6_init 228 = .ok (.bipush 32, 2) := dk_16 32 (dk_at dksX6_init_9 14 rfl rfl)
theorem dX6_init_230 : decode cX6_init 230 = .ok (.bastore, 1) := dk_84 (dk_at dksX6_init_9 16 rfl rfl)
theorem dX6_init_231 : decode cX6_init 231 = .ok (.dup, 1) := dk_89 (dk_at dksX6_init_9 17 rfl rfl)
theorem dX6_init_232 : decode cX6_init 232 = .ok (.bipush 31, 2) := dk_16 31 (dk_at dksX6_init_9 18 rfl rfl)
theorem dX6_init_234 : decode cX6_init 234 = .ok (.bipush 112, 2) := dk_16 112 (dk_at dksX6_init_9 20 rfl rfl)
theorem dX6_init_236 : decode cX6_init 236 = .ok (.bastore, 1) := dk_84 (dk_at dksX6_init_9 22 rfl rfl)
theorem dX6_init_237 : decode cX6_init 237 = .ok (.dup, 1) := dk_89 (dk_at dksX6_init_9 23 rfl rfl)
theorem dX6_init_238 : decode cX6_init 238 = .ok (.bipush 32, 2) := dk_16 32 (dk_at dksX6_init_10 0 rfl rfl)
theorem dX6_init_240 : decode cX6_init 240 = .ok (.bipush 108, 2) := dk_16 108 (dk_at dksX6_init_10 2 rfl rfl)
theorem dX6_init_242 : decode cX6_init 242 = .ok (.bastore, 1) := dk_84 (dk_at dksX6_init_10 4 rfl rfl)
theorem dX6_init_243 : decode cX6_init 243 = .ok (.dup, 1) := dk_89 (dk_at dksX6_init_10 5 rfl rfl)
theorem dX6_init_244 : decode cX6_init 244 = .ok (.bipush 33, 2) := dk_16 33 (dk_at dksX6_init_10 6 rfl rfl)
theorem dX6_init_246 : decode cX6_init 246 = .ok (.bipush 97, 2) := dk_16 97 (dk_at dksX6_init_10 8 rfl rfl)
theorem dX6_init_248 : decode cX6_init 248 = .ok (.bastore, 1) := dk_84 (dk_at dksX6_init_10 10 rfl rfl)
theorem dX6_init_249 : decode cX6_init 249 = .ok (.dup, 1) := dk_89 (dk_at dksX6_init_10 11 rfl rfl)
theorem dX6_init_250 : decode cX6_init 250 = .ok (.bipush 34, 2) := dk_16 34 (dk_at dksX6_init_10 12 rfl rfl)
theorem dX6_init_252 : decode cX6_init 252 = .ok (.bipush 99, 2) := dk_16 99 (dk_at dksX6_init_10 14 rfl rfl)
theorem dX6_init_254 : decode cX6_init 254 = .ok (.bastore, 1) := dk_84 (dk_at dksX6_init_10 16 rfl rfl)
theorem dX6_init_255 : decode cX6_init 255 = .ok (.dup, 1) := dk_89 (dk_at dksX6_init_10 17 rfl rfl)
theorem dX6_init_256 : decode cX6_init 256 = .ok (.bipush 35, 2) := dk_16 35 (dk_at dksX6_init_10 18 rfl rfl)
theorem dX6_init_258 : decode cX6_init 258 = .ok (.bipush 101, 2) := dk_16 101 (dk_at dksX6_init_10 20 rfl rfl)
theorem dX6_init_260 : decode cX6_init 260 = .ok (.bastore, 1) := dk_84 (dk_at dksX6_init_10 22 rfl rfl)
theorem dX6_init_261 : decode cX6_init 261 = .ok (.dup, 1) := dk_89 (dk_at dksX6_init_10 23 rfl rfl)
theorem dX6_init_262 : decode cX6_init 262 = .ok (.bipush 36, 2) := dk_16 36 (dk_at dksX6_init_11 0 rfl rfl)
theorem dX6_init_264 : decode cX6_init 264 = .ok (.bipush 32, 2) := dk_16 32 (dk_at dksX6_init_11 2 rfl rfl)
theorem dX6_init_266 : decode cX6_init 266 = .ok (.bastore, 1) := dk_84 (dk_at dksX6_init_11 4 rfl rfl)
theorem dX6_init_267 : decode cX6_init 267 = .ok (.dup, 1) := dk_89 (dk_at dksX6_init_11 5 rfl rfl)
theorem dX6_init_268 : decode cX6_init 268 = .ok (.bipush 37, 2) := dk_16 37 (dk_at dksX6_init_11 6 rfl rfl)
theorem dX6_init_270 : decode cX6_init 270 = .ok (.bipush 97, 2) := dk_16 97 (dk_at dksX6_init_11 8 rfl rfl)
theorem dX6_init_272 : decode cX6_init 272 = .ok (.bastore, 1) := dk_84 (dk_at dksX6_init_11 10 rfl rfl)
theorem dX6_init_273 : decode cX6_init 273 = .ok (.dup, 1) := dk_89 (dk_at dksX6_init_11 11 rfl rfl)
theorem dX6_init_274 : decode cX6_init 274 = .ok (.bipush 38, 2) := dk_16 38 (dk_at dksX6_init_11 12 rfl rfl)
theorem dX6_init_276 : decode cX6_init 276 = .ok (.bipush 112, 2) := dk_16 112 (dk_at dksX6_init_11 14 rfl rfl)
theorem dX6_init_278 : decode cX6_init 278 = .ok (.bastore, 1) := dk_84 (dk_at dksX6_init_11 16 rfl rfl)
theorem dX6_init_279 : decode cX6_init 279 = .ok (.dup, 1) := dk_89 (dk_at dksX6_init_11 17 rfl rfl)
theorem dX6_init_280 : decode cX6_init 280 = .ok (.bipush 39, 2) := dk_16 39 (dk_at dksX6_init_11 18 rfl rfl)
theorem dX6_init_282 : decode cX6_init 282 = .ok (.bipush 97, 2) := dk_16 97 (dk_at dksX6_init_11 20 rfl rfl)
theorem dX6_init_284 : decode cX6_init 284 = .ok (.bastore, 1) := dk_84 (dk_at dksX6_init_11 22 rfl rfl)
theorem dX6_init_285 : decode cX6_init 285 = .ok (.dup, 1) := dk_89 (dk_at dksX6_init_11 23 rfl rfl)
theorem dX6_init_286 : decode cX6_init 286 = .ok (.bipush 40, 2) := dk_16 40 (dk_at dksX6_init_12 0 rfl rfl)
theorem dX6_init_288 : decode cX6_init 288 = .ok (.bipush 114, 2) := dk_16 114 (dk_at dksX6_init_12 2 rfl rfl)
theorem dX6_init_290 : decode cX6_init 290 = .ok (.bastore, 1) := dk_84 (dk_at dksX6_init_12 4 rfl rfl)
theorem dX6_init_291 : decode cX6_init 291 = .ok (.dup, 1) := dk_89 (dk_at dksX6_init_12 5 rfl rfl)
theorem dX6_init_292 : decode cX6_init 292 = .ok (.bipush 41, 2) := dk_16 41 (dk_at dksX6_init_12 6 rfl rfl)
theorem dX6_init_294 : decode cX6_init 294 = .ok (.bipush 116, 2) := dk_16 116 (dk_at dksX6_init_12 8 rfl rfl)
theorem dX6_init_296 : decode cX6_init 296 = .ok (.bastore, 1) := dk_84 (dk_at dksX6_init_12 10 rfl rfl)
theorem dX6_init_297 : decode cX6_init 297 = .ok (.dup, 1) := dk_89 (dk_at dksX6_init_12 11 rfl rfl)
theorem dX6_init_298 : decode cX6_init 298 = .ok (.bipush 42, 2) := dk_16 42 (dk_at dksX6_init_12 12 rfl rfl)
theorem dX6_init_300 : decode cX6_init 300 = .ok (.bipush 32, 2) := dk_16 32 (dk_at dksX6_init_12 14 rfl rfl)
theorem dX6_init_302 : decode cX6_init 302 = .ok (.bastore, 1) := dk_84 (dk_at dksX6_init_12 16 rfl rfl)
theorem dX6_init_303 : decode cX6_init 303 = .ok (.dup, 1) := dk_89 (dk_at dksX6_init_12 17 rfl rfl)
theorem dX6_init_304 : decode cX6_init 304 = .ok (.bipush 43, 2) := dk_16 43 (dk_at dksX6_init_12 18 rfl rfl)
theorem dX6_init_306 : decode cX6_init 306 = .ok (.bipush 97, 2) := dk_16 97 (dk_at dksX6_init_12 20 rfl rfl)
theorem dX6_init_308 : decode cX6_init 308 = .ok (.bastore, 1) := dk_84 (dk_at dksX6_init_12 22 rfl rfl)
theorem dX6_init_309 : decode cX6_init 309 = .ok (.dup, 1) := dk_89 (dk_at dksX6_init_12 23 rfl rfl)
theorem dX6_init_310 : decode cX6_init 310 = .ok (.bipush 44, 2) := dk_16 44 (dk_at dksX6_init_13 0 rfl rfl)
theorem dX6_init_312 : decode cX6_init 312 = .ok (.bipush 104, 2) := dk_16 104 (dk_at dksX6_init_13 2 rfl rfl)
theorem dX6_init_314 : decode cX6_init 314 = .ok (.bastore, 1) := dk_84 (dk_at dksX6_init_13 4 rfl rfl)
theorem dX6_init_315 : decode cX6_init 315 = .ok (.dup, 1) := dk_89 (dk_at dksX6_init_13 5 rfl rfl)
theorem dX6_init_316 : decode cX6_init 316 = .ok (.bipush 45, 2) := dk_16 45 (dk_at dksX6_init_13 6 rfl rfl)
theorem dX6_init_318 : decode cX6_init 318 = .ok (.bipush 101, 2) := dk_16 101 (dk_at dksX6_init_13 8 rfl rfl)
theorem dX6_init_320 : decode cX6_init 320 = .ok (.bastore, 1) := dk_84 (dk_at dksX6_init_13 10 rfl rfl)
theorem dX6_init_321 : decode cX6_init 321 = .ok (.dup, 1) := dk_89 (dk_at dksX6_init_13 11 rfl rfl)
theorem dX6_init_322 : decode cX6_init 322 = .ok (.bipush 46, 2) := dk_16 46 (dk_at dksX6_init_13 12 rfl rfl)
theorem dX6_init_324 : decode cX6_init 324 = .ok (.bipush 97, 2) := dk_16 97 (dk_at dksX6_init_13 14 rfl rfl)
theorem dX6_init_326 : decode cX6_init 326 = .ok (.bastore, 1) := dk_84 (dk_at dksX6_init_13 16 rfl rfl)
theorem dX6_init_327 : decode cX6_init 327 = .ok (.dup, 1) := dk_89 (dk_at dksX6_init_13 17 rfl rfl)
theorem dX6_init_328 : decode cX6_init 328 = .ok (.bipush 47, 2) := dk_16 47 (dk_at dksX6_init_13 18 rfl rfl)
theorem dX6_init_330 : decode cX6_init 330 = .ok (.bipush 100, 2) := dk_16 100 (dk_at dksX6_init_13 20 rfl rfl)
theorem dX6_init_332 : decode cX6_init 332 = .ok (.bastore, 1) := dk_84 (dk_at dksX6_init_13 22 rfl rfl)
theorem dX6_init_333 : decode cX6_init 333 = .ok (.dup, 1) := dk_89 (dk_at dksX6_init_13 23 rfl rfl)
theorem dX6_init_334 : decode cX6_init 334 = .ok (.bipush 48, 2) := dk_16 48 (dk_at dksX6_init_14 0 rfl rfl)
theorem dX6_init_336 : decode cX6_init 336 = .ok (.bipush 32, 2) := dk_16 32 (dk_at dksX6_init_14 2 rfl rfl)
theorem dX6_init_338 : decode cX6_init 338 = .ok (.bastore, 1) := dk_84 (dk_at dksX6_init_14 4 rfl rfl)
theorem dX6_init_339 : decode cX6_init 339 = .ok (.dup, 1) := dk_89 (dk_at dksX6_init_14 5 rfl rfl)
theorem dX6_init_340 : decode cX6_init 340 = .ok (.bipush 49, 2) := dk_16 49 (dk_at dksX6_init_14 6 rfl rfl)
theorem dX6_init_342 : decode cX6_init 342 = .ok (.bipush 108, 2) := dk_16 108 (dk_at dksX6_init_14 8 rfl rfl)
theorem dX6_init_344 : decode cX6_init 344 = .ok (.bastore, 1) := dk_84 (dk_at dksX6_init_14 10 rfl rfl)
theorem dX6_init_345 : decode cX6_init 345 = .ok (.dup, 1) := dk_89 (dk_at dksX6_init_14 11 rfl rfl)
theorem dX6_init_346 : decode cX6_init 346 = .ok (.bipush 50, 2) := dk_16 50 (dk_at dksX6_init_14 12 rfl rfl)
theorem dX6_init_348 : decode cX6_init 348 = .ok (.bipush 101, 2) := dk_16 101 (dk_at dksX6_init_14 14 rfl rfl)
theorem dX6_init_350 : decode cX6_init 350 = .ok (.bastore, 1) := dk_84 (dk_at dksX6_init_14 16 rfl rfl)
theorem dX6_init_351 : decode cX6_init 351 = .ok (.dup, 1) := dk_89 (dk_at dksX6_init_14 17 rfl rfl)
theorem dX6_init_352 : decode cX6_init 352 = .ok (.bipush 51, 2) := dk_16 51 (dk_at dksX6_init_14 18 rfl rfl)
theorem dX6_init_354 : decode cX6_init 354 = .ok (.bipush 97, 2) := dk_16 97 (dk_at dksX6_init_14 20 rfl rfl)
theorem dX6_init_356 : decode cX6_init 356 = .ok (.bastore, 1) := dk_84 (dk_at dksX6_init_14 22 rfl rfl)
theorem dX6_init_357 : decode cX6_init 357 = .ok (.dup, 1) := dk_89 (dk_at dksX6_init_14 23 rfl rfl)
theorem dX6_init_358 : decode cX6_init 358 = .ok (.bipush 52, 2) := dk_16 52 (dk_at dksX6_init_15 0 rfl rfl)
theorem dX6_init_360 : decode cX6_init 360 = .ok (.bipush 112, 2) := dk_16 112 (dk_at dksX6_init_15 2 rfl rfl)
theorem dX6_init_362 : decode cX6_init 362 = .ok (.bastore, 1) := dk_84 (dk_at dksX6_init_15 4 rfl rfl)
theorem dX6_init_363 : decode cX6_init 363 = .ok (.dup, 1) := dk_89 (dk_at dksX6_init_15 5 rfl rfl)
theorem dX6_init_364 : decode cX6_init 364 = .ok (.bipush 53, 2) := dk_16 53 (dk_at dksX6_init_15 6 rfl rfl)
theorem dX6_init_366 : decode cX6_init 366 = .ok (.bipush 32, 2) := dk_16 32 (dk_at dksX6_init_15 8 rfl rfl)
theorem dX6_init_368 : decode cX6_init 368 = .ok (.bastore, 1) := dk_84 (dk_at dksX6_init_15 10 rfl rfl)
theorem dX6_init_369 : decode cX6_init 369 = .ok (.dup, 1) := dk_89 (dk_at dksX6_init_15 11 rfl rfl)
theorem dX6_init_370 : decode cX6_init 370 = .ok (.bipush 54, 2) := dk_16 54 (dk_at dksX6_init_15 12 rfl rfl)
theorem dX6_init_372 : decode cX6_init 372 = .ok (.bipush 109, 2) := dk_16 109 (dk_at dksX6_init_15 14 rfl rfl)
theorem dX6_init_374 : decode cX6_init 374 = .ok (.bastore, 1) := dk_84 (dk_at dksX6_init_15 16 rfl rfl)
theorem dX6_init_375 : decode cX6_init 375 = .ok (.dup, 1) := dk_89 (dk_at dksX6_init_15 17 rfl rfl)
theorem dX6_init_376 : decode cX6_init 376 = .ok (.bipush 55, 2) := dk_16 55 (dk_at dksX6_init_15 18 rfl rfl)
theorem dX6_init_378 : decode cX6_init 378 = .ok (.bipush 111, 2) := dk_16 111 (dk_at dksX6_init_15 20 rfl rfl)
theorem dX6_init_380 : decode cX6_init 380 = .ok (.bastore, 1) := dk_84 (dk_at dksX6_init_15 22 rfl rfl)
theorem dX6_init_381 : decode cX6_init 381 = .ok (.dup, 1) := dk_89 (dk_at dksX6_init_15 23 rfl rfl)
theorem dX6_init_382 : decode cX6_init 382 = .ok (.bipush 56, 2) := dk_16 56 (dk_at dksX6_init_16 0 rfl rfl)
theorem dX6_init_384 : decode cX6_init 384 = .ok (.bipush 118, 2) := dk_16 118 (dk_at dksX6_init_16 2 rfl rfl)
theorem dX6_init_386 : decode cX6_init 386 = .ok (.bastore, 1) := dk_84 (dk_at dksX6_init_16 4 rfl rfl)
theorem dX6_init_387 : decode cX6_init 387 = .ok (.dup, 1) := dk_89 (dk_at dksX6_init_16 5 rfl rfl)
theorem dX6_init_388 : decode cX6_init 388 = .ok (.bipush 57, 2) := dk_16 57 (dk_at dksX6_init_16 6 rfl rfl)
theorem dX6_init_390 : decode cX6_init 390 = .ok (.bipush 101, 2) := dk_16 101 (dk_at dksX6_init_16 8 rfl rfl)
theorem dX6_init_392 : decode cX6_init 392 = .ok (.bastore, 1) := dk_84 (dk_at dksX6_init_16 10 rfl rfl)
theorem dX6_init_393 : decode cX6_init 393 = .ok (.dup, 1) := dk_89 (dk_at dksX6_init_16 11 rfl rfl)
theorem dX6_init_394 : decode cX6_init 394 = .ok (.bipush 58, 2) := dk_16 58 (dk_at dksX6_init_16 12 rfl rfl)
theorem dX6_init_396 : decode cX6_init 396 = .ok (.bipush 115, 2) := dk_16 115 (dk_at dksX6_init_16 14 rfl rfl)
theorem dX6_init_398 : decode cX6_init 398 = .ok (.bastore, 1) := dk_84 (dk_at dksX6_init_16 16 rfl rfl)
theorem dX6_init_399 : decode cX6_init 399 = .ok (.dup, 1) := dk_89 (dk_at dksX6_init_16 17 rfl rfl)
theorem dX6_init_400 : decode cX6_init 400 = .ok (.bipush 59, 2) := dk_16 59 (dk_at dksX6_init_16 18 rfl rfl)
theorem dX6_init_402 : decode cX6_init 402 = .ok (.bipush 32, 2) := dk_16 32 (dk_at dksX6_init_16 20 rfl rfl)
theorem dX6_init_404 : decode cX6_init 404 = .ok (.bastore, 1) := dk_84 (dk_at dksX6_init_16 22 rfl rfl)
theorem dX6_init_405 : decode cX6_init 405 = .ok (.dup, 1) := dk_89 (dk_at dksX6_init_16 23 rfl rfl)
theorem dX6_init_406 : decode cX6_init 406 = .ok (.bipush 60, 2) := dk_16 60 (dk_at dksX6_init_17 0 rfl rfl)
theorem dX6_init_408 : decode cX6_init 408 = .ok (.bipush 108, 2) := dk_16 108 (dk_at dksX6_init_17 2 rfl rfl)
theorem dX6_init_410 : decode cX6_init 410 = .ok (.bastore, 1) := dk_84 (dk_at dksX6_init_17 4 rfl rfl)
theorem dX6_init_411 : decode cX6_init 411 = .ok (.dup, 1) := dk_89 (dk_at dksX6_init_17 5 rfl rfl)
theorem dX6_init_412 : decode cX6_init 412 = .ok (.bipush 61, 2) := dk_16 61 (dk_at dksX6_init_17 6 rfl rfl)
theorem dX6_init_414 : decode cX6_init 414 = .ok (.bipush 97, 2) := dk_16 97 (dk_at dksX6_init_17 8 rfl rfl)
theorem dX6_init_416 : decode cX6_init 416 = .ok (.bastore, 1) := dk_84 (dk_at dksX6_init_17 10 rfl rfl)
theorem dX6_init_417 : decode cX6_init 417 = .ok (.dup, 1) := dk_89 (dk_at dksX6_init_17 11 rfl rfl)
theorem dX6_init_418 : decode cX6_init 418 = .ok (.bipush 62, 2) := dk_16 62 (dk_at dksX6_init_17 12 rfl rfl)
theorem dX6_init_420 : decode cX6_init 420 = .ok (.bipush 115, 2) := dk_16 115 (dk_at dksX6_init_17 14 rfl rfl)
theorem dX6_init_422 : decode cX6_init 422 = .ok (.bastore, 1) := dk_84 (dk_at dksX6_init_17 16 rfl rfl)
theorem dX6_init_423 : decode cX6_init 423 = .ok (.dup, 1) := dk_89 (dk_at dksX6_init_17 17 rfl rfl)
theorem dX6_init_424 : decode cX6_init 424 = .ok (.bipush 63, 2) := dk_16 63 (dk_at dksX6_init_17 18 rfl rfl)
theorem dX6_init_426 : decode cX6_init 426 = .ok (.bipush 116, 2) := dk_16 116 (dk_at dksX6_init_17 20 rfl rfl)
theorem dX6_init_428 : decode cX6_init 428 = .ok (.bastore, 1) := dk_84 (dk_at dksX6_init_17 22 rfl rfl)
theorem dX6_init_429 : decode cX6_init 429 = .ok (.dup, 1) := dk_89 (dk_at dksX6_init_17 23 rfl rfl)
theorem dX6_init_430 : decode cX6_init 430 = .ok (.bipush 64, 2) := dk_16 64 (dk_at dksX6_init_18 0 rfl rfl)
theorem dX6_init_432 : decode cX6_init 432 = .ok (.bipush 32, 2) := dk_16 32 (dk_at dksX6_init_18 2 rfl rfl)
theorem dX6_init_434 : decode cX6_init 434 = .ok (.bastore, 1) := dk_84 (dk_at dksX6_init_18 4 rfl rfl)
theorem dX6_init_435 : decode cX6_init 435 = .ok (.dup, 1) := dk_89 (dk_at dksX6_init_18 5 rfl rfl)
theorem dX6_init_436 : decode cX6_init 436 = .ok (.bipush 65, 2) := dk_16 65 (dk_at dksX6_init_18 6 rfl rfl)
theorem dX6_init_438 : decode cX6_init 438 = .ok (.bipush 109, 2) := dk_16 109 (dk_at dksX6_init_18 8 rfl rfl)
theorem dX6_init_440 : decode cX6_init 440 = .ok (.bastore, 1) := dk_84 (dk_at dksX6_init_18 10 rfl rfl)
theorem dX6_init_441 : decode cX6_init 441 = .ok (.dup, 1) := dk_89 (dk_at dksX6_init_18 11 rfl rfl)
theorem dX6_init_442 : decode cX6_init 442 = .ok (.bipush 66, 2) := dk_16 66 (dk_at dksX6_init_18 12 rfl rfl)
theorem dX6_init_444 : decode cX6_init 444 = .ok (.bipush 111, 2) := dk_16 111 (dk_at dksX6_init_18 14 rfl rfl)
theorem dX6_init_446 : decode cX6_init 446 = .ok (.bastore, 1) := dk_84 (dk_at dksX6_init_18 16 rfl rfl)
theorem dX6_init_447 : decode cX6_init 447 = .ok (.dup, 1) := dk_89 (dk_at dksX6_init_18 17 rfl rfl)
theorem dX6_init_448 : decode cX6_init 448 = .ok (.bipush 67, 2) := dk_16 67 (dk_at dksX6_init_18 18 rfl rfl)
theorem dX6_init_450 : decode cX6_init 450 = .ok (.bipush 111, 2) := dk_16 111 (dk_at dksX6_init_18 20 rfl rfl)
theorem dX6_init_452 : decode cX6_init 452 = .ok (.bastore, 1) := dk_84 (dk_at dksX6_init_18 22 rfl rfl)
theorem dX6_init_453 : decode cX6_init 453 = .ok (.dup, 1) := dk_89 (dk_at dksX6_init_18 23 rfl rfl)
theorem dX6_init_454 : decode cX6_init 454 = .ok (.bipush 68, 2) := dk_16 68 (dk_at dksX6_init_19 0 rfl rfl)
theorem dX6_init_456 : decode cX6_init 456 = .ok (.bipush 100, 2) := dk_16 100 (dk_at dksX6_init_19 2 rfl rfl)
theorem dX6_init_458 : decode cX6_init 458 = .ok (.bastore, 1) := dk_84 (dk_at dksX6_init_19 4 rfl rfl)
theorem dX6_init_459 : decode cX6_init 459 = .ok (.dup, 1) := dk_89 (dk_at dksX6_init_19 5 rfl rfl)
theorem dX6_init_460 : decode cX6_init 460 = .ok (.bipush 69, 2) := dk_16 69 (dk_at dksX6_init_19 6 rfl rfl)
theorem dX6_init_462 : decode cX6_init 462 = .ok (.bipush 32, 2) := dk_16 32 (dk_at dksX6_init_19 8 rfl rfl)
theorem dX6_init_464 : decode cX6_init 464 = .ok (.bastore, 1) := dk_84 (dk_at dksX6_init_19 10 rfl rfl)
theorem dX6_init_465 : decode cX6_init 465 = .ok (.dup, 1) := dk_89 (dk_at dksX6_init_19 11 rfl rfl)
theorem dX6_init_466 : decode cX6_init 466 = .ok (.bipush 70, 2) := dk_16 70 (dk_at dksX6_init_19 12 rfl rfl)
theorem dX6_init_468 : decode cX6_init 468 = .ok (.bipush 104, 2) := dk_16 104 (dk_at dksX6_init_19 14 rfl rfl)
theorem dX6_init_470 : decode cX6_init 470 = .ok (.bastore, 1) := dk_84 (dk_at dksX6_init_19 16 rfl rfl)
theorem dX6_init_471 : decode cX6_init 471 = .ok (.dup, 1) := dk_89 (dk_at dksX6_init_19 17 rfl rfl)
theorem dX6_init_472 : decode cX6_init 472 = .ok (.bipush 71, 2) := dk_16 71 (dk_at dksX6_init_19 18 rfl rfl)
theorem dX6_init_474 : decode cX6_init 474 = .ok (.bipush 101, 2) := dk_16 101 (dk_at dksX6_init_19 20 rfl rfl)
theorem dX6_init_476 : decode cX6_init 476 = .ok (.bastore, 1) := dk_84 (dk_at dksX6_init_19 22 rfl rfl)
theorem dX6_init_477 : decode cX6_init 477 = .ok (.dup, 1) := dk_89 (dk_at dksX6_init_19 23 rfl rfl)
theorem dX6_init_478 : decode cX6_init 478 = .ok (.bipush 72, 2) := dk_16 72 (dk_at dksX6_init_20 0 rfl rfl)
theorem dX6_init_480 : decode cX6_init 480 = .ok (.bipush 114, 2) := dk_16 114 (dk_at dksX6_init_20 2 rfl rfl)
theorem dX6_init_482 : decode cX6_init 482 = .ok (.bastore, 1) := dk_84 (dk_at dksX6_init_20 4 rfl rfl)
theorem dX6_init_483 : decode cX6_init 483 = .ok (.dup, 1) := dk_89 (dk_at dksX6_init_20 5 rfl rfl)
theorem dX6_init_484 : decode cX6_init 484 = .ok (.bipush 73, 2) := dk_16 73 (dk_at dksX6_init_20 6 rfl rfl)
theorem dX6_init_486 : decode cX6_init 486 = .ok (.bipush 101, 2) := dk_16 101 (dk_at dksX6_init_20 8 rfl rfl)
theorem dX6_init_488 : decode cX6_init 488 = .ok (.bastore, 1) := dk_84 (dk_at dksX6_init_20 10 rfl rfl)
theorem dX6_init_489 : decode cX6_init 489 = .ok (.dup, 1) := dk_89 (dk_at dksX6_init_20 11 rfl rfl)
theorem dX6_init_490 : decode cX6_init 490 = .ok (.bipush 74, 2) := dk_16 74 (dk_at dksX6_init_20 12 rfl rfl)
theorem dX6_init_492 : decode cX6_init 492 = .ok (.bipush 32, 2) := dk_16 32 (dk_at dksX6_init_20 14 rfl rfl)
theorem dX6_init_494 : decode cX6_init 494 = .ok (.bastore, 1) := dk_84 (dk_at dksX6_init_20 16 rfl rfl)
theorem dX6_init_495 : decode cX6_init 495 = .ok (.dup, 1) := dk_89 (dk_at dksX6_init_20 17 rfl rfl)
theorem dX6_init_496 : decode cX6_init 496 = .ok (.bipush 75, 2) := dk_16 75 (dk_at dksX6_init_20 18 rfl rfl)
theorem dX6_init_498 : decode cX6_init 498 = .ok (.bipush 117, 2) := dk_16 117 (dk_at dksX6_init_20 20 rfl rfl)
theorem dX6_init_500 : decode cX6_init 500 = .ok (.bastore, 1) := dk_84 (dk_at dksX6_init_20 22 rfl rfl)
theorem dX6_init_501 : decode cX6_init 501 = .ok (.dup, 1) := dk_89 (dk_at dksX6_init_20 23 rfl rfl)
theorem dX6_init_502 : decode cX6_init 502 = .ok (.bipush 76, 2) := dk_16 76 (dk_at dksX6_init_21 0 rfl rfl)
theorem dX6_init_504 : decode cX6_init 504 = .ok (.bipush 110, 2) := dk_16 110 (dk_at dksX6_init_21 2 rfl rfl)
theorem dX6_init_506 : decode cX6_init 506 = .ok (.bastore, 1) := dk_84 (dk_at dksX6_init_21 4 rfl rfl)
theorem dX6_init_507 : decode cX6_init 507 = .ok (.dup, 1) := dk_89 (dk_at dksX6_init_21 5 rfl rfl)
theorem dX6_init_508 : decode cX6_init 508 = .ok (.bipush 77, 2) := dk_16 77 (dk_at dksX6_init_21 6 rfl rfl)
theorem dX6_init_510 : decode cX6_init 510 = .ok (.bipush 100, 2) := dk_16 100 (dk_at dksX6_init_21 8 rfl rfl)
theorem dX6_init_512 : decode cX6_init 512 = .ok (.bastore, 1) := dk_84 (dk_at dksX6_init_21 10 rfl rfl)
theorem dX6_init_513 : decode cX6_init 513 = .ok (.dup, 1) := dk_89 (dk_at dksX6_init_21 11 rfl rfl)
theorem dX6_init_514 : decode cX6_init 514 = .ok (.bipush 78, 2) := dk_16 78 (dk_at dksX6_init_21 12 rfl rfl)
theorem dX6_init_516 : decode cX6_init 516 = .ok (.bipush 101, 2) := dk_16 101 (dk_at dksX6_init_21 14 rfl rfl)
theorem dX6_init_518 : decode cX6_init 518 = .ok (.bastore, 1) := dk_84 (dk_at dksX6_init_21 16 rfl rfl)
theorem dX6_init_519 : decode cX6_init 519 = .ok (.dup, 1) := dk_89 (dk_at dksX6_init_21 17 rfl rfl)
theorem dX6_init_520 : decode cX6_init 520 = .ok (.bipush 79, 2) := dk_16 79 (dk_at dksX6_init_21 18 rfl rfl)
theorem dX6_init_522 : decode cX6_init 522 = .ok (.bipush 114, 2) := dk_16 114 (dk_at dksX6_init_21 20 rfl rfl)
theorem dX6_init_524 : decode cX6_init 524 = .ok (.bastore, 1) := dk_84 (dk_at dksX6_init_21 22 rfl rfl)
theorem dX6_init_525 : decode cX6_init 525 = .ok (.dup, 1) := dk_89 (dk_at dksX6_init_21 23 rfl rfl)
theorem dX6_init_526 : decode cX6_init 526 = .ok (.bipush 80, 2) := dk_16 80 (dk_at dksX6_init_22 0 rfl rfl)
theorem dX6_init_528 : decode cX6_init 528 = .ok (.bipush 32, 2) := dk_16 32 (dk_at dksX6_init_22 2 rfl rfl)
theorem dX6_init_530 : decode cX6_init 530 = .ok (.bastore, 1) := dk_84 (dk_at dksX6_init_22 4 rfl rfl)
theorem dX6_init_531 : decode cX6_init 531 = .ok (.dup, 1) := dk_89 (dk_at dksX6_init_22 5 rfl rfl)
theorem dX6_init_532 : decode cX6_init 532 = .ok (.bipush 81, 2) := dk_16 81 (dk_at dksX6_init_22 6 rfl rfl)
theorem dX6_init_534 : decode cX6_init 534 = .ok (.bipush 100, 2) := dk_16 100 (dk_at dksX6_init_22 8 rfl rfl)
theorem dX6_init_536 : decode cX6_init 536 = .ok (.bastore, 1) := dk_84 (dk_at dksX6_init_22 10 rfl rfl)
theorem dX6_init_537 : decode cX6_init 537 = .ok (.dup, 1) := dk_89 (dk_at dksX6_init_22 11 rfl rfl)
theorem dX6_init_538 : decode cX6_init 538 = .ok (.bipush 82, 2) := dk_16 82 (dk_at dksX6_init_22 12 rfl rfl)
theorem dX6_init_540 : decode cX6_init 540 = .ok (.bipush 97, 2) := dk_16 97 (dk_at dksX6_init_22 14 rfl rfl)
theorem dX6_init_542 : decode cX6_init 542 = .ok (.bastore, 1) := dk_84 (dk_at dksX6_init_22 16 rfl rfl)
theorem dX6_init_543 : decode cX6_init 543 = .ok (.dup, 1) := dk_89 (dk_at dksX6_init_22 17 rfl rfl)
theorem dX6_init_544 : decode cX6_init 544 = .ok (.bipush 83, 2) := dk_16 83 (dk_at dksX6_init_22 18 rfl rfl)
theorem dX6_init_546 : decode cX6_init 546 = .ok (.bipush 121, 2) := dk_16 121 (dk_at dksX6_init_22 20 rfl rfl)
theorem dX6_init_548 : decode cX6_init 548 = .ok (.bastore, 1) := dk_84 (dk_at dksX6_init_22 22 rfl rfl)
theorem dX6_init_549 : decode cX6_init 549 = .ok (.dup, 1) := dk_89 (dk_at dksX6_init_22 23 rfl rfl)
theorem dX6_init_550 : decode cX6_init 550 = .ok (.bipush 84, 2) := dk_16 84 (dk_at dksX6_init_23 0 rfl rfl)
theorem dX6_init_552 : decode cX6_init 552 = .ok (.bipush 32, 2) := dk_16 32 (dk_at dksX6_init_23 2 rfl rfl)
theorem dX6_init_554 : decode cX6_init 554 = .ok (.bastore, 1) := dk_84 (dk_at dksX6_init_23 4 rfl rfl)
theorem dX6_init_555 : decode cX6_init 555 = .ok (.dup, 1) := dk_89 (dk_at dksX6_init_23 5 rfl rfl)
theorem dX6_init_556 : decode cX6_init 556 = .ok (.bipush 85, 2) := dk_16 85 (dk_at dksX6_init_23 6 rfl rfl)
theorem dX6_init_558 : decode cX6_init 558 = .ok (.bipush 100, 2) := dk_16 100 (dk_at dksX6_init_23 8 rfl rfl)
theorem dX6_init_560 : decode cX6_init 560 = .ok (.bastore, 1) := dk_84 (dk_at dksX6_init_23 10 rfl rfl)
theorem dX6_init_561 : decode cX6_init 561 = .ok (.dup, 1) := dk_89 (dk_at dksX6_init_23 11 rfl rfl)
theorem dX6_init_562 : decode cX6_init 562 = .ok (.bipush 86, 2) := dk_16 86 (dk_at dksX6_init_23 12 rfl rfl)
theorem dX6_init_564 : decode cX6_init 564 = .ok (.bipush 111, 2) := dk_16 111 (dk_at dksX6_init_23 14 rfl rfl)
theorem dX6_init_566 : decode cX6_init 566 = .ok (.bastore, 1) := dk_84 (dk_at dksX6_init_23 16 rfl rfl)
theorem dX6_init_567 : decode cX6_init 567 = .ok (.dup, 1) := dk_89 (dk_at dksX6_init_23 17 rfl rfl)
theorem dX6_init_568 : decode cX6_init 568 = .ok (.bipush 87, 2) := dk_16 87 (dk_at dksX6_init_23 18 rfl rfl)
theorem dX6_init_570 : decode cX6_init 570 = .ok (.bipush 110, 2) := dk_16 110 (dk_at dksX6_init_23 20 rfl rfl)
theorem dX6_init_572 : decode cX6_init 572 = .ok (.bastore, 1) := dk_84 (dk_at dksX6_init_23 22 rfl rfl)
theorem dX6_init_573 : decode cX6_init 573 = .ok (.dup, 1) := dk_89 (dk_at dksX6_init_23 23 rfl rfl)
theorem dX6_init_574 : decode cX6_init 574 = .ok (.bipush 88, 2) := dk_16 88 (dk_at dksX6_init_24 0 rfl rfl)
theorem dX6_init_576 : decode cX6_init 576 = .ok (.bipush 101, 2) := dk_16 101 (dk_at dksX6_init_24 2 rfl rfl)
theorem dX6_init_578 : decode cX6_init 578 = .ok (.bastore, 1) := dk_84 (dk_at dksX6_init_24 4 rfl rfl)
theorem dX6_init_579 : decode cX6_init 579 = .ok (.dup, 1) := dk_89 (dk_at dksX6_init_24 5 rfl rfl)
theorem dX6_init_580 : decode cX6_init 580 = .ok (.bipush 89, 2) := dk_16 89 (dk_at dksX6_init_24 6 rfl rfl)
theorem dX6_init_582 : decode cX6_init 582 = .ok (.bipush 32, 2) := dk_16 32 (dk_at dksX6_init_24 8 rfl rfl)
theorem dX6_init_584 : decode cX6_init 584 = .ok (.bastore, 1) := dk_84 (dk_at dksX6_init_24 10 rfl rfl)
theorem dX6_init_585 : decode cX6_init 585 = .ok (.dup, 1) := dk_89 (dk_at dksX6_init_24 11 rfl rfl)
theorem dX6_init_586 : decode cX6_init 586 = .ok (.bipush 90, 2) := dk_16 90 (dk_at dksX6_init_24 12 rfl rfl)
theorem dX6_init_588 : decode cX6_init 588 = .ok (.bipush 108, 2) := dk_16 108 (dk_at dksX6_init_24 14 rfl rfl)
theorem dX6_init_590 : decode cX6_init 590 = .ok (.bastore, 1) := dk_84 (dk_at dksX6_init_24 16 rfl rfl)
theorem dX6_init_591 : decode cX6_init 591 = .ok (.dup, 1) := dk_89 (dk_at dksX6_init_24 17 rfl rfl)
theorem dX6_init_592 : decode cX6_init 592 = .ok (.bipush 91, 2) := dk_16 91 (dk_at dksX6_init_24 18 rfl rfl)
theorem dX6_init_594 : decode cX6_init 594 = .ok (.bipush 97, 2) := dk_16 97 (dk_at dksX6_init_24 20 rfl rfl)
theorem dX6_init_596 : decode cX6_init 596 = .ok (.bastore, 1) := dk_84 (dk_at dksX6_init_24 22 rfl rfl)
theorem dX6_init_597 : decode cX6_init 597 = .ok (.dup, 1) := dk_89 (dk_at dksX6_init_24 23 rfl rfl)
theorem dX6_init_598 : decode cX6_init 598 = .ok (.bipush 92, 2) := dk_16 92 (dk_at dksX6_init_25 0 rfl rfl)
theorem dX6_init_600 : decode cX6_init 600 = .ok (.bipush 116, 2) := dk_16 116 (dk_at dksX6_init_25 2 rfl rfl)
theorem dX6_init_602 : decode cX6_init 602 = .ok (.bastore, 1) := dk_84 (dk_at dksX6_init_25 4 rfl rfl)
theorem dX6_init_603 : decode cX6_init 603 = .ok (.dup, 1) := dk_89 (dk_at dksX6_init_25 5 rfl rfl)
theorem dX6_init_604 : decode cX6_init 604 = .ok (.bipush 93, 2) := dk_16 93 (dk_at dksX6_init_25 6 rfl rfl)
theorem dX6_init_606 : decode cX6_init 606 = .ok (.bipush 101, 2) := dk_16 101 (dk_at dksX6_init_25 8 rfl rfl)
theorem dX6_init_608 : decode cX6_init 608 = .ok (.bastore, 1) := dk_84 (dk_at dksX6_init_25 10 rfl rfl)
theorem dX6_init_609 : decode cX6_init 609 = .ok (.dup, 1) := dk_89 (dk_at dksX6_init_25 11 rfl rfl)
theorem dX6_init_610 : decode cX6_init 610 = .ok (.bipush 94, 2) := dk_16 94 (dk_at dksX6_init_25 12 rfl rfl)
theorem dX6_init_612 : decode cX6_init 612 = .ok (.bipush 115, 2) := dk_16 115 (dk_at dksX6_init_25 14 rfl rfl)
theorem dX6_init_614 : decode cX6_init 614 = .ok (.bastore, 1) := dk_84 (dk_at dksX6_init_25 16 rfl rfl)
theorem dX6_init_615 : decode cX6_init 615 = .ok (.dup, 1) := dk_89 (dk_at dksX6_init_25 17 rfl rfl)
theorem dX6_init_616 : decode cX6_init 616 = .ok (.bipush 95, 2) := dk_16 95 (dk_at dksX6_init_25 18 rfl rfl)
theorem dX6_init_618 : decode cX6_init 618 = .ok (.bipush 116, 2) := dk_16 116 (dk_at dksX6_init_25 20 rfl rfl)
theorem dX6_init_620 : decode cX6_init 620 = .ok (.bastore, 1) := dk_84 (dk_at dksX6_init_25 22 rfl rfl)
theorem dX6_init_621 : decode cX6_init 621 = .ok (.dup, 1) := dk_89 (dk_at dksX6_init_25 23 rfl rfl)
theorem dX6_init_622 : decode cX6_init 622 = .ok (.bipush 96, 2) := dk_16 96 (dk_at dksX6_init_26 0 rfl rfl)
theorem dX6_init_624 : decode cX6_init 624 = .ok (.bipush 32, 2) := dk_16 32 (dk_at dksX6_init_26 2 rfl rfl)
theorem dX6_init_626 : decode cX6_init 626 = .ok (.bastore, 1) := dk_84 (dk_at dksX6_init_26 4 rfl rfl)
theorem dX6_init_627 : decode cX6_init 627 = .ok (.dup, 1) := dk_89 (dk_at dksX6_init_26 5 rfl rfl)
theorem dX6_init_628 : decode cX6_init 628 = .ok (.bipush 97, 2) := dk_16 97 (dk_at dksX6_init_26 6 rfl rfl)
theorem dX6_init_630 : decode cX6_init 630 = .ok (.bipush 98, 2) := dk_16 98 (dk_at dksX6_init_26 8 rfl rfl)
theorem dX6_init_632 : decode cX6_init 632 = .ok (.bastore, 1) := dk_84 (dk_at dksX6_init_26 10 rfl rfl)
theorem dX6_init_633 : decode cX6_init 633 = .ok (.dup, 1) := dk_89 (dk_at dksX6_init_26 11 rfl rfl)
theorem dX6_init_634 : decode cX6_init 634 = .ok (.bipush 98, 2) := dk_16 98 (dk_at dksX6_init_26 12 rfl rfl)
theorem dX6_init_636 : decode cX6_init 636 = .ok (.bipush 97, 2) := dk_16 97 (dk_at dksX6_init_26 14 rfl rfl)
theorem dX6_init_638 : decode cX6_init 638 = .ok (.bastore, 1) := dk_84 (dk_at dksX6_init_26 16 rfl rfl)
theorem dX6_init_639 : decode cX6_init 639 = .ok (.dup, 1) := dk_89 (dk_at dksX6_init_26 17 rfl rfl)
theorem dX6_init_640 : decode cX6_init 640 = .ok (.bipush 99, 2) := dk_16 99 (dk_at dksX6_init_26 18 rfl rfl)
theorem dX6_init_642 : decode cX6_init 642 = .ok (.bipush 114, 2) := dk_16 114 (dk_at dksX6_init_26 20 rfl rfl)
theorem dX6_init_644 : decode cX6_init 644 = .ok (.bastore, 1) := dk_84 (dk_at dksX6_init_26 22 rfl rfl)
theorem dX6_init_645 : decode cX6_init 645 = .ok (.dup, 1) := dk_89 (dk_at dksX6_init_26 23 rfl rfl)
theorem dX6_init_646 : decode cX6_init 646 = .ok (.bipush 100, 2) := dk_16 100 (dk_at dksX6_init_27 0 rfl rfl)
theorem dX6_init_648 : decode cX6_init 648 = .ok (.bipush 114, 2) := dk_16 114 (dk_at dksX6_init_27 2 rfl rfl)
theorem dX6_init_650 : decode cX6_init 650 = .ok (.bastore, 1) := dk_84 (dk_at dksX6_init_27 4 rfl rfl)
theorem dX6_init_651 : decode cX6_init 651 = .ok (.dup, 1) := dk_89 (dk_at dksX6_init_27 5 rfl rfl)
theorem dX6_init_652 : decode cX6_init 652 = .ok (.bipush 101, 2) := dk_16 101 (dk_at dksX6_init_27 6 rfl rfl)
theorem dX6_init_654 : decode cX6_init 654 = .ok (.bipush 101, 2) := dk_16 101 (dk_at dksX6_init_27 8 rfl rfl)
theorem dX6_init_656 : decode cX6_init 656 = .ok (.bastore, 1) := dk_84 (dk_at dksX6_init_27 10 rfl rfl)
theorem dX6_init_657 : decode cX6_init 657 = .ok (.dup, 1) := dk_89 (dk_at dksX6_init_27 11 rfl rfl)
theorem dX6_init_658 : decode cX6_init 658 = .ok (.bipush 102, 2) := dk_16 102 (dk_at dksX6_init_27 12 rfl rfl)
theorem dX6_init_660 : decode cX6_init 660 = .ok (.bipush 100, 2) := dk_16 100 (dk_at dksX6_init_27 14 rfl rfl)
theorem dX6_init_662 : decode cX6_init 662 = .ok (.bastore, 1) := dk_84 (dk_at dksX6_init_27 16 rfl rfl)
theorem dX6_init_663 : decode cX6_init 663 = .ok (.dup, 1) := dk_89 (dk_at dksX6_init_27 17 rfl rfl)
theorem dX6_init_664 : decode cX6_init 664 = .ok (.bipush 103, 2) := dk_16 103 (dk_at dksX6_init_27 18 rfl rfl)
theorem dX6_init_666 : decode cX6_init 666 = .ok (.bipush 32, 2) := dk_16 32 (dk_at dksX6_init_27 20 rfl rfl)
theorem dX6_init_668 : decode cX6_init 668 = .ok (.bastore, 1) := dk_84 (dk_at dksX6_init_27 22 rfl rfl)
theorem dX6_init_669 : decode cX6_init 669 = .ok (.dup, 1) := dk_89 (dk_at dksX6_init_27 23 rfl rfl)
theorem dX6_init_670 : decode cX6_init 670 = .ok (.bipush 104, 2) := dk_16 104 (dk_at dksX6_init_28 0 rfl rfl)
theorem dX6_init_672 : decode cX6_init 672 = .ok (.bipush 97, 2) := dk_16 97 (dk_at dksX6_init_28 2 rfl rfl)
theorem dX6_init_674 : decode cX6_init 674 = .ok (.bastore, 1) := dk_84 (dk_at dksX6_init_28 4 rfl rfl)
theorem dX6_init_675 : decode cX6_init 675 = .ok (.dup, 1) := dk_89 (dk_at dksX6_init_28 5 rfl rfl)
theorem dX6_init_676 : decode cX6_init 676 = .ok (.bipush 105, 2) := dk_16 105 (dk_at dksX6_init_28 6 rfl rfl)
theorem dX6_init_678 : decode cX6_init 678 = .ok (.bipush 108, 2) := dk_16 108 (dk_at dksX6_init_28 8 rfl rfl)
theorem dX6_init_680 : decode cX6_init 680 = .ok (.bastore, 1) := dk_84 (dk_at dksX6_init_28 10 rfl rfl)
theorem dX6_init_681 : decode cX6_init 681 = .ok (.dup, 1) := dk_89 (dk_at dksX6_init_28 11 rfl rfl)
theorem dX6_init_682 : decode cX6_init 682 = .ok (.bipush 106, 2) := dk_16 106 (dk_at dksX6_init_28 12 rfl rfl)
theorem dX6_init_684 : decode cX6_init 684 = .ok (.bipush 108, 2) := dk_16 108 (dk_at dksX6_init_28 14 rfl rfl)
theorem dX6_init_686 : decode cX6_init 686 = .ok (.bastore, 1) := dk_84 (dk_at dksX6_init_28 16 rfl rfl)
theorem dX6_init_687 : decode cX6_init 687 = .ok (.dup, 1) := dk_89 (dk_at dksX6_init_28 17 rfl rfl)
theorem dX6_init_688 : decode cX6_init 688 = .ok (.bipush 107, 2) := dk_16 107 (dk_at dksX6_init_28 18 rfl rfl)
theorem dX6_init_690 : decode cX6_init 690 = .ok (.bipush 32, 2) := dk_16 32 (dk_at dksX6_init_28 20 rfl rfl)
theorem dX6_init_692 : decode cX6_init 692 = .ok (.bastore, 1) := dk_84 (dk_at dksX6_init_28 22 rfl rfl)
theorem dX6_init_693 : decode cX6_init 693 = .ok (.dup, 1) := dk_89 (dk_at dksX6_init_28 23 rfl rfl)
theorem dX6_init_694 : decode cX6_init 694 = .ok (.bipush 108, 2) := dk_16 108 (dk_at dksX6_init_29 0 rfl rfl)
theorem dX6_init_696 : decode cX6_init 696 = .ok (.bipush 115, 2) := dk_16 115 (dk_at dksX6_init_29 2 rfl rfl)
theorem dX6_init_698 : decode cX6_init 698 = .ok (.bastore, 1) := dk_84 (dk_at dksX6_init_29 4 rfl rfl)
theorem dX6_init_699 : decode cX6_init 699 = .ok (.dup, 1) := dk_89 (dk_at dksX6_init_29 5 rfl rfl)
theorem dX6_init_700 : decode cX6_init 700 = .ok (.bipush 109, 2) := dk_16 109 (dk_at dksX6_init_29 6 rfl rfl)
theorem dX6_init_702 : decode cX6_init 702 = .ok (.bipush 101, 2) := dk_16 101 (dk_at dksX6_init_29 8 rfl rfl)
theorem dX6_init_704 : decode cX6_init 704 = .ok (.bastore, 1) := dk_84 (dk_at dksX6_init_29 10 rfl rfl)
theorem dX6_init_705 : decode cX6_init 705 = .ok (.dup, 1) := dk_89 (dk_at dksX6_init_29 11 rfl rfl)
theorem dX6_init_706 : decode cX6_init 706 = .ok (.bipush 110, 2) := dk_16 110 (dk_at dksX6_init_29 12 rfl rfl)
theorem dX6_init_708 : decode cX6_init 708 = .ok (.bipush 116, 2) := dk_16 116 (dk_at dksX6_init_29 14 rfl rfl)
theorem dX6_init_710 : decode cX6_init 710 = .ok (.bastore, 1) := dk_84 (dk_at dksX6_init_29 16 rfl rfl)
theorem dX6_init_711 : decode cX6_init 711 = .ok (.dup, 1) := dk_89 (dk_at dksX6_init_29 17 rfl rfl)
theorem dX6_init_712 : decode cX6_init 712 = .ok (.bipush 111, 2) := dk_16 111 (dk_at dksX6_init_29 18 rfl rfl)
theorem dX6_init_714 : decode cX6_init 714 = .ok (.bipush 32, 2) := dk_16 32 (dk_at dksX6_init_29 20 rfl rfl)
theorem dX6_init_716 : decode cX6_init 716 = .ok (.bastore, 1) := dk_84 (dk_at dksX6_init_29 22 rfl rfl)
theorem dX6_init_717 : decode cX6_init 717 = .ok (.dup, 1) := dk_89 (dk_at dksX6_init_29 23 rfl rfl)
theorem dX6_init_718 : decode cX6_init 718 = .ok (.bipush 112, 2) := dk_16 112 (dk_at dksX6_init_30 0 rfl rfl)
theorem dX6_init_720 : decode cX6_init 720 = .ok (.bipush 115, 2) := dk_16 115 (dk_at dksX6_init_30 2 rfl rfl)
theorem dX6_init_722 : decode cX6_init 722 = .ok (.bastore, 1) := dk_84 (dk_at dksX6_init_30 4 rfl rfl)
theorem dX6_init_723 : decode cX6_init 723 = .ok (.dup, 1) := dk_89 (dk_at dksX6_init_30 5 rfl rfl)
theorem dX6_init_724 : decode cX6_init 724 = .ok (.bipush 113, 2) := dk_16 113 (dk_at dksX6_init_30 6 rfl rfl)
theorem dX6_init_726 : decode cX6_init 726 = .ok (.bipush 104, 2) := dk_16 104 (dk_at dksX6_init_30 8 rfl rfl)
theorem dX6_init_728 : decode cX6_init 728 = .ok (.bastore, 1) := dk_84 (dk_at dksX6_init_30 10 rfl rfl)
theorem dX6_init_729 : decode cX6_init 729 = .ok (.dup, 1) := dk_89 (dk_at dksX6_init_30 11 rfl rfl)
theorem dX6_init_730 : decode cX6_init 730 = .ok (.bipush 114, 2) := dk_16 114 (dk_at dksX6_init_30 12 rfl rfl)
theorem dX6_init_732 : decode cX6_init 732 = .ok (.bipush 105, 2) := dk_16 105 (dk_at dksX6_init_30 14 rfl rfl)
theorem dX6_init_734 : decode cX6_init 734 = .ok (.bastore, 1) := dk_84 (dk_at dksX6_init_30 16 rfl rfl)
theorem dX6_init_735 : decode cX6_init 735 = .ok (.dup, 1) := dk_89 (dk_at dksX6_init_30 17 rfl rfl)
theorem dX6_init_736 : decode cX6_init 736 = .ok (.bipush 115, 2) := dk_16 115 (dk_at dksX6_init_30 18 rfl rfl)
theorem dX6_init_738 : decode cX6_init 738 = .ok (.bipush 102, 2) := dk_16 102 (dk_at dksX6_init_30 20 rfl rfl)
theorem dX6_init_740 : decode cX6_init 740 = .ok (.bastore, 1) := dk_84 (dk_at dksX6_init_30 22 rfl rfl)
theorem dX6_init_741 : decode cX6_init 741 = .ok (.dup, 1) := dk_89 (dk_at dksX6_init_30 23 rfl rfl)
theorem dX6_init_742 : decode cX6_init 742 = .ok (.bipush 116, 2) := dk_16 116 (dk_at dksX6_init_31 0 rfl rfl)
theorem dX6_init_744 : decode cX6_init 744 = .ok (.bipush 116, 2) := dk_16 116 (dk_at dksX6_init_31 2 rfl rfl)
theorem dX6_init_746 : decode cX6_init 746 = .ok (.bastore, 1) := dk_84 (dk_at dksX6_init_31 4 rfl rfl)
theorem dX6_init_747 : decode cX6_init 747 = .ok (.dup, 1) := dk_89 (dk_at dksX6_init_31 5 rfl rfl)
theorem dX6_init_748 : decode cX6_init 748 = .ok (.bipush 117, 2) := dk_16 117 (dk_at dksX6_init_31 6 rfl rfl)
theorem dX6_init_750 : decode cX6_init 750 = .ok (.bipush 32, 2) := dk_16 32 (dk_at dksX6_init_31 8 rfl rfl)
theorem dX6_init_752 : decode cX6_init 752 = .ok (.bastore, 1) := dk_84 (dk_at dksX6_init_31 10 rfl rfl)
theorem dX6_init_753 : decode cX6_init 753 = .ok (.dup, 1) := dk_89 (dk_at dksX6_init_31 11 rfl rfl)
theorem dX6_init_754 : decode cX6_init 754 = .ok (.bipush 118, 2) := dk_16 118 (dk_at dksX6_init_31 12 rfl rfl)
theorem dX6_init_756 : decode cX6_init 756 = .ok (.bipush 115, 2) := dk_16 115 (dk_at dksX6_init_31 14 rfl rfl)
theorem dX6_init_758 : decode cX6_init 758 = .ok (.bastore, 1) := dk_84 (dk_at dksX6_init_31 16 rfl rfl)
theorem dX6_init_759 : decode cX6_init 759 = .ok (.dup, 1) := dk_89 (dk_at dksX6_init_31 17 rfl rfl)
theorem dX6_init_760 : decode cX6_init 760 = .ok (.bipush 119, 2) := dk_16 119 (dk_at dksX6_init_31 18 rfl rfl)
theorem dX6_init_762 : decode cX6_init 762 = .ok (.bipush 119, 2) := dk_16 119 (dk_at dksX6_init_31 20 rfl rfl)
theorem dX6_init_764 : decode cX6_init 764 = .ok (.bastore, 1) := dk_84 (dk_at dksX6_init_31 22 rfl rfl)
theorem dX6_init_765 : decode cX6_init 765 = .ok (.dup, 1) := dk_89 (dk_at dksX6_init_31 23 rfl rfl)
theorem dX6_init_766 : decode cX6_init 766 = .ok (.bipush 120, 2) := dk_16 120 (dk_at dksX6_init_32 0 rfl rfl)
theorem dX6_init_768 : decode cX6_init 768 = .ok (.bipush 97, 2) := dk_16 97 (dk_at dksX6_init_32 2 rfl rfl)
theorem dX6_init_770 : decode cX6_init 770 = .ok (.bastore, 1) := dk_84 (dk_at dksX6_init_32 4 rfl rfl)
theorem dX6_init_771 : decode cX6_init 771 = .ok (.dup, 1) := dk_89 (dk_at dksX6_init_32 5 rfl rfl)
theorem dX6_init_772 : decode cX6_init 772 = .ok (.bipush 121, 2) := dk_16 121 (dk_at dksX6_init_32 6 rfl rfl)
theorem dX6_init_774 : decode cX6_init 774 = .ok (.bipush 112, 2) := dk_16 112 (dk_at dksX6_init_32 8 rfl rfl)
theorem dX6_init_776 : decode cX6_init 776 = .ok (.bastore, 1) := dk_84 (dk_at dksX6_init_32 10 rfl rfl)
theorem dX6_init_777 : decode cX6_init 777 = .ok (.dup, 1) := dk_89 (dk_at dksX6_init_32 11 rfl rfl)
theorem dX6_init_778 : decode cX6_init 778 = .ok (.bipush 122, 2) := dk_16 122 (dk_at dksX6_init_32 12 rfl rfl)
theorem dX6_init_780 : decode cX6_init 780 = .ok (.bipush 32, 2) := dk_16 32 (dk_at dksX6_init_32 14 rfl rfl)
theorem dX6_init_782 : decode cX6_init 782 = .ok (.bastore, 1) := dk_84 (dk_at dksX6_init_32 16 rfl rfl)
theorem dX6_init_783 : decode cX6_init 783 = .ok (.dup, 1) := dk_89 (dk_at dksX6_init_32 17 rfl rfl)
theorem dX6_init_784 : decode cX6_init 784 = .ok (.bipush 123, 2) := dk_16 123 (dk_at dksX6_init_32 18 rfl rfl)
theorem dX6_init_786 : decode cX6_init 786 = .ok (.bipush 112, 2) := dk_16 112 (dk_at dksX6_init_32 20 rfl rfl)
theorem dX6_init_788 : decode cX6_init 788 = .ok (.bastore, 1) := dk_84 (dk_at dksX6_init_32 22 rfl rfl)
theorem dX6_init_789 : decode cX6_init 789 = .ok (.dup, 1) := dk_89 (dk_at dksX6_init_32 23 rfl rfl)
theorem dX6_init_790 : decode cX6_init 790 = .ok (.bipush 124, 2) := dk_16 124 (dk_at dksX6_init_33 0 rfl rfl)
theorem dX6_init_792 : decode cX6_init 792 = .ok (.bipush 97, 2) := dk_16 97 (dk_at dksX6_init_33 2 rfl rfl)
theorem dX6_init_794 : decode cX6_init 794 = .ok (.bastore, 1) := dk_84 (dk_at dksX6_init_33 4 rfl rfl)
theorem dX6_init_795 : decode cX6_init 795 = .ok (.dup, 1) := dk_89 (dk_at dksX6_init_33 5 rfl rfl)
theorem dX6_init_796 : decode cX6_init 796 = .ok (.bipush 125, 2) := dk_16 125 (dk_at dksX6_init_33 6 rfl rfl)
theorem dX6_init_798 : decode cX6_init 798 = .ok (.bipush 115, 2) := dk_16 115 (dk_at dksX6_init_33 8 rfl rfl)
theorem dX6_init_800 : decode cX6_init 800 = .ok (.bastore, 1) := dk_84 (dk_at dksX6_init_33 10 rfl rfl)
theorem dX6_init_801 : decode cX6_init 801 = .ok (.dup, 1) := dk_89 (dk_at dksX6_init_33 11 rfl rfl)
theorem dX6_init_802 : decode cX6_init 802 = .ok (.bipush 126, 2) := dk_16 126 (dk_at dksX6_init_33 12 rfl rfl)
theorem dX6_init_804 : decode cX6_init 804 = .ok (.bipush 115, 2) := dk_16 115 (dk_at dksX6_init_33 14 rfl rfl)
theorem dX6_init_806 : decode cX6_init 806 = .ok (.bastore, 1) := dk_84 (dk_at dksX6_init_33 16 rfl rfl)
theorem dX6_init_807 : decode cX6_init 807 = .ok (.dup, 1) := dk_89 (dk_at dksX6_init_33 17 rfl rfl)
theorem dX6_init_808 : decode cX6_init 808 = .ok (.bipush 127, 2) := dk_16 127 (dk_at dksX6_init_33 18 rfl rfl)
theorem dX6_init_810 : decode cX6_init 810 = .ok (.bipush 32, 2) := dk_16 32 (dk_at dksX6_init_33 20 rfl rfl)
theorem dX6_init_812 : decode cX6_init 812 = .ok (.bastore, 1) := dk_84 (dk_at dksX6_init_33 22 rfl rfl)
theorem dX6_init_813 : decode cX6_init 813 = .ok (.dup, 1) := dk_89 (dk_at dksX6_init_33 23 rfl rfl)
theorem dX6_init_814 : decode cX6_init 814 = .ok (.sipush 128, 3) := dk_17 0 128 (dk_at dksX6_init_34 0 rfl rfl)
theorem dX6_init_817 : decode cX6_init 817 = .ok (.bipush 116, 2) := dk_16 116 (dk_at dksX6_init_34 3 rfl rfl)
theorem dX6_init_819 : decode cX6_init 819 = .ok (.bastore, 1) := dk_84 (dk_at dksX6_init_34 5 rfl rfl)
theorem dX6_init_820 : decode cX6_init 820 = .ok (.dup, 1) := dk_89 (dk_at dksX6_init_34 6 rfl rfl)
theorem dX6_init_821 : decode cX6_init 821 = .ok (.sipush 129, 3) := dk_17 0 129 (dk_at dksX6_init_34 7 rfl rfl)
theorem dX6_init_824 : decode cX6_init 824 = .ok (.bipush 111, 2) := dk_16 111 (dk_at dksX6_init_34 10 rfl rfl)
theorem dX6_init_826 : decode cX6_init 826 = .ok (.bastore, 1) := dk_84 (dk_at dksX6_init_34 12 rfl rfl)
theorem dX6_init_827 : decode cX6_init 827 = .ok (.dup, 1) := dk_89 (dk_at dksX6_init_34 13 rfl rfl)
theorem dX6_init_828 : decode cX6_init 828 = .ok (.sipush 130, 3) := dk_17 0 130 (dk_at dksX6_init_34 14 rfl rfl)
theorem dX6_init_831 : decode cX6_init 831 = .ok (.bipush 32, 2) := dk_16 32 (dk_at dksX6_init_34 17 rfl rfl)
theorem dX6_init_833 : decode cX6_init 833 = .ok (.bastore, 1) := dk_84 (dk_at dksX6_init_34 19 rfl rfl)
theorem dX6_init_834 : decode cX6_init 834 = .ok (.dup, 1) := dk_89 (dk_at dksX6_init_34 20 rfl rfl)
theorem dX6_init_835 : decode cX6_init 835 = .ok (.sipush 131, 3) := dk_17 0 131 (dk_at dksX6_init_34 21 rfl rfl)
theorem dX6_init_838 : decode cX6_init 838 = .ok (.bipush 116, 2) := dk_16 116 (dk_at dksX6_init_35 0 rfl rfl)
theorem dX6_init_840 : decode cX6_init 840 = .ok (.bastore, 1) := dk_84 (dk_at dksX6_init_35 2 rfl rfl)
theorem dX6_init_841 : decode cX6_init 841 = .ok (.dup, 1) := dk_89 (dk_at dksX6_init_35 3 rfl rfl)
theorem dX6_init_842 : decode cX6_init 842 = .ok (.sipush 132, 3) := dk_17 0 132 (dk_at dksX6_init_35 4 rfl rfl)
theorem dX6_init_845 : decode cX6_init 845 = .ok (.bipush 105, 2) := dk_16 105 (dk_at dksX6_init_35 7 rfl rfl)
theorem dX6_init_847 : decode cX6_init 847 = .ok (.bastore, 1) := dk_84 (dk_at dksX6_init_35 9 rfl rfl)
theorem dX6_init_848 : decode cX6_init 848 = .ok (.dup, 1) := dk_89 (dk_at dksX6_init_35 10 rfl rfl)
theorem dX6_init_849 : decode cX6_init 849 = .ok (.sipush 133, 3) := dk_17 0 133 (dk_at dksX6_init_35 11 rfl rfl)
theorem dX6_init_852 : decode cX6_init 852 = .ok (.bipush 109, 2) := dk_16 109 (dk_at dksX6_init_35 14 rfl rfl)
theorem dX6_init_854 : decode cX6_init 854 = .ok (.bastore, 1) := dk_84 (dk_at dksX6_init_35 16 rfl rfl)
theorem dX6_init_855 : decode cX6_init 855 = .ok (.dup, 1) := dk_89 (dk_at dksX6_init_35 17 rfl rfl)
theorem dX6_init_856 : decode cX6_init 856 = .ok (.sipush 134, 3) := dk_17 0 134 (dk_at dksX6_init_35 18 rfl rfl)
theorem dX6_init_859 : decode cX6_init 859 = .ok (.bipush 101, 2) := dk_16 101 (dk_at dksX6_init_35 21 rfl rfl)
theorem dX6_init_861 : decode cX6_init 861 = .ok (.bastore, 1) := dk_84 (dk_at dksX6_init_35 23 rfl rfl)
theorem dX6_init_862 : decode cX6_init 862 = .ok (.dup, 1) := dk_89 (dk_at dksX6_init_36 0 rfl rfl)
theorem dX6_init_863 : decode cX6_init 863 = .ok (.sipush 135, 3) := dk_17 0 135 (dk_at dksX6_init_36 1 rfl rfl)
theorem dX6_init_866 : decode cX6_init 866 = .ok (.bipush 115, 2) := dk_16 115 (dk_at dksX6_init_36 4 rfl rfl)
theorem dX6_init_868 : decode cX6_init 868 = .ok (.bastore, 1) := dk_84 (dk_at dksX6_init_36 6 rfl rfl)
theorem dX6_init_869 : decode cX6_init 869 = .ok (.dup, 1) := dk_89 (dk_at dksX6_init_36 7 rfl rfl)
theorem dX6_init_870 : decode cX6_init 870 = .ok (.sipush 136, 3) := dk_17 0 136 (dk_at dksX6_init_36 8 rfl rfl)
theorem dX6_init_873 : decode cX6_init 873 = .ok (.bipush 32, 2) := dk_16 32 (dk_at dksX6_init_36 11 rfl rfl)
theorem dX6_init_875 : decode cX6_init 875 = .ok (.bastore, 1) := dk_84 (dk_at dksX6_init_36 13 rfl rfl)
theorem dX6_init_876 : decode cX6_init 876 = .ok (.putfield 41, 3) := dk_181 0 41 (dk_at dksX6_init_36 14 rfl rfl)
theorem dX6_init_879 : decode cX6_init 879 = .ok (.aload_n 0, 1) := dk_42 (dk_at dksX6_init_36 17 rfl rfl)
theorem dX6_init_880 : decode cX6_init 880 = .ok (.sipush 400, 3) := dk_17 1 144 (dk_at dksX6_init_36 18 rfl rfl)
theorem dX6_init_883 : decode cX6_init 883 = .ok (.newarray .byte, 2) := dk_188_8 (dk_at dksX6_init_36 21 rfl rfl)
theorem dX6_init_885 : decode cX6_init 885 = .ok (.putfield 45, 3) := dk_181 0 45 (dk_at dksX6_init_37 0 rfl rfl)
theorem dX6_init_888 : decode cX6_init 888 = .ok (.aload_n 0, 1) := dk_42 (dk_at dksX6_init_37 3 rfl rfl)
theorem dX6_init_889 : decode cX6_init 889 = .ok (.iconst 5, 1) := dk_8 (dk_at dksX6_init_37 4 rfl rfl)
theorem dX6_init_890 : decode cX6_init 890 = .ok (.newarray .int, 2) := dk_188_10 (dk_at dksX6_init_37 5 rfl rfl)
theorem dX6_init_892 : decode cX6_init 892 = .ok (.putfield 48, 3) := dk_181 0 48 (dk_at dksX6_init_37 7 rfl rfl)
theorem dX6_init_895 : decode cX6_init 895 = .ok (.aload_n 0, 1) := dk_42 (dk_at dksX6_init_37 10 rfl rfl)
theorem dX6_init_896 : decode cX6_init 896 = .ok (.iconst (-1), 1) := dk_2 (dk_at dksX6_init_37 11 rfl rfl)
theorem dX6_init_897 : decode cX6_init 897 = .ok (.putfield 51, 3) := dk_181 0 51 (dk_at dksX6_init_37 12 rfl rfl)
theorem dX6_init_900 : decode cX6_init 900 = .ok (.aload_n 0, 1) := dk_42 (dk_at dksX6_init_37 15 rfl rfl)
theorem dX6_init_901 : decode cX6_init 901 = .ok (.sipush 401, 3) := dk_17 1 145 (dk_at dksX6_init_37 16 rfl rfl)
theorem dX6_init_904 : decode cX6_init 904 = .ok (.newarray .int, 2) := dk_188_10 (dk_at dksX6_init_37 19 rfl rfl)
theorem dX6_init_906 : decode cX6_init 906 = .ok (.putfield 54, 3) := dk_181 0 54 (dk_at dksX6_init_37 21 rfl rfl)
theorem dX6_init_909 : decode cX6_init 909 = .ok (.aload_n 0, 1) := dk_42 (dk_at dksX6_init_38 0 rfl rfl)
theorem dX6_init_910 : decode cX6_init 910 = .ok (.sipush 401, 3) := dk_17 1 145 (dk_at dksX6_init_38 1 rfl rfl)
theorem dX6_init_913 : decode cX6_init 913 = .ok (.newarray .int, 2) := dk_188_10 (dk_at dksX6_init_38 4 rfl rfl)
theorem dX6_init_915 : decode cX6_init 915 = .ok (.putfield 57, 3) := dk_181 0 57 (dk_at dksX6_init_38 6 rfl rfl)
theorem dX6_init_918 : decode cX6_init 918 = .ok (.aload_n 0, 1) := dk_42 (dk_at dksX6_init_38 9 rfl rfl)
theorem dX6_init_919 : decode cX6_init 919 = .ok (.sipush 401, 3) := dk_17 1 145 (dk_at dksX6_init_38 10 rfl rfl)
theorem dX6_init_922 : decode cX6_init 922 = .ok (.newarray .int, 2) := dk_188_10 (dk_at dksX6_init_38 13 rfl rfl)
theorem dX6_init_924 : decode cX6_init 924 = .ok (.putfield 60, 3) := dk_181 0 60 (dk_at dksX6_init_38 15 rfl rfl)
theorem dX6_init_927 : decode cX6_init 927 = .ok (.aload_n 0, 1) := dk_42 (dk_at dksX6_init_38 18 rfl rfl)
theorem dX6_init_928 : decode cX6_init 928 = .ok (.bipush 10, 2) := dk_16 10 (dk_at dksX6_init_38 19 rfl rfl)
theorem dX6_init_930 : decode cX6_init 930 = .ok (.newarray .int, 2) := dk_188_10 (dk_at dksX6_init_38 21 rfl rfl)
theorem dX6_init_932 : decode cX6_init 932 = .ok (.putfield 63, 3) := dk_181 0 63 (dk_at dksX6_init_39 0 rfl rfl)
theorem dX6_init_935 : decode cX6_init 935 = .ok (.aload_n 0, 1) := dk_42 (dk_at dksX6_init_39 3 rfl rfl)
theorem dX6_init_936 : decode cX6_init 936 = .ok (.sipush 416, 3) := dk_17 1 160 (dk_at dksX6_init_39 4 rfl rfl)
theorem dX6_init_939 : decode cX6_init 939 = .ok (.newarray .int, 2) := dk_188_10 (dk_at dksX6_init_39 7 rfl rfl)
theorem dX6_init_941 : decode cX6_init 941 = .ok (.putfield 66, 3) := dk_181 0 66 (dk_at dksX6_init_39 9 rfl rfl)
theorem dX6_init_944 : decode cX6_init 944 = .ok (.aload_n 0, 1) := dk_42 (dk_at dksX6_init_39 12 rfl rfl)
theorem dX6_init_945 : decode cX6_init 945 = .ok (.sipush 416, 3) := dk_17 1 160 (dk_at dksX6_init_39 13 rfl rfl)
theorem dX6_init_948 : decode cX6_init 948 = .ok (.newarray .int, 2) := dk_188_10 (dk_at dksX6_init_39 16 rfl rfl)
theorem dX6_init_950 : decode cX6_init 950 = .ok (.putfield 69, 3) := dk_181 0 69 (dk_at dksX6_init_39 18 rfl rfl)
theorem dX6_init_953 : decode cX6_init 953 = .ok (.aload_n 0, 1) := dk_42 (dk_at dksX6_init_39 21 rfl rfl)
theorem dX6_init_954 : decode cX6_init 954 = .ok (.sipush 7500, 3) := dk_17 29 76 (dk_at dksX6_init_40 0 rfl rfl)
theorem dX6_init_957 : decode cX6_init 957 = .ok (.newarray .int, 2) := dk_188_10 (dk_at dksX6_init_40 3 rfl rfl)
theorem dX6_init_959 : decode cX6_init 959 = .ok (.putfield 72, 3) := dk_181 0 72 (dk_at dksX6_init_40 5 rfl rfl)
theorem dX6_init_962 : decode cX6_init 962 = .ok (.aload_n 0, 1) := dk_42 (dk_at dksX6_init_40 8 rfl rfl)
theorem dX6_init_963 : decode cX6_init 963 = .ok (.sipush 7500, 3) := dk_17 29 76 (dk_at dksX6_init_40 9 rfl rfl)
theorem dX6_init_966 : decode cX6_init 966 = .ok (.newarray .int, 2) := dk_188_10 (dk_at dksX6_init_40 12 rfl rfl)
theorem dX6_init_968 : decode cX6_init 968 = .ok (.putfield 75, 3) := dk_181 0 75 (dk_at dksX6_init_40 14 rfl rfl)
theorem dX6_init_971 : decode cX6_init 971 = .ok (.aload_n 0, 1) := dk_42 (dk_at dksX6_init_40 17 rfl rfl)
theorem dX6_init_972 : decode cX6_init 972 = .ok (.sipush 7500, 3) := dk_17 29 76 (dk_at dksX6_init_40 18 rfl rfl)
theorem dX6_init_975 : decode cX6_init 975 = .ok (.newarray .boolean, 2) := dk_188_4 (dk_at dksX6_init_40 21 rfl rfl)
theorem dX6_init_977 : decode cX6_init 977 = .ok (.putfield 78, 3) := dk_181 0 78 (dk_at dksX6_init_41 0 rfl rfl)
theorem dX6_init_980 : decode cX6_init 980 = .ok (.aload_n 0, 1) := dk_42 (dk_at dksX6_init_41 3 rfl rfl)
theorem dX6_init_981 : decode cX6_init 981 = .ok (.sipush 300, 3) := dk_17 1 44 (dk_at dksX6_init_41 4 rfl rfl)
theorem dX6_init_984 : decode cX6_init 984 = .ok (.newarray .int, 2) := dk_188_10 (dk_at dksX6_init_41 7 rfl rfl)
theorem dX6_init_986 : decode cX6_init 986 = .ok (.putfield 81, 3) := dk_181 0 81 (dk_at dksX6_init_41 9 rfl rfl)
theorem dX6_init_989 : decode cX6_init 989 = .ok (.aload_n 0, 1) := dk_42 (dk_at dksX6_init_41 12 rfl rfl)
theorem dX6_init_990 : decode cX6_init 990 = .ok (.sipush 300, 3) := dk_17 1 44 (dk_at dksX6_init_41 13 rfl rfl)
theorem dX6_init_993 : decode cX6_init 993 = .ok (.newarray .long, 2) := dk_188_11 (dk_at dksX6_init_41 16 rfl rfl)
theorem dX6_init_995 : decode cX6_init 995 = .ok (.putfield 84, 3) := dk_181 0 84 (dk_at dksX6_init_41 18 rfl rfl)
theorem dX6_init_998 : decode cX6_init 998 = .ok (.aload_n 0, 1) := dk_42 (dk_at dksX6_init_41 21 rfl rfl)
theorem dX6_init_999 : decode cX6_init 999 = .ok (.bipush 48, 2) := dk_16 48 (dk_at dksX6_init_41 22 rfl rfl)
theorem dX6_init_1001 : decode cX6_init 1001 = .ok (.newarray .int, 2) := dk_188_10 (dk_at dksX6_init_42 0 rfl rfl)
theorem dX6_init_1003 : decode cX6_init 1003 = .ok (.putfield 88, 3) := dk_181 0 88 (dk_at dksX6_init_42 2 rfl rfl)
theorem dX6_init_1006 : decode cX6_init 1006 = .ok (.aload_n 0, 1) := dk_42 (dk_at dksX6_init_42 5 rfl rfl)
theorem dX6_init_1007 : decode cX6_init 1007 = .ok (.bipush 21, 2) := dk_16 21 (dk_at dksX6_init_42 6 rfl rfl)
theorem dX6_init_1009 : decode cX6_init 1009 = .ok (.newarray .long, 2) := dk_188_11 (dk_at dksX6_init_42 8 rfl rfl)
theorem dX6_init_1011 : decode cX6_init 1011 = .ok (.putfield 91, 3) := dk_181 0 91 (dk_at dksX6_init_42 10 rfl rfl)
theorem dX6_init_1014 : decode cX6_init 1014 = .ok (.aload_n 0, 1) := dk_42 (dk_at dksX6_init_42 13 rfl rfl)
theorem dX6_init_1015 : decode cX6_init 1015 = .ok (.iconst (-1), 1) := dk_2 (dk_at dksX6_init_42 14 rfl rfl)
theorem dX6_init_1016 : decode cX6_init 1016 = .ok (.putfield 94, 3) := dk_181 0 94 (dk_at dksX6_init_42 15 rfl rfl)
theorem dX6_init_1019 : decode cX6_init 1019 = .ok (.aload_n 0, 1) := dk_42 (dk_at dksX6_init_42 18 rfl rfl)
theorem dX6_init_1020 : decode cX6_init 1020 = .ok (.iconst 2, 1) := dk_5 (dk_at dksX6_init_42 19 rfl rfl)
theorem dX6_init_1021 : decode cX6_init 1021 = .ok (.newarray .long, 2) := dk_188_11 (dk_at dksX6_init_42 20 rfl rfl)
theorem dX6_init_1023 : decode cX6_init 1023 = .ok (.putfield 97, 3) := dk_181 0 97 (dk_at dksX6_init_43 0 rfl rfl)
theorem dX6_init_1026 : decode cX6_init 1026 = .ok (.aload_n 0, 1) := dk_42 (dk_at dksX6_init_43 3 rfl rfl)
theorem dX6_init_1027 : decode cX6_init 1027 = .ok (.bipush 25, 2) := dk_16 25 (dk_at dksX6_init_43 4 rfl rfl)
theorem dX6_init_1029 : decode cX6_init 1029 = .ok (.newarray .int, 2) := dk_188_10 (dk_at dksX6_init_43 6 rfl rfl)
theorem dX6_init_1031 : decode cX6_init 1031 = .ok (.putfield 100, 3) := dk_181 0 100 (dk_at dksX6_init_43 8 rfl rfl)
theorem dX6_init_1034 : decode cX6_init 1034 = .ok (.aload_n 0, 1) := dk_42 (dk_at dksX6_init_43 11 rfl rfl)
theorem dX6_init_1035 : decode cX6_init 1035 = .ok (.iconst (-1), 1) := dk_2 (dk_at dksX6_init_43 12 rfl rfl)
theorem dX6_init_1036 : decode cX6_init 1036 = .ok (.putfield 103, 3) := dk_181 0 103 (dk_at dksX6_init_43 13 rfl rfl)
theorem dX6_init_1039 : decode cX6_init 1039 = .ok (.aload_n 0, 1) := dk_42 (dk_at dksX6_init_43 16 rfl rfl)
theorem dX6_init_1040 : decode cX6_init 1040 = .ok (.getfield 28, 3) := dk_180 0 28 (dk_at dksX6_init_43 17 rfl rfl)
theorem dX6_init_1043 : decode cX6_init 1043 = .ok (.bipush 37, 2) := dk_16 37 (dk_at dksX6_init_43 20 rfl rfl)
theorem dX6_init_1045 : decode cX6_init 1045 = .ok (.iconst 1, 1) := dk_4 (dk_at dksX6_init_43 22 rfl rfl)
theorem dX6_init_1046 : decode cX6_init 1046 = .ok (.iastore, 1) := dk_79 (dk_at dksX6_init_43 23 rfl rfl)
theorem dX6_init_1047 : decode cX6_init 1047 = .ok (.aload_n 0, 1) := dk_42 (dk_at dksX6_init_44 0 rfl rfl)
theorem dX6_init_1048 : decode cX6_init 1048 = .ok (.getfield 28, 3) := dk_180 0 28 (dk_at dksX6_init_44 1 rfl rfl)
theorem dX6_init_1051 : decode cX6_init 1051 = .ok (.bipush 40, 2) := dk_16 40 (dk_at dksX6_init_44 4 rfl rfl)
theorem dX6_init_1053 : decode cX6_init 1053 = .ok (.bipush 24, 2) := dk_16 24 (dk_at dksX6_init_44 6 rfl rfl)
theorem dX6_init_1055 : decode cX6_init 1055 = .ok (.iastore, 1) := dk_79 (dk_at dksX6_init_44 8 rfl rfl)
theorem dX6_init_1056 : decode cX6_init 1056 = .ok (.aload_n 0, 1) := dk_42 (dk_at dksX6_init_44 9 rfl rfl)
theorem dX6_init_1057 : decode cX6_init 1057 = .ok (.getfield 28, 3) := dk_180 0 28 (dk_at dksX6_init_44 10 rfl rfl)
theorem dX6_init_1060 : decode cX6_init 1060 = .ok (.bipush 44, 2) := dk_16 44 (dk_at dksX6_init_44 13 rfl rfl)
theorem dX6_init_1062 : decode cX6_init 1062 = .ok (.iconst (-1), 1) := dk_2 (dk_at dksX6_init_44 15 rfl rfl)
theorem dX6_init_1063 : decode cX6_init 1063 = .ok (.iastore, 1) := dk_79 (dk_at dksX6_init_44 16 rfl rfl)
theorem dX6_init_1064 : decode cX6_init 1064 = .ok (.return_, 1) := dk_177 (dk_at dksX6_init_44 17 rfl rfl)
abbrev cX6_image : ByteArray := prog_24_method_14_code
def yX6_image : MethodName := ⟨RX6, "image", "(I)I"⟩
def dkwX6_image_2 : List UInt8 := [42, 180, 0, 34, 27, 4, 84, 42, 3, 182, 0, 14, 172]
abbrev dktX6_image_2 : List UInt8 := dkwX6_image_2 ++ []
def dkwX6_image_1 : List UInt8 := [42, 180, 0, 31, 17, 22, 20, 27, 104, 28, 96, 42, 180, 0, 28, 28, 46, 79, 132, 2, 1, 167, 255, 228]
abbrev dktX6_image_1 : List UInt8 := dkwX6_image_1 ++ dktX6_image_2
def dkwX6_image_0 : List UInt8 := [27, 3, 4, 184, 0, 18, 154, 0, 9, 42, 2, 182, 0, 106, 172, 3, 61, 28, 17, 22, 20, 162, 0, 27]
abbrev dktX6_image_0 : List UInt8 := dkwX6_image_0 ++ dktX6_image_1
theorem dksX6_image_0 : cX6_image.data.toList.drop 0 = dktX6_image_0 := by decide +kernel
theorem dksX6_image_1 : cX6_image.data.toList.drop 24 = dktX6_image_1 := dk_seg dksX6_image_0 24 rfl rfl
theorem dksX6_image_2 : cX6_image.data.toList.drop 48 = dktX6_image_2 := dk_seg dksX6_image_1 24 rfl rfl
theorem dX6_image_0 : decode cX6_image 0 = .ok (.iload_n 1, 1) := dk_27 (dk_at dksX6_image_0 0 rfl rfl)
theorem dX6_image_1 : decode cX6_image 1 = .ok (.iconst 0, 1) := dk_3 (dk_at dksX6_image_0 1 rfl rfl)
theorem dX6_image_2 : decode cX6_image 2 = .ok (.iconst 1, 1) := dk_4 (dk_at dksX6_image_0 2 rfl rfl)
theorem dX6_image_3 : decode cX6_image 3 = .ok (.invokestatic 18, 3) := dk_184 0 18 (dk_at dksX6_image_0 3 rfl rfl)
theorem dX6_image_6 : decode cX6_image 6 = .ok (.ifCond .ne 9, 3) := dk_154 0 9 (dk_at dksX6_image_0 6 rfl rfl)
theorem dX6_image_9 : decode cX6_image 9 = .ok (.aload_n 0, 1) := dk_42 (dk_at dksX6_image_0 9 rfl rfl)
theorem dX6_image_10 : decode cX6_image 10 = .ok (.iconst (-1), 1) := dk_2 (dk_at dksX6_image_0 10 rfl rfl)
theorem dX6_image_11 : decode cX6_image 11 = .ok (.invokevirtual 106, 3) := dk_182 0 106 (dk_at dksX6_image_0 11 rfl rfl)
theorem dX6_image_14 : decode cX6_image 14 = .ok (.ireturn, 1) := dk_172 (dk_at dksX6_image_0 14 rfl rfl)
theorem dX6_image_15 : decode cX6_image 15 = .ok (.iconst 0, 1) := dk_3 (dk_at dksX6_image_0 15 rfl rfl)
theorem dX6_image_16 : decode cX6_image 16 = .ok (.istore_n 2, 1) := dk_61 (dk_at dksX6_image_0 16 rfl rfl)
theorem dX6_image_17 : decode cX6_image 17 = .ok (.iload_n 2, 1) := dk_28 (dk_at dksX6_image_0 17 rfl rfl)
theorem dX6_image_18 : decode cX6_image 18 = .ok (.sipush 5652, 3) := dk_17 22 20 (dk_at dksX6_image_0 18 rfl rfl)
theorem dX6_image_21 : decode cX6_image 21 = .ok (.if_icmp .ge 27, 3) := dk_162 0 27 (dk_at dksX6_image_0 21 rfl rfl)
theorem dX6_image_24 : decode cX6_image 24 = .ok (.aload_n 0, 1) := dk_42 (dk_at dksX6_image_1 0 rfl rfl)
theorem dX6_image_25 : decode cX6_image 25 = .ok (.getfield 31, 3) := dk_180 0 31 (dk_at dksX6_image_1 1 rfl rfl)
theorem dX6_image_28 : decode cX6_image 28 = .ok (.sipush 5652, 3) := dk_17 22 20 (dk_at dksX6_image_1 4 rfl rfl)
theorem dX6_image_31 : decode cX6_image 31 = .ok (.iload_n 1, 1) := dk_27 (dk_at dksX6_image_1 7 rfl rfl)
theorem dX6_image_32 : decode cX6_image 32 = .ok (.imul, 1) := dk_104 (dk_at dksX6_image_1 8 rfl rfl)
theorem dX6_image_33 : decode cX6_image 33 = .ok (.iload_n 2, 1) := dk_28 (dk_at dksX6_image_1 9 rfl rfl)
theorem dX6_image_34 : decode cX6_image 34 = .ok (.iadd, 1) := dk_96 (dk_at dksX6_image_1 10 rfl rfl)
theorem dX6_image_35 : decode cX6_image 35 = .ok (.aload_n 0, 1) := dk_42 (dk_at dksX6_image_1 11 rfl rfl)
theorem dX6_image_36 : decode cX6_image 36 = .ok (.getfield 28, 3) := dk_180 0 28 (dk_at dksX6_image_1 12 rfl rfl)
theorem dX6_image_39 : decode cX6_image 39 = .ok (.iload_n 2, 1) := dk_28 (dk_at dksX6_image_1 15 rfl rfl)
theorem dX6_image_40 : decode cX6_image 40 = .ok (.iaload, 1) := dk_46 (dk_at dksX6_image_1 16 rfl rfl)
theorem dX6_image_41 : decode cX6_image 41 = .ok (.iastore, 1) := dk_79 (dk_at dksX6_image_1 17 rfl rfl)
theorem dX6_image_42 : decode cX6_image 42 = .ok (.iinc 2 1, 3) := dk_132 2 1 (dk_at dksX6_image_1 18 rfl rfl)
theorem dX6_image_45 : decode cX6_image 45 = .ok (.goto (-28), 3) := dk_167 255 228 (dk_at dksX6_image_1 21 rfl rfl)
theorem dX6_image_48 : decode cX6_image 48 = .ok (.aload_n 0, 1) := dk_42 (dk_at dksX6_image_2 0 rfl rfl)
theorem dX6_image_49 : decode cX6_image 49 = .ok (.getfield 34, 3) := dk_180 0 34 (dk_at dksX6_image_2 1 rfl rfl)
theorem dX6_image_52 : decode cX6_image 52 = .ok (.iload_n 1, 1) := dk_27 (dk_at dksX6_image_2 4 rfl rfl)
theorem dX6_image_53 : decode cX6_image 53 = .ok (.iconst 1, 1) := dk_4 (dk_at dksX6_image_2 5 rfl rfl)
theorem dX6_image_54 : decode cX6_image 54 = .ok (.bastore, 1) := dk_84 (dk_at dksX6_image_2 6 rfl rfl)
theorem dX6_image_55 : decode cX6_image 55 = .ok (.aload_n 0, 1) := dk_42 (dk_at dksX6_image_2 7 rfl rfl)
theorem dX6_image_56 : decode cX6_image 56 = .ok (.iconst 0, 1) := dk_3 (dk_at dksX6_image_2 8 rfl rfl)
theorem dX6_image_57 : decode cX6_image 57 = .ok (.invokevirtual 14, 3) := dk_182 0 14 (dk_at dksX6_image_2 9 rfl rfl)
theorem dX6_image_60 : decode cX6_image 60 = .ok (.ireturn, 1) := dk_172 (dk_at dksX6_image_2 12 rfl rfl)
abbrev cX6_lies : ByteArray := prog_24_method_1_code
def yX6_lies : MethodName := ⟨RX6, "lies", "(III)Z"⟩
def dkwX6_lies_0 : List UInt8 := [26, 27, 161, 0, 12, 26, 28, 163, 0, 7, 4, 167, 0, 4, 3, 172]
abbrev dktX6_lies_0 : List UInt8 := dkwX6_lies_0 ++ []
theorem dksX6_lies_0 : cX6_lies.data.toList.drop 0 = dktX6_lies_0 := by decide +kernel
theorem dX6_lies_0 : decode cX6_lies 0 = .ok (.iload_n 0, 1) := dk_26 (dk_at dksX6_lies_0 0 rfl rfl)
theorem dX6_lies_1 : decode cX6_lies 1 = .ok (.iload_n 1, 1) := dk_27 (dk_at dksX6_lies_0 1 rfl rfl)
theorem dX6_lies_2 : decode cX6_lies 2 = .ok (.if_icmp .lt 12, 3) := dk_161 0 12 (dk_at dksX6_lies_0 2 rfl rfl)
theorem dX6_lies_5 : decode cX6_lies 5 = .ok (.iload_n 0, 1) := dk_26 (dk_at dksX6_lies_0 5 rfl rfl)
theorem dX6_lies_6 : decode cX6_lies 6 = .ok (.iload_n 2, 1) := dk_28 (dk_at dksX6_lies_0 6 rfl rfl)
theorem dX6_lies_7 : decode cX6_lies 7 = .ok (.if_icmp .gt 7, 3) := dk_163 0 7 (dk_at dksX6_lies_0 7 rfl rfl)
theorem dX6_lies_10 : decode cX6_lies 10 = .ok (.iconst 1, 1) := dk_4 (dk_at dksX6_lies_0 10 rfl rfl)
theorem dX6_lies_11 : decode cX6_lies 11 = .ok (.goto 4, 3) := dk_167 0 4 (dk_at dksX6_lies_0 11 rfl rfl)
theorem dX6_lies_14 : decode cX6_lies 14 = .ok (.iconst 0, 1) := dk_3 (dk_at dksX6_lies_0 14 rfl rfl)
theorem dX6_lies_15 : decode cX6_lies 15 = .ok (.ireturn, 1) := dk_172 (dk_at dksX6_lies_0 15 rfl rfl)
abbrev cX6_refuses : ByteArray := prog_24_method_5_code
def yX6_refuses : MethodName := ⟨RX6, "refuses", "(I)I"⟩
def dkwX6_refuses_0 : List UInt8 := [42, 27, 181, 0, 3, 42, 180, 0, 7, 27, 116, 92, 46, 4, 96, 79, 27, 172]
abbrev dktX6_refuses_0 : List UInt8 := dkwX6_refuses_0 ++ []
theorem dksX6_refuses_0 : cX6_refuses.data.toList.drop 0 = dktX6_refuses_0 := by decide +kernel
theorem dX6_refuses_0 : decode cX6_refuses 0 = .ok (.aload_n 0, 1) := dk_42 (dk_at dksX6_refuses_0 0 rfl rfl)
theorem dX6_refuses_1 : decode cX6_refuses 1 = .ok (.iload_n 1, 1) := dk_27 (dk_at dksX6_refuses_0 1 rfl rfl)
theorem dX6_refuses_2 : decode cX6_refuses 2 = .ok (.putfield 3, 3) := dk_181 0 3 (dk_at dksX6_refuses_0 2 rfl rfl)
theorem dX6_refuses_5 : decode cX6_refuses 5 = .ok (.aload_n 0, 1) := dk_42 (dk_at dksX6_refuses_0 5 rfl rfl)
theorem dX6_refuses_6 : decode cX6_refuses 6 = .ok (.getfield 7, 3) := dk_180 0 7 (dk_at dksX6_refuses_0 6 rfl rfl)
theorem dX6_refuses_9 : decode cX6_refuses 9 = .ok (.iload_n 1, 1) := dk_27 (dk_at dksX6_refuses_0 9 rfl rfl)
theorem dX6_refuses_10 : decode cX6_refuses 10 = .ok (.ineg, 1) := dk_116 (dk_at dksX6_refuses_0 10 rfl rfl)
theorem dX6_refuses_11 : decode cX6_refuses 11 = .ok (.dup2, 1) := dk_92 (dk_at dksX6_refuses_0 11 rfl rfl)
theorem dX6_refuses_12 : decode cX6_refuses 12 = .ok (.iaload, 1) := dk_46 (dk_at dksX6_refuses_0 12 rfl rfl)
theorem dX6_refuses_13 : decode cX6_refuses 13 = .ok (.iconst 1, 1) := dk_4 (dk_at dksX6_refuses_0 13 rfl rfl)
theorem dX6_refuses_14 : decode cX6_refuses 14 = .ok (.iadd, 1) := dk_96 (dk_at dksX6_refuses_0 14 rfl rfl)
theorem dX6_refuses_15 : decode cX6_refuses 15 = .ok (.iastore, 1) := dk_79 (dk_at dksX6_refuses_0 15 rfl rfl)
theorem dX6_refuses_16 : decode cX6_refuses 16 = .ok (.iload_n 1, 1) := dk_27 (dk_at dksX6_refuses_0 16 rfl rfl)
theorem dX6_refuses_17 : decode cX6_refuses 17 = .ok (.ireturn, 1) := dk_172 (dk_at dksX6_refuses_0 17 rfl rfl)
abbrev cX6_good : ByteArray := prog_24_method_6_code
def yX6_good : MethodName := ⟨RX6, "good", "(I)I"⟩
def dkwX6_good_0 : List UInt8 := [42, 3, 181, 0, 3, 27, 172]
abbrev dktX6_good_0 : List UInt8 := dkwX6_good_0 ++ []
theorem dksX6_good_0 : cX6_good.data.toList.drop 0 = dktX6_good_0 := by decide +kernel
theorem dX6_good_0 : decode cX6_good 0 = .ok (.aload_n 0, 1) := dk_42 (dk_at dksX6_good_0 0 rfl rfl)
theorem dX6_good_1 : decode cX6_good 1 = .ok (.iconst 0, 1) := dk_3 (dk_at dksX6_good_0 1 rfl rfl)
theorem dX6_good_2 : decode cX6_good 2 = .ok (.putfield 3, 3) := dk_181 0 3 (dk_at dksX6_good_0 2 rfl rfl)
theorem dX6_good_5 : decode cX6_good 5 = .ok (.iload_n 1, 1) := dk_27 (dk_at dksX6_good_0 5 rfl rfl)
theorem dX6_good_6 : decode cX6_good 6 = .ok (.ireturn, 1) := dk_172 (dk_at dksX6_good_0 6 rfl rfl)
abbrev cX6_back : ByteArray := prog_24_method_15_code
def yX6_back : MethodName := ⟨RX6, "back", "(I)I"⟩
def dkwX6_back_2 : List UInt8 := [180, 0, 31, 17, 22, 20, 27, 104, 28, 96, 46, 79, 132, 2, 1, 167, 255, 228, 42, 3, 182, 0, 109, 172]
abbrev dktX6_back_2 : List UInt8 := dkwX6_back_2 ++ []
def dkwX6_back_1 : List UInt8 := [42, 16, 254, 182, 0, 106, 172, 3, 61, 28, 17, 22, 20, 162, 0, 27, 42, 180, 0, 28, 28, 42]
abbrev dktX6_back_1 : List UInt8 := dkwX6_back_1 ++ dktX6_back_2
def dkwX6_back_0 : List UInt8 := [27, 3, 4, 184, 0, 18, 154, 0, 9, 42, 2, 182, 0, 106, 172, 42, 180, 0, 34, 27, 51, 154, 0, 10]
abbrev dktX6_back_0 : List UInt8 := dkwX6_back_0 ++ dktX6_back_1
theorem dksX6_back_0 : cX6_back.data.toList.drop 0 = dktX6_back_0 := by decide +kernel
theorem dksX6_back_1 : cX6_back.data.toList.drop 24 = dktX6_back_1 := dk_seg dksX6_back_0 24 rfl rfl
theorem dksX6_back_2 : cX6_back.data.toList.drop 46 = dktX6_back_2 := dk_seg dksX6_back_1 22 rfl rfl
theorem dX6_back_0 : decode cX6_back 0 = .ok (.iload_n 1, 1) := dk_27 (dk_at dksX6_back_0 0 rfl rfl)
theorem dX6_back_1 : decode cX6_back 1 = .ok (.iconst 0, 1) := dk_3 (dk_at dksX6_back_0 1 rfl rfl)
theorem dX6_back_2 : decode cX6_back 2 = .ok (.iconst 1, 1) := dk_4 (dk_at dksX6_back_0 2 rfl rfl)
theorem dX6_back_3 : decode cX6_back 3 = .ok (.invokestatic 18, 3) := dk_184 0 18 (dk_at dksX6_back_0 3 rfl rfl)
theorem dX6_back_6 : decode cX6_back 6 = .ok (.ifCond .ne 9, 3) := dk_154 0 9 (dk_at dksX6_back_0 6 rfl rfl)
theorem dX6_back_9 : decode cX6_back 9 = .ok (.aload_n 0, 1) := dk_42 (dk_at dksX6_back_0 9 rfl rfl)
theorem dX6_back_10 : decode cX6_back 10 = .ok (.iconst (-1), 1) := dk_2 (dk_at dksX6_back_0 10 rfl rfl)
theorem dX6_back_11 : decode cX6_back 11 = .ok (.invokevirtual 106, 3) := dk_182 0 106 (dk_at dksX6_back_0 11 rfl rfl)
theorem dX6_back_14 : decode cX6_back 14 = .ok (.ireturn, 1) := dk_172 (dk_at dksX6_back_0 14 rfl rfl)
theorem dX6_back_15 : decode cX6_back 15 = .ok (.aload_n 0, 1) := dk_42 (dk_at dksX6_back_0 15 rfl rfl)
theorem dX6_back_16 : decode cX6_back 16 = .ok (.getfield 34, 3) := dk_180 0 34 (dk_at dksX6_back_0 16 rfl rfl)
theorem dX6_back_19 : decode cX6_back 19 = .ok (.iload_n 1, 1) := dk_27 (dk_at dksX6_back_0 19 rfl rfl)
theorem dX6_back_20 : decode cX6_back 20 = .ok (.baload, 1) := dk_51 (dk_at dksX6_back_0 20 rfl rfl)
theorem dX6_back_21 : decode cX6_back 21 = .ok (.ifCond .ne 10, 3) := dk_154 0 10 (dk_at dksX6_back_0 21 rfl rfl)
theorem dX6_back_24 : decode cX6_back 24 = .ok (.aload_n 0, 1) := dk_42 (dk_at dksX6_back_1 0 rfl rfl)
theorem dX6_back_25 : decode cX6_back 25 = .ok (.bipush (-2), 2) := dk_16 254 (dk_at dksX6_back_1 1 rfl rfl)
theorem dX6_back_27 : decode cX6_back 27 = .ok (.invokevirtual 106, 3) := dk_182 0 106 (dk_at dksX6_back_1 3 rfl rfl)
theorem dX6_back_30 : decode cX6_back 30 = .ok (.ireturn, 1) := dk_172 (dk_at dksX6_back_1 6 rfl rfl)
theorem dX6_back_31 : decode cX6_back 31 = .ok (.iconst 0, 1) := dk_3 (dk_at dksX6_back_1 7 rfl rfl)
theorem dX6_back_32 : decode cX6_back 32 = .ok (.istore_n 2, 1) := dk_61 (dk_at dksX6_back_1 8 rfl rfl)
theorem dX6_back_33 : decode cX6_back 33 = .ok (.iload_n 2, 1) := dk_28 (dk_at dksX6_back_1 9 rfl rfl)
theorem dX6_back_34 : decode cX6_back 34 = .ok (.sipush 5652, 3) := dk_17 22 20 (dk_at dksX6_back_1 10 rfl rfl)
theorem dX6_back_37 : decode cX6_back 37 = .ok (.if_icmp .ge 27, 3) := dk_162 0 27 (dk_at dksX6_back_1 13 rfl rfl)
theorem dX6_back_40 : decode cX6_back 40 = .ok (.aload_n 0, 1) := dk_42 (dk_at dksX6_back_1 16 rfl rfl)
theorem dX6_back_41 : decode cX6_back 41 = .ok (.getfield 28, 3) := dk_180 0 28 (dk_at dksX6_back_1 17 rfl rfl)
theorem dX6_back_44 : decode cX6_back 44 = .ok (.iload_n 2, 1) := dk_28 (dk_at dksX6_back_1 20 rfl rfl)
theorem dX6_back_45 : decode cX6_back 45 = .ok (.aload_n 0, 1) := dk_42 (dk_at dksX6_back_1 21 rfl rfl)
theorem dX6_back_46 : decode cX6_back 46 = .ok (.getfield 31, 3) := dk_180 0 31 (dk_at dksX6_back_2 0 rfl rfl)
theorem dX6_back_49 : decode cX6_back 49 = .ok (.sipush 5652, 3) := dk_17 22 20 (dk_at dksX6_back_2 3 rfl rfl)
theorem dX6_back_52 : decode cX6_back 52 = .ok (.iload_n 1, 1) := dk_27 (dk_at dksX6_back_2 6 rfl rfl)
theorem dX6_back_53 : decode cX6_back 53 = .ok (.imul, 1) := dk_104 (dk_at dksX6_back_2 7 rfl rfl)
theorem dX6_back_54 : decode cX6_back 54 = .ok (.iload_n 2, 1) := dk_28 (dk_at dksX6_back_2 8 rfl rfl)
theorem dX6_back_55 : decode cX6_back 55 = .ok (.iadd, 1) := dk_96 (dk_at dksX6_back_2 9 rfl rfl)
theorem dX6_back_56 : decode cX6_back 56 = .ok (.iaload, 1) := dk_46 (dk_at dksX6_back_2 10 rfl rfl)
theorem dX6_back_57 : decode cX6_back 57 = .ok (.iastore, 1) := dk_79 (dk_at dksX6_back_2 11 rfl rfl)
theorem dX6_back_58 : decode cX6_back 58 = .ok (.iinc 2 1, 3) := dk_132 2 1 (dk_at dksX6_back_2 12 rfl rfl)
theorem dX6_back_61 : decode cX6_back 61 = .ok (.goto (-28), 3) := dk_167 255 228 (dk_at dksX6_back_2 15 rfl rfl)
theorem dX6_back_64 : decode cX6_back 64 = .ok (.aload_n 0, 1) := dk_42 (dk_at dksX6_back_2 18 rfl rfl)
theorem dX6_back_65 : decode cX6_back 65 = .ok (.iconst 0, 1) := dk_3 (dk_at dksX6_back_2 19 rfl rfl)
theorem dX6_back_66 : decode cX6_back 66 = .ok (.invokevirtual 109, 3) := dk_182 0 109 (dk_at dksX6_back_2 20 rfl rfl)
theorem dX6_back_69 : decode cX6_back 69 = .ok (.ireturn, 1) := dk_172 (dk_at dksX6_back_2 23 rfl rfl)
abbrev cX6_settled : ByteArray := prog_24_method_7_code
def yX6_settled : MethodName := ⟨RX6, "settled", "(I)I"⟩
def dkwX6_settled_0 : List UInt8 := [42, 3, 181, 0, 11, 42, 27, 182, 0, 14, 172]
abbrev dktX6_settled_0 : List UInt8 := dkwX6_settled_0 ++ []
theorem dksX6_settled_0 : cX6_settled.data.toList.drop 0 = dktX6_settled_0 := by decide +kernel
theorem dX6_settled_0 : decode cX6_settled 0 = .ok (.aload_n 0, 1) := dk_42 (dk_at dksX6_settled_0 0 rfl rfl)
theorem dX6_settled_1 : decode cX6_settled 1 = .ok (.iconst 0, 1) := dk_3 (dk_at dksX6_settled_0 1 rfl rfl)
theorem dX6_settled_2 : decode cX6_settled 2 = .ok (.putfield 11, 3) := dk_181 0 11 (dk_at dksX6_settled_0 2 rfl rfl)
theorem dX6_settled_5 : decode cX6_settled 5 = .ok (.aload_n 0, 1) := dk_42 (dk_at dksX6_settled_0 5 rfl rfl)
theorem dX6_settled_6 : decode cX6_settled 6 = .ok (.iload_n 1, 1) := dk_27 (dk_at dksX6_settled_0 6 rfl rfl)
theorem dX6_settled_7 : decode cX6_settled 7 = .ok (.invokevirtual 14, 3) := dk_182 0 14 (dk_at dksX6_settled_0 7 rfl rfl)
theorem dX6_settled_10 : decode cX6_settled 10 = .ok (.ireturn, 1) := dk_172 (dk_at dksX6_settled_0 10 rfl rfl)
abbrev cX6_note : ByteArray := prog_24_method_19_code
def yX6_note : MethodName := ⟨RX6, "note", "(II)I"⟩
def dkwX6_note_2 : List UInt8 := [100, 182, 0, 109, 172]
abbrev dktX6_note_2 : List UInt8 := dkwX6_note_2 ++ []
def dkwX6_note_1 : List UInt8 := [16, 12, 160, 0, 10, 42, 16, 251, 182, 0, 106, 172, 42, 27, 28, 182, 0, 120, 42, 42, 182, 0, 112, 4]
abbrev dktX6_note_1 : List UInt8 := dkwX6_note_1 ++ dktX6_note_2
def dkwX6_note_0 : List UInt8 := [27, 184, 0, 116, 153, 0, 10, 28, 184, 0, 116, 154, 0, 9, 42, 2, 182, 0, 106, 172, 42, 182, 0, 112]
abbrev dktX6_note_0 : List UInt8 := dkwX6_note_0 ++ dktX6_note_1
theorem dksX6_note_0 : cX6_note.data.toList.drop 0 = dktX6_note_0 := by decide +kernel
theorem dksX6_note_1 : cX6_note.data.toList.drop 24 = dktX6_note_1 := dk_seg dksX6_note_0 24 rfl rfl
theorem dksX6_note_2 : cX6_note.data.toList.drop 48 = dktX6_note_2 := dk_seg dksX6_note_1 24 rfl rfl
theorem dX6_note_0 : decode cX6_note 0 = .ok (.iload_n 1, 1) := dk_27 (dk_at dksX6_note_0 0 rfl rfl)
theorem dX6_note_1 : decode cX6_note 1 = .ok (.invokestatic 116, 3) := dk_184 0 116 (dk_at dksX6_note_0 1 rfl rfl)
theorem dX6_note_4 : decode cX6_note 4 = .ok (.ifCond .eq 10, 3) := dk_153 0 10 (dk_at dksX6_note_0 4 rfl rfl)
theorem dX6_note_7 : decode cX6_note 7 = .ok (.iload_n 2, 1) := dk_28 (dk_at dksX6_note_0 7 rfl rfl)
theorem dX6_note_8 : decode cX6_note 8 = .ok (.invokestatic 116, 3) := dk_184 0 116 (dk_at dksX6_note_0 8 rfl rfl)
theorem dX6_note_11 : decode cX6_note 11 = .ok (.ifCond .ne 9, 3) := dk_154 0 9 (dk_at dksX6_note_0 11 rfl rfl)
theorem dX6_note_14 : decode cX6_note 14 = .ok (.aload_n 0, 1) := dk_42 (dk_at dksX6_note_0 14 rfl rfl)
theorem dX6_note_15 : decode cX6_note 15 = .ok (.iconst (-1), 1) := dk_2 (dk_at dksX6_note_0 15 rfl rfl)
theorem dX6_note_16 : decode cX6_note 16 = .ok (.invokevirtual 106, 3) := dk_182 0 106 (dk_at dksX6_note_0 16 rfl rfl)
theorem dX6_note_19 : decode cX6_note 19 = .ok (.ireturn, 1) := dk_172 (dk_at dksX6_note_0 19 rfl rfl)
theorem dX6_note_20 : decode cX6_note 20 = .ok (.aload_n 0, 1) := dk_42 (dk_at dksX6_note_0 20 rfl rfl)
theorem dX6_note_21 : decode cX6_note 21 = .ok (.invokevirtual 112, 3) := dk_182 0 112 (dk_at dksX6_note_0 21 rfl rfl)
theorem dX6_note_24 : decode cX6_note 24 = .ok (.bipush 12, 2) := dk_16 12 (dk_at dksX6_note_1 0 rfl rfl)
theorem dX6_note_26 : decode cX6_note 26 = .ok (.if_icmp .ne 10, 3) := dk_160 0 10 (dk_at dksX6_note_1 2 rfl rfl)
theorem dX6_note_29 : decode cX6_note 29 = .ok (.aload_n 0, 1) := dk_42 (dk_at dksX6_note_1 5 rfl rfl)
theorem dX6_note_30 : decode cX6_note 30 = .ok (.bipush (-5), 2) := dk_16 251 (dk_at dksX6_note_1 6 rfl rfl)
theorem dX6_note_32 : decode cX6_note 32 = .ok (.invokevirtual 106, 3) := dk_182 0 106 (dk_at dksX6_note_1 8 rfl rfl)
theorem dX6_note_35 : decode cX6_note 35 = .ok (.ireturn, 1) := dk_172 (dk_at dksX6_note_1 11 rfl rfl)
theorem dX6_note_36 : decode cX6_note 36 = .ok (.aload_n 0, 1) := dk_42 (dk_at dksX6_note_1 12 rfl rfl)
theorem dX6_note_37 : decode cX6_note 37 = .ok (.iload_n 1, 1) := dk_27 (dk_at dksX6_note_1 13 rfl rfl)
theorem dX6_note_38 : decode cX6_note 38 = .ok (.iload_n 2, 1) := dk_28 (dk_at dksX6_note_1 14 rfl rfl)
theorem dX6_note_39 : decode cX6_note 39 = .ok (.invokevirtual 120, 3) := dk_182 0 120 (dk_at dksX6_note_1 15 rfl rfl)
theorem dX6_note_42 : decode cX6_note 42 = .ok (.aload_n 0, 1) := dk_42 (dk_at dksX6_note_1 18 rfl rfl)
theorem dX6_note_43 : decode cX6_note 43 = .ok (.aload_n 0, 1) := dk_42 (dk_at dksX6_note_1 19 rfl rfl)
theorem dX6_note_44 : decode cX6_note 44 = .ok (.invokevirtual 112, 3) := dk_182 0 112 (dk_at dksX6_note_1 20 rfl rfl)
theorem dX6_note_47 : decode cX6_note 47 = .ok (.iconst 1, 1) := dk_4 (dk_at dksX6_note_1 23 rfl rfl)
theorem dX6_note_48 : decode cX6_note 48 = .ok (.isub, 1) := dk_100 (dk_at dksX6_note_2 0 rfl rfl)
theorem dX6_note_49 : decode cX6_note 49 = .ok (.invokevirtual 109, 3) := dk_182 0 109 (dk_at dksX6_note_2 1 rfl rfl)
theorem dX6_note_52 : decode cX6_note 52 = .ok (.ireturn, 1) := dk_172 (dk_at dksX6_note_2 4 rfl rfl)
abbrev cX6_isPitch : ByteArray := prog_24_method_10_code
def yX6_isPitch : MethodName := ⟨RX6, "isPitch", "(I)Z"⟩
def dkwX6_isPitch_0 : List UInt8 := [26, 3, 16, 24, 184, 0, 18, 172]
abbrev dktX6_isPitch_0 : List UInt8 := dkwX6_isPitch_0 ++ []
theorem dksX6_isPitch_0 : cX6_isPitch.data.toList.drop 0 = dktX6_isPitch_0 := by decide +kernel
theorem dX6_isPitch_0 : decode cX6_isPitch 0 = .ok (.iload_n 0, 1) := dk_26 (dk_at dksX6_isPitch_0 0 rfl rfl)
theorem dX6_isPitch_1 : decode cX6_isPitch 1 = .ok (.iconst 0, 1) := dk_3 (dk_at dksX6_isPitch_0 1 rfl rfl)
theorem dX6_isPitch_2 : decode cX6_isPitch 2 = .ok (.bipush 24, 2) := dk_16 24 (dk_at dksX6_isPitch_0 2 rfl rfl)
theorem dX6_isPitch_4 : decode cX6_isPitch 4 = .ok (.invokestatic 18, 3) := dk_184 0 18 (dk_at dksX6_isPitch_0 4 rfl rfl)
theorem dX6_isPitch_7 : decode cX6_isPitch 7 = .ok (.ireturn, 1) := dk_172 (dk_at dksX6_isPitch_0 7 rfl rfl)
abbrev cX6_noteMany : ByteArray := prog_24_method_16_code
def yX6_noteMany : MethodName := ⟨RX6, "noteMany", "()I"⟩
def dkwX6_noteMany_0 : List UInt8 := [42, 180, 0, 28, 16, 41, 46, 172]
abbrev dktX6_noteMany_0 : List UInt8 := dkwX6_noteMany_0 ++ []
theorem dksX6_noteMany_0 : cX6_noteMany.data.toList.drop 0 = dktX6_noteMany_0 := by decide +kernel
theorem dX6_noteMany_0 : decode cX6_noteMany 0 = .ok (.aload_n 0, 1) := dk_42 (dk_at dksX6_noteMany_0 0 rfl rfl)
theorem dX6_noteMany_1 : decode cX6_noteMany 1 = .ok (.getfield 28, 3) := dk_180 0 28 (dk_at dksX6_noteMany_0 1 rfl rfl)
theorem dX6_noteMany_4 : decode cX6_noteMany 4 = .ok (.bipush 41, 2) := dk_16 41 (dk_at dksX6_noteMany_0 4 rfl rfl)
theorem dX6_noteMany_6 : decode cX6_noteMany 6 = .ok (.iaload, 1) := dk_46 (dk_at dksX6_noteMany_0 6 rfl rfl)
theorem dX6_noteMany_7 : decode cX6_noteMany 7 = .ok (.ireturn, 1) := dk_172 (dk_at dksX6_noteMany_0 7 rfl rfl)
abbrev cX6_adds : ByteArray := prog_24_method_18_code
def yX6_adds : MethodName := ⟨RX6, "adds", "(II)V"⟩
def dkwX6_adds_1 : List UInt8 := [79, 42, 180, 0, 28, 16, 41, 92, 46, 4, 96, 79, 177]
abbrev dktX6_adds_1 : List UInt8 := dkwX6_adds_1 ++ []
def dkwX6_adds_0 : List UInt8 := [42, 180, 0, 28, 16, 12, 42, 182, 0, 112, 96, 27, 79, 42, 180, 0, 28, 3, 42, 182, 0, 112, 96, 28]
abbrev dktX6_adds_0 : List UInt8 := dkwX6_adds_0 ++ dktX6_adds_1
theorem dksX6_adds_0 : cX6_adds.data.toList.drop 0 = dktX6_adds_0 := by decide +kernel
theorem dksX6_adds_1 : cX6_adds.data.toList.drop 24 = dktX6_adds_1 := dk_seg dksX6_adds_0 24 rfl rfl
theorem dX6_adds_0 : decode cX6_adds 0 = .ok (.aload_n 0, 1) := dk_42 (dk_at dksX6_adds_0 0 rfl rfl)
theorem dX6_adds_1 : decode cX6_adds 1 = .ok (.getfield 28, 3) := dk_180 0 28 (dk_at dksX6_adds_0 1 rfl rfl)
theorem dX6_adds_4 : decode cX6_adds 4 = .ok (.bipush 12, 2) := dk_16 12 (dk_at dksX6_adds_0 4 rfl rfl)
theorem dX6_adds_6 : decode cX6_adds 6 = .ok (.aload_n 0, 1) := dk_42 (dk_at dksX6_adds_0 6 rfl rfl)
theorem dX6_adds_7 : decode cX6_adds 7 = .ok (.invokevirtual 112, 3) := dk_182 0 112 (dk_at dksX6_adds_0 7 rfl rfl)
theorem dX6_adds_10 : decode cX6_adds 10 = .ok (.iadd, 1) := dk_96 (dk_at dksX6_adds_0 10 rfl rfl)
theorem dX6_adds_11 : decode cX6_adds 11 = .ok (.iload_n 1, 1) := dk_27 (dk_at dksX6_adds_0 11 rfl rfl)
theorem dX6_adds_12 : decode cX6_adds 12 = .ok (.iastore, 1) := dk_79 (dk_at dksX6_adds_0 12 rfl rfl)
theorem dX6_adds_13 : decode cX6_adds 13 = .ok (.aload_n 0, 1) := dk_42 (dk_at dksX6_adds_0 13 rfl rfl)
theorem dX6_adds_14 : decode cX6_adds 14 = .ok (.getfield 28, 3) := dk_180 0 28 (dk_at dksX6_adds_0 14 rfl rfl)
theorem dX6_adds_17 : decode cX6_adds 17 = .ok (.iconst 0, 1) := dk_3 (dk_at dksX6_adds_0 17 rfl rfl)
theorem dX6_adds_18 : decode cX6_adds 18 = .ok (.aload_n 0, 1) := dk_42 (dk_at dksX6_adds_0 18 rfl rfl)
theorem dX6_adds_19 : decode cX6_adds 19 = .ok (.invokevirtual 112, 3) := dk_182 0 112 (dk_at dksX6_adds_0 19 rfl rfl)
theorem dX6_adds_22 : decode cX6_adds 22 = .ok (.iadd, 1) := dk_96 (dk_at dksX6_adds_0 22 rfl rfl)
theorem dX6_adds_23 : decode cX6_adds 23 = .ok (.iload_n 2, 1) := dk_28 (dk_at dksX6_adds_0 23 rfl rfl)
theorem dX6_adds_24 : decode cX6_adds 24 = .ok (.iastore, 1) := dk_79 (dk_at dksX6_adds_1 0 rfl rfl)
theorem dX6_adds_25 : decode cX6_adds 25 = .ok (.aload_n 0, 1) := dk_42 (dk_at dksX6_adds_1 1 rfl rfl)
theorem dX6_adds_26 : decode cX6_adds 26 = .ok (.getfield 28, 3) := dk_180 0 28 (dk_at dksX6_adds_1 2 rfl rfl)
theorem dX6_adds_29 : decode cX6_adds 29 = .ok (.bipush 41, 2) := dk_16 41 (dk_at dksX6_adds_1 5 rfl rfl)
theorem dX6_adds_31 : decode cX6_adds 31 = .ok (.dup2, 1) := dk_92 (dk_at dksX6_adds_1 7 rfl rfl)
theorem dX6_adds_32 : decode cX6_adds 32 = .ok (.iaload, 1) := dk_46 (dk_at dksX6_adds_1 8 rfl rfl)
theorem dX6_adds_33 : decode cX6_adds 33 = .ok (.iconst 1, 1) := dk_4 (dk_at dksX6_adds_1 9 rfl rfl)
theorem dX6_adds_34 : decode cX6_adds 34 = .ok (.iadd, 1) := dk_96 (dk_at dksX6_adds_1 10 rfl rfl)
theorem dX6_adds_35 : decode cX6_adds 35 = .ok (.iastore, 1) := dk_79 (dk_at dksX6_adds_1 11 rfl rfl)
theorem dX6_adds_36 : decode cX6_adds 36 = .ok (.return_, 1) := dk_177 (dk_at dksX6_adds_1 12 rfl rfl)
abbrev cX6_of : ByteArray := prog_24_method_20_code
def yX6_of : MethodName := ⟨RX6, "of", "(II)I"⟩
def dkwX6_of_3 : List UInt8 := [42, 182, 0, 134, 172, 42, 182, 0, 137, 153, 0, 7, 4, 167, 0, 4, 3, 172, 2, 172]
abbrev dktX6_of_3 : List UInt8 := dkwX6_of_3 ++ []
def dkwX6_of_2 : List UInt8 := [42, 180, 0, 28, 16, 12, 27, 96, 46, 172, 42, 180, 0, 28, 3, 27, 96, 46, 172, 42, 182, 0, 131, 172]
abbrev dktX6_of_2 : List UInt8 := dkwX6_of_2 ++ dktX6_of_3
def dkwX6_of_1 : List UInt8 := [170, 0, 0, 0, 0, 0, 0, 78, 0, 0, 0, 0, 0, 0, 0, 4, 0, 0, 0, 36, 0, 0, 0, 46, 0, 0, 0, 55, 0, 0, 0, 60, 0, 0, 0, 65]
abbrev dktX6_of_1 : List UInt8 := dkwX6_of_1 ++ dktX6_of_2
def dkwX6_of_0 : List UInt8 := [42, 27, 182, 0, 124, 154, 0, 5, 2, 172, 42, 27, 182, 0, 127, 28]
abbrev dktX6_of_0 : List UInt8 := dkwX6_of_0 ++ dktX6_of_1
theorem dksX6_of_0 : cX6_of.data.toList.drop 0 = dktX6_of_0 := by decide +kernel
theorem dksX6_of_1 : cX6_of.data.toList.drop 16 = dktX6_of_1 := dk_seg dksX6_of_0 16 rfl rfl
theorem dksX6_of_2 : cX6_of.data.toList.drop 52 = dktX6_of_2 := dk_seg dksX6_of_1 36 rfl rfl
theorem dksX6_of_3 : cX6_of.data.toList.drop 76 = dktX6_of_3 := dk_seg dksX6_of_2 24 rfl rfl
theorem dX6_of_0 : decode cX6_of 0 = .ok (.aload_n 0, 1) := dk_42 (dk_at dksX6_of_0 0 rfl rfl)
theorem dX6_of_1 : decode cX6_of 1 = .ok (.iload_n 1, 1) := dk_27 (dk_at dksX6_of_0 1 rfl rfl)
theorem dX6_of_2 : decode cX6_of 2 = .ok (.invokevirtual 124, 3) := dk_182 0 124 (dk_at dksX6_of_0 2 rfl rfl)
theorem dX6_of_5 : decode cX6_of 5 = .ok (.ifCond .ne 5, 3) := dk_154 0 5 (dk_at dksX6_of_0 5 rfl rfl)
theorem dX6_of_8 : decode cX6_of 8 = .ok (.iconst (-1), 1) := dk_2 (dk_at dksX6_of_0 8 rfl rfl)
theorem dX6_of_9 : decode cX6_of 9 = .ok (.ireturn, 1) := dk_172 (dk_at dksX6_of_0 9 rfl rfl)
theorem dX6_of_10 : decode cX6_of 10 = .ok (.aload_n 0, 1) := dk_42 (dk_at dksX6_of_0 10 rfl rfl)
theorem dX6_of_11 : decode cX6_of 11 = .ok (.iload_n 1, 1) := dk_27 (dk_at dksX6_of_0 11 rfl rfl)
theorem dX6_of_12 : decode cX6_of 12 = .ok (.invokevirtual 127, 3) := dk_182 0 127 (dk_at dksX6_of_0 12 rfl rfl)
theorem dX6_of_15 : decode cX6_of 15 = .ok (.iload_n 2, 1) := dk_28 (dk_at dksX6_of_0 15 rfl rfl)
theorem dX6_of_16 : decode cX6_of 16 = .ok (.tableswitch 78 0 4 #[36, 46, 55, 60, 65], 36) := by decide +kernel
theorem dX6_of_52 : decode cX6_of 52 = .ok (.aload_n 0, 1) := dk_42 (dk_at dksX6_of_2 0 rfl rfl)
theorem dX6_of_53 : decode cX6_of 53 = .ok (.getfield 28, 3) := dk_180 0 28 (dk_at dksX6_of_2 1 rfl rfl)
theorem dX6_of_56 : decode cX6_of 56 = .ok (.bipush 12, 2) := dk_16 12 (dk_at dksX6_of_2 4 rfl rfl)
theorem dX6_of_58 : decode cX6_of 58 = .ok (.iload_n 1, 1) := dk_27 (dk_at dksX6_of_2 6 rfl rfl)
theorem dX6_of_59 : decode cX6_of 59 = .ok (.iadd, 1) := dk_96 (dk_at dksX6_of_2 7 rfl rfl)
theorem dX6_of_60 : decode cX6_of 60 = .ok (.iaload, 1) := dk_46 (dk_at dksX6_of_2 8 rfl rfl)
theorem dX6_of_61 : decode cX6_of 61 = .ok (.ireturn, 1) := dk_172 (dk_at dksX6_of_2 9 rfl rfl)
theorem dX6_of_62 : decode cX6_of 62 = .ok (.aload_n 0, 1) := dk_42 (dk_at dksX6_of_2 10 rfl rfl)
theorem dX6_of_63 : decode cX6_of 63 = .ok (.getfield 28, 3) := dk_180 0 28 (dk_at dksX6_of_2 11 rfl rfl)
theorem dX6_of_66 : decode cX6_of 66 = .ok (.iconst 0, 1) := dk_3 (dk_at dksX6_of_2 14 rfl rfl)
theorem dX6_of_67 : decode cX6_of 67 = .ok (.iload_n 1, 1) := dk_27 (dk_at dksX6_of_2 15 rfl rfl)
theorem dX6_of_68 : decode cX6_of 68 = .ok (.iadd, 1) := dk_96 (dk_at dksX6_of_2 16 rfl rfl)
theorem dX6_of_69 : decode cX6_of 69 = .ok (.iaload, 1) := dk_46 (dk_at dksX6_of_2 17 rfl rfl)
theorem dX6_of_70 : decode cX6_of 70 = .ok (.ireturn, 1) := dk_172 (dk_at dksX6_of_2 18 rfl rfl)
theorem dX6_of_71 : decode cX6_of 71 = .ok (.aload_n 0, 1) := dk_42 (dk_at dksX6_of_2 19 rfl rfl)
theorem dX6_of_72 : decode cX6_of 72 = .ok (.invokevirtual 131, 3) := dk_182 0 131 (dk_at dksX6_of_2 20 rfl rfl)
theorem dX6_of_75 : decode cX6_of 75 = .ok (.ireturn, 1) := dk_172 (dk_at dksX6_of_2 23 rfl rfl)
theorem dX6_of_76 : decode cX6_of 76 = .ok (.aload_n 0, 1) := dk_42 (dk_at dksX6_of_3 0 rfl rfl)
theorem dX6_of_77 : decode cX6_of 77 = .ok (.invokevirtual 134, 3) := dk_182 0 134 (dk_at dksX6_of_3 1 rfl rfl)
theorem dX6_of_80 : decode cX6_of 80 = .ok (.ireturn, 1) := dk_172 (dk_at dksX6_of_3 4 rfl rfl)
theorem dX6_of_81 : decode cX6_of 81 = .ok (.aload_n 0, 1) := dk_42 (dk_at dksX6_of_3 5 rfl rfl)
theorem dX6_of_82 : decode cX6_of 82 = .ok (.invokevirtual 137, 3) := dk_182 0 137 (dk_at dksX6_of_3 6 rfl rfl)
theorem dX6_of_85 : decode cX6_of 85 = .ok (.ifCond .eq 7, 3) := dk_153 0 7 (dk_at dksX6_of_3 9 rfl rfl)
theorem dX6_of_88 : decode cX6_of 88 = .ok (.iconst 1, 1) := dk_4 (dk_at dksX6_of_3 12 rfl rfl)
theorem dX6_of_89 : decode cX6_of 89 = .ok (.goto 4, 3) := dk_167 0 4 (dk_at dksX6_of_3 13 rfl rfl)
theorem dX6_of_92 : decode cX6_of 92 = .ok (.iconst 0, 1) := dk_3 (dk_at dksX6_of_3 16 rfl rfl)
theorem dX6_of_93 : decode cX6_of 93 = .ok (.ireturn, 1) := dk_172 (dk_at dksX6_of_3 17 rfl rfl)
theorem dX6_of_94 : decode cX6_of 94 = .ok (.iconst (-1), 1) := dk_2 (dk_at dksX6_of_3 18 rfl rfl)
theorem dX6_of_95 : decode cX6_of 95 = .ok (.ireturn, 1) := dk_172 (dk_at dksX6_of_3 19 rfl rfl)
abbrev cX6_isNote : ByteArray := prog_24_method_17_code
def yX6_isNote : MethodName := ⟨RX6, "isNote", "(I)Z"⟩
def dkwX6_isNote_0 : List UInt8 := [27, 3, 42, 182, 0, 112, 4, 100, 184, 0, 18, 172]
abbrev dktX6_isNote_0 : List UInt8 := dkwX6_isNote_0 ++ []
theorem dksX6_isNote_0 : cX6_isNote.data.toList.drop 0 = dktX6_isNote_0 := by decide +kernel
theorem dX6_isNote_0 : decode cX6_isNote 0 = .ok (.iload_n 1, 1) := dk_27 (dk_at dksX6_isNote_0 0 rfl rfl)
theorem dX6_isNote_1 : decode cX6_isNote 1 = .ok (.iconst 0, 1) := dk_3 (dk_at dksX6_isNote_0 1 rfl rfl)
theorem dX6_isNote_2 : decode cX6_isNote 2 = .ok (.aload_n 0, 1) := dk_42 (dk_at dksX6_isNote_0 2 rfl rfl)
theorem dX6_isNote_3 : decode cX6_isNote 3 = .ok (.invokevirtual 112, 3) := dk_182 0 112 (dk_at dksX6_isNote_0 3 rfl rfl)
theorem dX6_isNote_6 : decode cX6_isNote 6 = .ok (.iconst 1, 1) := dk_4 (dk_at dksX6_isNote_0 6 rfl rfl)
theorem dX6_isNote_7 : decode cX6_isNote 7 = .ok (.isub, 1) := dk_100 (dk_at dksX6_isNote_0 7 rfl rfl)
theorem dX6_isNote_8 : decode cX6_isNote 8 = .ok (.invokestatic 18, 3) := dk_184 0 18 (dk_at dksX6_isNote_0 8 rfl rfl)
theorem dX6_isNote_11 : decode cX6_isNote 11 = .ok (.ireturn, 1) := dk_172 (dk_at dksX6_isNote_0 11 rfl rfl)
abbrev cX6_takesNow : ByteArray := prog_24_method_70_code
def yX6_takesNow : MethodName := ⟨RX6, "takesNow", "(I)V"⟩
def dkwX6_takesNow_1 : List UInt8 := [180, 0, 28, 3, 27, 96, 4, 100, 46, 167, 0, 4, 3, 182, 1, 65, 177]
abbrev dktX6_takesNow_1 : List UInt8 := dkwX6_takesNow_1 ++ []
def dkwX6_takesNow_0 : List UInt8 := [42, 27, 42, 180, 0, 28, 3, 27, 96, 46, 27, 158, 0, 7, 4, 167, 0, 4, 3, 27, 158, 0, 16, 42]
abbrev dktX6_takesNow_0 : List UInt8 := dkwX6_takesNow_0 ++ dktX6_takesNow_1
theorem dksX6_takesNow_0 : cX6_takesNow.data.toList.drop 0 = dktX6_takesNow_0 := by decide +kernel
theorem dksX6_takesNow_1 : cX6_takesNow.data.toList.drop 24 = dktX6_takesNow_1 := dk_seg dksX6_takesNow_0 24 rfl rfl
theorem dX6_takesNow_0 : decode cX6_takesNow 0 = .ok (.aload_n 0, 1) := dk_42 (dk_at dksX6_takesNow_0 0 rfl rfl)
theorem dX6_takesNow_1 : decode cX6_takesNow 1 = .ok (.iload_n 1, 1) := dk_27 (dk_at dksX6_takesNow_0 1 rfl rfl)
theorem dX6_takesNow_2 : decode cX6_takesNow 2 = .ok (.aload_n 0, 1) := dk_42 (dk_at dksX6_takesNow_0 2 rfl rfl)
theorem dX6_takesNow_3 : decode cX6_takesNow 3 = .ok (.getfield 28, 3) := dk_180 0 28 (dk_at dksX6_takesNow_0 3 rfl rfl)
theorem dX6_takesNow_6 : decode cX6_takesNow 6 = .ok (.iconst 0, 1) := dk_3 (dk_at dksX6_takesNow_0 6 rfl rfl)
theorem dX6_takesNow_7 : decode cX6_takesNow 7 = .ok (.iload_n 1, 1) := dk_27 (dk_at dksX6_takesNow_0 7 rfl rfl)
theorem dX6_takesNow_8 : decode cX6_takesNow 8 = .ok (.iadd, 1) := dk_96 (dk_at dksX6_takesNow_0 8 rfl rfl)
theorem dX6_takesNow_9 : decode cX6_takesNow 9 = .ok (.iaload, 1) := dk_46 (dk_at dksX6_takesNow_0 9 rfl rfl)
theorem dX6_takesNow_10 : decode cX6_takesNow 10 = .ok (.iload_n 1, 1) := dk_27 (dk_at dksX6_takesNow_0 10 rfl rfl)
theorem dX6_takesNow_11 : decode cX6_takesNow 11 = .ok (.ifCond .le 7, 3) := dk_158 0 7 (dk_at dksX6_takesNow_0 11 rfl rfl)
theorem dX6_takesNow_14 : decode cX6_takesNow 14 = .ok (.iconst 1, 1) := dk_4 (dk_at dksX6_takesNow_0 14 rfl rfl)
theorem dX6_takesNow_15 : decode cX6_takesNow 15 = .ok (.goto 4, 3) := dk_167 0 4 (dk_at dksX6_takesNow_0 15 rfl rfl)
theorem dX6_takesNow_18 : decode cX6_takesNow 18 = .ok (.iconst 0, 1) := dk_3 (dk_at dksX6_takesNow_0 18 rfl rfl)
theorem dX6_takesNow_19 : decode cX6_takesNow 19 = .ok (.iload_n 1, 1) := dk_27 (dk_at dksX6_takesNow_0 19 rfl rfl)
theorem dX6_takesNow_20 : decode cX6_takesNow 20 = .ok (.ifCond .le 16, 3) := dk_158 0 16 (dk_at dksX6_takesNow_0 20 rfl rfl)
theorem dX6_takesNow_23 : decode cX6_takesNow 23 = .ok (.aload_n 0, 1) := dk_42 (dk_at dksX6_takesNow_0 23 rfl rfl)
theorem dX6_takesNow_24 : decode cX6_takesNow 24 = .ok (.getfield 28, 3) := dk_180 0 28 (dk_at dksX6_takesNow_1 0 rfl rfl)
theorem dX6_takesNow_27 : decode cX6_takesNow 27 = .ok (.iconst 0, 1) := dk_3 (dk_at dksX6_takesNow_1 3 rfl rfl)
theorem dX6_takesNow_28 : decode cX6_takesNow 28 = .ok (.iload_n 1, 1) := dk_27 (dk_at dksX6_takesNow_1 4 rfl rfl)
theorem dX6_takesNow_29 : decode cX6_takesNow 29 = .ok (.iadd, 1) := dk_96 (dk_at dksX6_takesNow_1 5 rfl rfl)
theorem dX6_takesNow_30 : decode cX6_takesNow 30 = .ok (.iconst 1, 1) := dk_4 (dk_at dksX6_takesNow_1 6 rfl rfl)
theorem dX6_takesNow_31 : decode cX6_takesNow 31 = .ok (.isub, 1) := dk_100 (dk_at dksX6_takesNow_1 7 rfl rfl)
theorem dX6_takesNow_32 : decode cX6_takesNow 32 = .ok (.iaload, 1) := dk_46 (dk_at dksX6_takesNow_1 8 rfl rfl)
theorem dX6_takesNow_33 : decode cX6_takesNow 33 = .ok (.goto 4, 3) := dk_167 0 4 (dk_at dksX6_takesNow_1 9 rfl rfl)
theorem dX6_takesNow_36 : decode cX6_takesNow 36 = .ok (.iconst 0, 1) := dk_3 (dk_at dksX6_takesNow_1 12 rfl rfl)
theorem dX6_takesNow_37 : decode cX6_takesNow 37 = .ok (.invokevirtual 321, 3) := dk_182 1 65 (dk_at dksX6_takesNow_1 13 rfl rfl)
theorem dX6_takesNow_40 : decode cX6_takesNow 40 = .ok (.return_, 1) := dk_177 (dk_at dksX6_takesNow_1 16 rfl rfl)
abbrev cX6_takesNote : ByteArray := prog_24_method_69_code
def yX6_takesNote : MethodName := ⟨RX6, "takesNote", "(IIZI)V"⟩
def dkwX6_takesNote_7 : List UInt8 := [180, 0, 63, 16, 9, 42, 180, 0, 28, 16, 24, 46, 79, 177]
abbrev dktX6_takesNote_7 : List UInt8 := dkwX6_takesNote_7 ++ []
def dkwX6_takesNote_6 : List UInt8 := [180, 0, 63, 16, 7, 28, 79, 42, 180, 0, 63, 16, 8, 42, 180, 0, 28, 16, 12, 27, 96, 46, 79, 42]
abbrev dktX6_takesNote_6 : List UInt8 := dkwX6_takesNote_6 ++ dktX6_takesNote_7
def dkwX6_takesNote_5 : List UInt8 := [160, 0, 7, 4, 167, 0, 4, 3, 79, 42, 180, 0, 63, 16, 6, 42, 180, 0, 28, 16, 38, 46, 79, 42]
abbrev dktX6_takesNote_5 : List UInt8 := dkwX6_takesNote_5 ++ dktX6_takesNote_6
def dkwX6_takesNote_4 : List UInt8 := [96, 4, 100, 46, 100, 167, 0, 4, 3, 79, 42, 180, 0, 63, 8, 27, 42, 182, 0, 112, 4, 100]
abbrev dktX6_takesNote_4 : List UInt8 := dkwX6_takesNote_4 ++ dktX6_takesNote_5
def dkwX6_takesNote_3 : List UInt8 := [180, 0, 63, 7, 29, 153, 0, 27, 42, 180, 0, 28, 16, 12, 27, 96, 46, 42, 180, 0, 28, 16, 12, 27]
abbrev dktX6_takesNote_3 : List UInt8 := dkwX6_takesNote_3 ++ dktX6_takesNote_4
def dkwX6_takesNote_2 : List UInt8 := [167, 0, 4, 3, 79, 42, 180, 0, 63, 6, 29, 153, 0, 10, 28, 21, 4, 100, 167, 0, 4, 3, 79, 42]
abbrev dktX6_takesNote_2 : List UInt8 := dkwX6_takesNote_2 ++ dktX6_takesNote_3
def dkwX6_takesNote_1 : List UInt8 := [42, 180, 0, 63, 5, 29, 153, 0, 20, 21, 4, 42, 180, 0, 28, 16, 12, 27, 96, 4, 100, 46, 100]
abbrev dktX6_takesNote_1 : List UInt8 := dkwX6_takesNote_1 ++ dktX6_takesNote_2
def dkwX6_takesNote_0 : List UInt8 := [42, 180, 0, 63, 3, 27, 79, 42, 180, 0, 63, 4, 28, 42, 180, 0, 28, 16, 12, 27, 96, 46, 100, 79]
abbrev dktX6_takesNote_0 : List UInt8 := dkwX6_takesNote_0 ++ dktX6_takesNote_1
theorem dksX6_takesNote_0 : cX6_takesNote.data.toList.drop 0 = dktX6_takesNote_0 := by decide +kernel
theorem dksX6_takesNote_1 : cX6_takesNote.data.toList.drop 24 = dktX6_takesNote_1 := dk_seg dksX6_takesNote_0 24 rfl rfl
theorem dksX6_takesNote_2 : cX6_takesNote.data.toList.drop 47 = dktX6_takesNote_2 := dk_seg dksX6_takesNote_1 23 rfl rfl
theorem dksX6_takesNote_3 : cX6_takesNote.data.toList.drop 71 = dktX6_takesNote_3 := dk_seg dksX6_takesNote_2 24 rfl rfl
theorem dksX6_takesNote_4 : cX6_takesNote.data.toList.drop 95 = dktX6_takesNote_4 := dk_seg dksX6_takesNote_3 24 rfl rfl
theorem dksX6_takesNote_5 : cX6_takesNote.data.toList.drop 117 = dktX6_takesNote_5 := dk_seg dksX6_takesNote_4 22 rfl rfl
theorem dksX6_takesNote_6 : cX6_takesNote.data.toList.drop 141 = dktX6_takesNote_6 := dk_seg dksX6_takesNote_5 24 rfl rfl
theorem dksX6_takesNote_7 : cX6_takesNote.data.toList.drop 165 = dktX6_takesNote_7 := dk_seg dksX6_takesNote_6 24 rfl rfl
theorem dX6_takesNote_0 : decode cX6_takesNote 0 = .ok (.aload_n 0, 1) := dk_42 (dk_at dksX6_takesNote_0 0 rfl rfl)
theorem dX6_takesNote_1 : decode cX6_takesNote 1 = .ok (.getfield 63, 3) := dk_180 0 63 (dk_at dksX6_takesNote_0 1 rfl rfl)
theorem dX6_takesNote_4 : decode cX6_takesNote 4 = .ok (.iconst 0, 1) := dk_3 (dk_at dksX6_takesNote_0 4 rfl rfl)
theorem dX6_takesNote_5 : decode cX6_takesNote 5 = .ok (.iload_n 1, 1) := dk_27 (dk_at dksX6_takesNote_0 5 rfl rfl)
theorem dX6_takesNote_6 : decode cX6_takesNote 6 = .ok (.iastore, 1) := dk_79 (dk_at dksX6_takesNote_0 6 rfl rfl)
theorem dX6_takesNote_7 : decode cX6_takesNote 7 = .ok (.aload_n 0, 1) := dk_42 (dk_at dksX6_takesNote_0 7 rfl rfl)
theorem dX6_takesNote_8 : decode cX6_takesNote 8 = .ok (.getfield 63, 3) := dk_180 0 63 (dk_at dksX6_takesNote_0 8 rfl rfl)
theorem dX6_takesNote_11 : decode cX6_takesNote 11 = .ok (.iconst 1, 1) := dk_4 (dk_at dksX6_takesNote_0 11 rfl rfl)
theorem dX6_takesNote_12 : decode cX6_takesNote 12 = .ok (.iload_n 2, 1) := dk_28 (dk_at dksX6_takesNote_0 12 rfl rfl)
theorem dX6_takesNote_13 : decode cX6_takesNote 13 = .ok (.aload_n 0, 1) := dk_42 (dk_at dksX6_takesNote_0 13 rfl rfl)
theorem dX6_takesNote_14 : decode cX6_takesNote 14 = .ok (.getfield 28, 3) := dk_180 0 28 (dk_at dksX6_takesNote_0 14 rfl rfl)
theorem dX6_takesNote_17 : decode cX6_takesNote 17 = .ok (.bipush 12, 2) := dk_16 12 (dk_at dksX6_takesNote_0 17 rfl rfl)
theorem dX6_takesNote_19 : decode cX6_takesNote 19 = .ok (.iload_n 1, 1) := dk_27 (dk_at dksX6_takesNote_0 19 rfl rfl)
theorem dX6_takesNote_20 : decode cX6_takesNote 20 = .ok (.iadd, 1) := dk_96 (dk_at dksX6_takesNote_0 20 rfl rfl)
theorem dX6_takesNote_21 : decode cX6_takesNote 21 = .ok (.iaload, 1) := dk_46 (dk_at dksX6_takesNote_0 21 rfl rfl)
theorem dX6_takesNote_22 : decode cX6_takesNote 22 = .ok (.isub, 1) := dk_100 (dk_at dksX6_takesNote_0 22 rfl rfl)
theorem dX6_takesNote_23 : decode cX6_takesNote 23 = .ok (.iastore, 1) := dk_79 (dk_at dksX6_takesNote_0 23 rfl rfl)
theorem dX6_takesNote_24 : decode cX6_takesNote 24 = .ok (.aload_n 0, 1) := dk_42 (dk_at dksX6_takesNote_1 0 rfl rfl)
theorem dX6_takesNote_25 : decode cX6_takesNote 25 = .ok (.getfield 63, 3) := dk_180 0 63 (dk_at dksX6_takesNote_1 1 rfl rfl)
theorem dX6_takesNote_28 : decode cX6_takesNote 28 = .ok (.iconst 2, 1) := dk_5 (dk_at dksX6_takesNote_1 4 rfl rfl)
theorem dX6_takesNote_29 : decode cX6_takesNote 29 = .ok (.iload_n 3, 1) := dk_29 (dk_at dksX6_takesNote_1 5 rfl rfl)
theorem dX6_takesNote_30 : decode cX6_takesNote 30 = .ok (.ifCond .eq 20, 3) := dk_153 0 20 (dk_at dksX6_takesNote_1 6 rfl rfl)
theorem dX6_takesNote_33 : decode cX6_takesNote 33 = .ok (.iload 4, 2) := dk_21 4 (dk_at dksX6_takesNote_1 9 rfl rfl)
theorem dX6_takesNote_35 : decode cX6_takesNote 35 = .ok (.aload_n 0, 1) := dk_42 (dk_at dksX6_takesNote_1 11 rfl rfl)
theorem dX6_takesNote_36 : decode cX6_takesNote 36 = .ok (.getfield 28, 3) := dk_180 0 28 (dk_at dksX6_takesNote_1 12 rfl rfl)
theorem dX6_takesNote_39 : decode cX6_takesNote 39 = .ok (.bipush 12, 2) := dk_16 12 (dk_at dksX6_takesNote_1 15 rfl rfl)
theorem dX6_takesNote_41 : decode cX6_takesNote 41 = .ok (.iload_n 1, 1) := dk_27 (dk_at dksX6_takesNote_1 17 rfl rfl)
theorem dX6_takesNote_42 : decode cX6_takesNote 42 = .ok (.iadd, 1) := dk_96 (dk_at dksX6_takesNote_1 18 rfl rfl)
theorem dX6_takesNote_43 : decode cX6_takesNote 43 = .ok (.iconst 1, 1) := dk_4 (dk_at dksX6_takesNote_1 19 rfl rfl)
theorem dX6_takesNote_44 : decode cX6_takesNote 44 = .ok (.isub, 1) := dk_100 (dk_at dksX6_takesNote_1 20 rfl rfl)
theorem dX6_takesNote_45 : decode cX6_takesNote 45 = .ok (.iaload, 1) := dk_46 (dk_at dksX6_takesNote_1 21 rfl rfl)
theorem dX6_takesNote_46 : decode cX6_takesNote 46 = .ok (.isub, 1) := dk_100 (dk_at dksX6_takesNote_1 22 rfl rfl)
theorem dX6_takesNote_47 : decode cX6_takesNote 47 = .ok (.goto 4, 3) := dk_167 0 4 (dk_at dksX6_takesNote_2 0 rfl rfl)
theorem dX6_takesNote_50 : decode cX6_takesNote 50 = .ok (.iconst 0, 1) := dk_3 (dk_at dksX6_takesNote_2 3 rfl rfl)
theorem dX6_takesNote_51 : decode cX6_takesNote 51 = .ok (.iastore, 1) := dk_79 (dk_at dksX6_takesNote_2 4 rfl rfl)
theorem dX6_takesNote_52 : decode cX6_takesNote 52 = .ok (.aload_n 0, 1) := dk_42 (dk_at dksX6_takesNote_2 5 rfl rfl)
theorem dX6_takesNote_53 : decode cX6_takesNote 53 = .ok (.getfield 63, 3) := dk_180 0 63 (dk_at dksX6_takesNote_2 6 rfl rfl)
theorem dX6_takesNote_56 : decode cX6_takesNote 56 = .ok (.iconst 3, 1) := dk_6 (dk_at dksX6_takesNote_2 9 rfl rfl)
theorem dX6_takesNote_57 : decode cX6_takesNote 57 = .ok (.iload_n 3, 1) := dk_29 (dk_at dksX6_takesNote_2 10 rfl rfl)
theorem dX6_takesNote_58 : decode cX6_takesNote 58 = .ok (.ifCond .eq 10, 3) := dk_153 0 10 (dk_at dksX6_takesNote_2 11 rfl rfl)
theorem dX6_takesNote_61 : decode cX6_takesNote 61 = .ok (.iload_n 2, 1) := dk_28 (dk_at dksX6_takesNote_2 14 rfl rfl)
theorem dX6_takesNote_62 : decode cX6_takesNote 62 = .ok (.iload 4, 2) := dk_21 4 (dk_at dksX6_takesNote_2 15 rfl rfl)
theorem dX6_takesNote_64 : decode cX6_takesNote 64 = .ok (.isub, 1) := dk_100 (dk_at dksX6_takesNote_2 17 rfl rfl)
theorem dX6_takesNote_65 : decode cX6_takesNote 65 = .ok (.goto 4, 3) := dk_167 0 4 (dk_at dksX6_takesNote_2 18 rfl rfl)
theorem dX6_takesNote_68 : decode cX6_takesNote 68 = .ok (.iconst 0, 1) := dk_3 (dk_at dksX6_takesNote_2 21 rfl rfl)
theorem dX6_takesNote_69 : decode cX6_takesNote 69 = .ok (.iastore, 1) := dk_79 (dk_at dksX6_takesNote_2 22 rfl rfl)
theorem dX6_takesNote_70 : decode cX6_takesNote 70 = .ok (.aload_n 0, 1) := dk_42 (dk_at dksX6_takesNote_2 23 rfl rfl)
theorem dX6_takesNote_71 : decode cX6_takesNote 71 = .ok (.getfield 63, 3) := dk_180 0 63 (dk_at dksX6_takesNote_3 0 rfl rfl)
theorem dX6_takesNote_74 : decode cX6_takesNote 74 = .ok (.iconst 4, 1) := dk_7 (dk_at dksX6_takesNote_3 3 rfl rfl)
theorem dX6_takesNote_75 : decode cX6_takesNote 75 = .ok (.iload_n 3, 1) := dk_29 (dk_at dksX6_takesNote_3 4 rfl rfl)
theorem dX6_takesNote_76 : decode cX6_takesNote 76 = .ok (.ifCond .eq 27, 3) := dk_153 0 27 (dk_at dksX6_takesNote_3 5 rfl rfl)
theorem dX6_takesNote_79 : decode cX6_takesNote 79 = .ok (.aload_n 0, 1) := dk_42 (dk_at dksX6_takesNote_3 8 rfl rfl)
theorem dX6_takesNote_80 : decode cX6_takesNote 80 = .ok (.getfield 28, 3) := dk_180 0 28 (dk_at dksX6_takesNote_3 9 rfl rfl)
theorem dX6_takesNote_83 : decode cX6_takesNote 83 = .ok (.bipush 12, 2) := dk_16 12 (dk_at dksX6_takesNote_3 12 rfl rfl)
theorem dX6_takesNote_85 : decode cX6_takesNote 85 = .ok (.iload_n 1, 1) := dk_27 (dk_at dksX6_takesNote_3 14 rfl rfl)
theorem dX6_takesNote_86 : decode cX6_takesNote 86 = .ok (.iadd, 1) := dk_96 (dk_at dksX6_takesNote_3 15 rfl rfl)
theorem dX6_takesNote_87 : decode cX6_takesNote 87 = .ok (.iaload, 1) := dk_46 (dk_at dksX6_takesNote_3 16 rfl rfl)
theorem dX6_takesNote_88 : decode cX6_takesNote 88 = .ok (.aload_n 0, 1) := dk_42 (dk_at dksX6_takesNote_3 17 rfl rfl)
theorem dX6_takesNote_89 : decode cX6_takesNote 89 = .ok (.getfield 28, 3) := dk_180 0 28 (dk_at dksX6_takesNote_3 18 rfl rfl)
theorem dX6_takesNote_92 : decode cX6_takesNote 92 = .ok (.bipush 12, 2) := dk_16 12 (dk_at dksX6_takesNote_3 21 rfl rfl)
theorem dX6_takesNote_94 : decode cX6_takesNote 94 = .ok (.iload_n 1, 1) := dk_27 (dk_at dksX6_takesNote_3 23 rfl rfl)
theorem dX6_takesNote_95 : decode cX6_takesNote 95 = .ok (.iadd, 1) := dk_96 (dk_at dksX6_takesNote_4 0 rfl rfl)
theorem dX6_takesNote_96 : decode cX6_takesNote 96 = .ok (.iconst 1, 1) := dk_4 (dk_at dksX6_takesNote_4 1 rfl rfl)
theorem dX6_takesNote_97 : decode cX6_takesNote 97 = .ok (.isub, 1) := dk_100 (dk_at dksX6_takesNote_4 2 rfl rfl)
theorem dX6_takesNote_98 : decode cX6_takesNote 98 = .ok (.iaload, 1) := dk_46 (dk_at dksX6_takesNote_4 3 rfl rfl)
theorem dX6_takesNote_99 : decode cX6_takesNote 99 = .ok (.isub, 1) := dk_100 (dk_at dksX6_takesNote_4 4 rfl rfl)
theorem dX6_takesNote_100 : decode cX6_takesNote 100 = .ok (.goto 4, 3) := dk_167 0 4 (dk_at dksX6_takesNote_4 5 rfl rfl)
theorem dX6_takesNote_103 : decode cX6_takesNote 103 = .ok (.iconst 0, 1) := dk_3 (dk_at dksX6_takesNote_4 8 rfl rfl)
theorem dX6_takesNote_104 : decode cX6_takesNote 104 = .ok (.iastore, 1) := dk_79 (dk_at dksX6_takesNote_4 9 rfl rfl)
theorem dX6_takesNote_105 : decode cX6_takesNote 105 = .ok (.aload_n 0, 1) := dk_42 (dk_at dksX6_takesNote_4 10 rfl rfl)
theorem dX6_takesNote_106 : decode cX6_takesNote 106 = .ok (.getfield 63, 3) := dk_180 0 63 (dk_at dksX6_takesNote_4 11 rfl rfl)
theorem dX6_takesNote_109 : decode cX6_takesNote 109 = .ok (.iconst 5, 1) := dk_8 (dk_at dksX6_takesNote_4 14 rfl rfl)
theorem dX6_takesNote_110 : decode cX6_takesNote 110 = .ok (.iload_n 1, 1) := dk_27 (dk_at dksX6_takesNote_4 15 rfl rfl)
theorem dX6_takesNote_111 : decode cX6_takesNote 111 = .ok (.aload_n 0, 1) := dk_42 (dk_at dksX6_takesNote_4 16 rfl rfl)
theorem dX6_takesNote_112 : decode cX6_takesNote 112 = .ok (.invokevirtual 112, 3) := dk_182 0 112 (dk_at dksX6_takesNote_4 17 rfl rfl)
theorem dX6_takesNote_115 : decode cX6_takesNote 115 = .ok (.iconst 1, 1) := dk_4 (dk_at dksX6_takesNote_4 20 rfl rfl)
theorem dX6_takesNote_116 : decode cX6_takesNote 116 = .ok (.isub, 1) := dk_100 (dk_at dksX6_takesNote_4 21 rfl rfl)
theorem dX6_takesNote_117 : decode cX6_takesNote 117 = .ok (.if_icmp .ne 7, 3) := dk_160 0 7 (dk_at dksX6_takesNote_5 0 rfl rfl)
theorem dX6_takesNote_120 : decode cX6_takesNote 120 = .ok (.iconst 1, 1) := dk_4 (dk_at dksX6_takesNote_5 3 rfl rfl)
theorem dX6_takesNote_121 : decode cX6_takesNote 121 = .ok (.goto 4, 3) := dk_167 0 4 (dk_at dksX6_takesNote_5 4 rfl rfl)
theorem dX6_takesNote_124 : decode cX6_takesNote 124 = .ok (.iconst 0, 1) := dk_3 (dk_at dksX6_takesNote_5 7 rfl rfl)
theorem dX6_takesNote_125 : decode cX6_takesNote 125 = .ok (.iastore, 1) := dk_79 (dk_at dksX6_takesNote_5 8 rfl rfl)
theorem dX6_takesNote_126 : decode cX6_takesNote 126 = .ok (.aload_n 0, 1) := dk_42 (dk_at dksX6_takesNote_5 9 rfl rfl)
theorem dX6_takesNote_127 : decode cX6_takesNote 127 = .ok (.getfield 63, 3) := dk_180 0 63 (dk_at dksX6_takesNote_5 10 rfl rfl)
theorem dX6_takesNote_130 : decode cX6_takesNote 130 = .ok (.bipush 6, 2) := dk_16 6 (dk_at dksX6_takesNote_5 13 rfl rfl)
theorem dX6_takesNote_132 : decode cX6_takesNote 132 = .ok (.aload_n 0, 1) := dk_42 (dk_at dksX6_takesNote_5 15 rfl rfl)
theorem dX6_takesNote_133 : decode cX6_takesNote 133 = .ok (.getfield 28, 3) := dk_180 0 28 (dk_at dksX6_takesNote_5 16 rfl rfl)
theorem dX6_takesNote_136 : decode cX6_takesNote 136 = .ok (.bipush 38, 2) := dk_16 38 (dk_at dksX6_takesNote_5 19 rfl rfl)
theorem dX6_takesNote_138 : decode cX6_takesNote 138 = .ok (.iaload, 1) := dk_46 (dk_at dksX6_takesNote_5 21 rfl rfl)
theorem dX6_takesNote_139 : decode cX6_takesNote 139 = .ok (.iastore, 1) := dk_79 (dk_at dksX6_takesNote_5 22 rfl rfl)
theorem dX6_takesNote_140 : decode cX6_takesNote 140 = .ok (.aload_n 0, 1) := dk_42 (dk_at dksX6_takesNote_5 23 rfl rfl)
theorem dX6_takesNote_141 : decode cX6_takesNote 141 = .ok (.getfield 63, 3) := dk_180 0 63 (dk_at dksX6_takesNote_6 0 rfl rfl)
theorem dX6_takesNote_144 : decode cX6_takesNote 144 = .ok (.bipush 7, 2) := dk_16 7 (dk_at dksX6_takesNote_6 3 rfl rfl)
theorem dX6_takesNote_146 : decode cX6_takesNote 146 = .ok (.iload_n 2, 1) := dk_28 (dk_at dksX6_takesNote_6 5 rfl rfl)
theorem dX6_takesNote_147 : decode cX6_takesNote 147 = .ok (.iastore, 1) := dk_79 (dk_at dksX6_takesNote_6 6 rfl rfl)
theorem dX6_takesNote_148 : decode cX6_takesNote 148 = .ok (.aload_n 0, 1) := dk_42 (dk_at dksX6_takesNote_6 7 rfl rfl)
theorem dX6_takesNote_149 : decode cX6_takesNote 149 = .ok (.getfield 63, 3) := dk_180 0 63 (dk_at dksX6_takesNote_6 8 rfl rfl)
theorem dX6_takesNote_152 : decode cX6_takesNote 152 = .ok (.bipush 8, 2) := dk_16 8 (dk_at dksX6_takesNote_6 11 rfl rfl)
theorem dX6_takesNote_154 : decode cX6_takesNote 154 = .ok (.aload_n 0, 1) := dk_42 (dk_at dksX6_takesNote_6 13 rfl rfl)
theorem dX6_takesNote_155 : decode cX6_takesNote 155 = .ok (.getfield 28, 3) := dk_180 0 28 (dk_at dksX6_takesNote_6 14 rfl rfl)
theorem dX6_takesNote_158 : decode cX6_takesNote 158 = .ok (.bipush 12, 2) := dk_16 12 (dk_at dksX6_takesNote_6 17 rfl rfl)
theorem dX6_takesNote_160 : decode cX6_takesNote 160 = .ok (.iload_n 1, 1) := dk_27 (dk_at dksX6_takesNote_6 19 rfl rfl)
theorem dX6_takesNote_161 : decode cX6_takesNote 161 = .ok (.iadd, 1) := dk_96 (dk_at dksX6_takesNote_6 20 rfl rfl)
theorem dX6_takesNote_162 : decode cX6_takesNote 162 = .ok (.iaload, 1) := dk_46 (dk_at dksX6_takesNote_6 21 rfl rfl)
theorem dX6_takesNote_163 : decode cX6_takesNote 163 = .ok (.iastore, 1) := dk_79 (dk_at dksX6_takesNote_6 22 rfl rfl)
theorem dX6_takesNote_164 : decode cX6_takesNote 164 = .ok (.aload_n 0, 1) := dk_42 (dk_at dksX6_takesNote_6 23 rfl rfl)
theorem dX6_takesNote_165 : decode cX6_takesNote 165 = .ok (.getfield 63, 3) := dk_180 0 63 (dk_at dksX6_takesNote_7 0 rfl rfl)
theorem dX6_takesNote_168 : decode cX6_takesNote 168 = .ok (.bipush 9, 2) := dk_16 9 (dk_at dksX6_takesNote_7 3 rfl rfl)
theorem dX6_takesNote_170 : decode cX6_takesNote 170 = .ok (.aload_n 0, 1) := dk_42 (dk_at dksX6_takesNote_7 5 rfl rfl)
theorem dX6_takesNote_171 : decode cX6_takesNote 171 = .ok (.getfield 28, 3) := dk_180 0 28 (dk_at dksX6_takesNote_7 6 rfl rfl)
theorem dX6_takesNote_174 : decode cX6_takesNote 174 = .ok (.bipush 24, 2) := dk_16 24 (dk_at dksX6_takesNote_7 9 rfl rfl)
theorem dX6_takesNote_176 : decode cX6_takesNote 176 = .ok (.iaload, 1) := dk_46 (dk_at dksX6_takesNote_7 11 rfl rfl)
theorem dX6_takesNote_177 : decode cX6_takesNote 177 = .ok (.iastore, 1) := dk_79 (dk_at dksX6_takesNote_7 12 rfl rfl)
theorem dX6_takesNote_178 : decode cX6_takesNote 178 = .ok (.return_, 1) := dk_177 (dk_at dksX6_takesNote_7 13 rfl rfl)
abbrev cX6_costsNow : ByteArray := prog_24_method_72_code
def yX6_costsNow : MethodName := ⟨RX6, "costsNow", "()I"⟩
def dkwX6_costsNow_0 : List UInt8 := [42, 4, 17, 3, 231, 42, 180, 0, 63, 6, 46, 184, 1, 69, 182, 1, 72, 172]
abbrev dktX6_costsNow_0 : List UInt8 := dkwX6_costsNow_0 ++ []
theorem dksX6_costsNow_0 : cX6_costsNow.data.toList.drop 0 = dktX6_costsNow_0 := by decide +kernel
theorem dX6_costsNow_0 : decode cX6_costsNow 0 = .ok (.aload_n 0, 1) := dk_42 (dk_at dksX6_costsNow_0 0 rfl rfl)
theorem dX6_costsNow_1 : decode cX6_costsNow 1 = .ok (.iconst 1, 1) := dk_4 (dk_at dksX6_costsNow_0 1 rfl rfl)
theorem dX6_costsNow_2 : decode cX6_costsNow 2 = .ok (.sipush 999, 3) := dk_17 3 231 (dk_at dksX6_costsNow_0 2 rfl rfl)
theorem dX6_costsNow_5 : decode cX6_costsNow 5 = .ok (.aload_n 0, 1) := dk_42 (dk_at dksX6_costsNow_0 5 rfl rfl)
theorem dX6_costsNow_6 : decode cX6_costsNow 6 = .ok (.getfield 63, 3) := dk_180 0 63 (dk_at dksX6_costsNow_0 6 rfl rfl)
theorem dX6_costsNow_9 : decode cX6_costsNow 9 = .ok (.iconst 3, 1) := dk_6 (dk_at dksX6_costsNow_0 9 rfl rfl)
theorem dX6_costsNow_10 : decode cX6_costsNow 10 = .ok (.iaload, 1) := dk_46 (dk_at dksX6_costsNow_0 10 rfl rfl)
theorem dX6_costsNow_11 : decode cX6_costsNow 11 = .ok (.invokestatic 325, 3) := dk_184 1 69 (dk_at dksX6_costsNow_0 11 rfl rfl)
theorem dX6_costsNow_14 : decode cX6_costsNow 14 = .ok (.invokevirtual 328, 3) := dk_182 1 72 (dk_at dksX6_costsNow_0 14 rfl rfl)
theorem dX6_costsNow_17 : decode cX6_costsNow 17 = .ok (.ireturn, 1) := dk_172 (dk_at dksX6_costsNow_0 17 rfl rfl)
abbrev cX6_bare : ByteArray := prog_24_method_4_code
def yX6_bare : MethodName := ⟨RX6, "bare", "(I)I"⟩
def dkwX6_bare_0 : List UInt8 := [26, 156, 0, 8, 26, 116, 167, 0, 4, 26, 172]
abbrev dktX6_bare_0 : List UInt8 := dkwX6_bare_0 ++ []
theorem dksX6_bare_0 : cX6_bare.data.toList.drop 0 = dktX6_bare_0 := by decide +kernel
theorem dX6_bare_0 : decode cX6_bare 0 = .ok (.iload_n 0, 1) := dk_26 (dk_at dksX6_bare_0 0 rfl rfl)
theorem dX6_bare_1 : decode cX6_bare 1 = .ok (.ifCond .ge 8, 3) := dk_156 0 8 (dk_at dksX6_bare_0 1 rfl rfl)
theorem dX6_bare_4 : decode cX6_bare 4 = .ok (.iload_n 0, 1) := dk_26 (dk_at dksX6_bare_0 4 rfl rfl)
theorem dX6_bare_5 : decode cX6_bare 5 = .ok (.ineg, 1) := dk_116 (dk_at dksX6_bare_0 5 rfl rfl)
theorem dX6_bare_6 : decode cX6_bare 6 = .ok (.goto 4, 3) := dk_167 0 4 (dk_at dksX6_bare_0 6 rfl rfl)
theorem dX6_bare_9 : decode cX6_bare 9 = .ok (.iload_n 0, 1) := dk_26 (dk_at dksX6_bare_0 9 rfl rfl)
theorem dX6_bare_10 : decode cX6_bare 10 = .ok (.ireturn, 1) := dk_172 (dk_at dksX6_bare_0 10 rfl rfl)
abbrev cX6_tells : ByteArray := prog_24_method_71_code
def yX6_tells : MethodName := ⟨RX6, "tells", "(III)I"⟩
def dkwX6_tells_9 : List UInt8 := [181, 1, 5, 167, 255, 108, 22, 4, 136, 172]
abbrev dktX6_tells_9 : List UInt8 := dkwX6_tells_9 ++ []
def dkwX6_tells_8 : List UInt8 := [28, 133, 148, 158, 0, 8, 28, 133, 167, 0, 5, 22, 7, 55, 4, 42, 89, 180, 1, 5, 4, 96]
abbrev dktX6_tells_8 : List UInt8 := dkwX6_tells_8 ++ dktX6_tells_9
def dkwX6_tells_7 : List UInt8 := [180, 1, 15, 154, 0, 36, 21, 9, 154, 0, 31, 22, 7, 9, 148, 156, 0, 7, 9, 167, 0, 18, 22, 7]
abbrev dktX6_tells_7 : List UInt8 := dkwX6_tells_7 ++ dktX6_tells_8
def dkwX6_tells_6 : List UInt8 := [153, 0, 7, 4, 167, 0, 4, 3, 54, 10, 21, 6, 27, 160, 0, 48, 21, 10, 153, 0, 43, 42]
abbrev dktX6_tells_6 : List UInt8 := dkwX6_tells_6 ++ dktX6_tells_7
def dkwX6_tells_5 : List UInt8 := [180, 1, 15, 54, 9, 42, 3, 181, 1, 15, 42, 7, 182, 1, 29, 153, 0, 11, 42, 4, 182, 1, 62]
abbrev dktX6_tells_5 : List UInt8 := dkwX6_tells_5 ++ dktX6_tells_6
def dkwX6_tells_4 : List UInt8 := [96, 181, 1, 5, 21, 6, 6, 160, 0, 7, 10, 167, 0, 8, 42, 4, 182, 1, 32, 55, 7, 42]
abbrev dktX6_tells_4 : List UInt8 := dkwX6_tells_4 ++ dktX6_tells_5
def dkwX6_tells_3 : List UInt8 := [162, 0, 143, 42, 42, 180, 1, 5, 182, 1, 8, 54, 6, 42, 3, 181, 1, 15, 42, 89, 180, 1, 5, 4]
abbrev dktX6_tells_3 : List UInt8 := dkwX6_tells_3 ++ dktX6_tells_4
def dkwX6_tells_2 : List UInt8 := [16, 45, 42, 180, 0, 28, 16, 44, 46, 96, 46, 96, 181, 1, 2, 42, 180, 1, 5, 42, 180, 1, 2]
abbrev dktX6_tells_2 : List UInt8 := dkwX6_tells_2 ++ dktX6_tells_3
def dkwX6_tells_1 : List UInt8 := [17, 1, 144, 42, 180, 0, 28, 16, 44, 46, 104, 181, 1, 5, 42, 42, 180, 1, 5, 42, 180, 0, 28]
abbrev dktX6_tells_1 : List UInt8 := dkwX6_tells_1 ++ dktX6_tells_2
def dkwX6_tells_0 : List UInt8 := [42, 180, 0, 28, 16, 44, 46, 2, 160, 0, 5, 29, 172, 42, 3, 181, 1, 35, 29, 133, 55, 4, 42]
abbrev dktX6_tells_0 : List UInt8 := dkwX6_tells_0 ++ dktX6_tells_1
theorem dksX6_tells_0 : cX6_tells.data.toList.drop 0 = dktX6_tells_0 := by decide +kernel
theorem dksX6_tells_1 : cX6_tells.data.toList.drop 23 = dktX6_tells_1 := dk_seg dksX6_tells_0 23 rfl rfl
theorem dksX6_tells_2 : cX6_tells.data.toList.drop 46 = dktX6_tells_2 := dk_seg dksX6_tells_1 23 rfl rfl
theorem dksX6_tells_3 : cX6_tells.data.toList.drop 69 = dktX6_tells_3 := dk_seg dksX6_tells_2 23 rfl rfl
theorem dksX6_tells_4 : cX6_tells.data.toList.drop 93 = dktX6_tells_4 := dk_seg dksX6_tells_3 24 rfl rfl
theorem dksX6_tells_5 : cX6_tells.data.toList.drop 115 = dktX6_tells_5 := dk_seg dksX6_tells_4 22 rfl rfl
theorem dksX6_tells_6 : cX6_tells.data.toList.drop 138 = dktX6_tells_6 := dk_seg dksX6_tells_5 23 rfl rfl
theorem dksX6_tells_7 : cX6_tells.data.toList.drop 160 = dktX6_tells_7 := dk_seg dksX6_tells_6 22 rfl rfl
theorem dksX6_tells_8 : cX6_tells.data.toList.drop 184 = dktX6_tells_8 := dk_seg dksX6_tells_7 24 rfl rfl
theorem dksX6_tells_9 : cX6_tells.data.toList.drop 206 = dktX6_tells_9 := dk_seg dksX6_tells_8 22 rfl rfl
theorem dX6_tells_0 : decode cX6_tells 0 = .ok (.aload_n 0, 1) := dk_42 (dk_at dksX6_tells_0 0 rfl rfl)
theorem dX6_tells_1 : decode cX6_tells 1 = .ok (.getfield 28, 3) := dk_180 0 28 (dk_at dksX6_tells_0 1 rfl rfl)
theorem dX6_tells_4 : decode cX6_tells 4 = .ok (.bipush 44, 2) := dk_16 44 (dk_at dksX6_tells_0 4 rfl rfl)
theorem dX6_tells_6 : decode cX6_tells 6 = .ok (.iaload, 1) := dk_46 (dk_at dksX6_tells_0 6 rfl rfl)
theorem dX6_tells_7 : decode cX6_tells 7 = .ok (.iconst (-1), 1) := dk_2 (dk_at dksX6_tells_0 7 rfl rfl)
theorem dX6_tells_8 : decode cX6_tells 8 = .ok (.if_icmp .ne 5, 3) := dk_160 0 5 (dk_at dksX6_tells_0 8 rfl rfl)
theorem dX6_tells_11 : decode cX6_tells 11 = .ok (.iload_n 3, 1) := dk_29 (dk_at dksX6_tells_0 11 rfl rfl)
theorem dX6_tells_12 : decode cX6_tells 12 = .ok (.ireturn, 1) := dk_172 (dk_at dksX6_tells_0 12 rfl rfl)
theorem dX6_tells_13 : decode cX6_tells 13 = .ok (.aload_n 0, 1) := dk_42 (dk_at dksX6_tells_0 13 rfl rfl)
theorem dX6_tells_14 : decode cX6_tells 14 = .ok (.iconst 0, 1) := dk_3 (dk_at dksX6_tells_0 14 rfl rfl)
theorem dX6_tells_15 : decode cX6_tells 15 = .ok (.putfield 291, 3) := dk_181 1 35 (dk_at dksX6_tells_0 15 rfl rfl)
theorem dX6_tells_18 : decode cX6_tells 18 = .ok (.iload_n 3, 1) := dk_29 (dk_at dksX6_tells_0 18 rfl rfl)
theorem dX6_tells_19 : decode cX6_tells 19 = .ok (.i2l, 1) := dk_133 (dk_at dksX6_tells_0 19 rfl rfl)
theorem dX6_tells_20 : decode cX6_tells 20 = .ok (.lstore 4, 2) := dk_55 4 (dk_at dksX6_tells_0 20 rfl rfl)
theorem dX6_tells_22 : decode cX6_tells 22 = .ok (.aload_n 0, 1) := dk_42 (dk_at dksX6_tells_0 22 rfl rfl)
theorem dX6_tells_23 : decode cX6_tells 23 = .ok (.sipush 400, 3) := dk_17 1 144 (dk_at dksX6_tells_1 0 rfl rfl)
theorem dX6_tells_26 : decode cX6_tells 26 = .ok (.aload_n 0, 1) := dk_42 (dk_at dksX6_tells_1 3 rfl rfl)
theorem dX6_tells_27 : decode cX6_tells 27 = .ok (.getfield 28, 3) := dk_180 0 28 (dk_at dksX6_tells_1 4 rfl rfl)
theorem dX6_tells_30 : decode cX6_tells 30 = .ok (.bipush 44, 2) := dk_16 44 (dk_at dksX6_tells_1 7 rfl rfl)
theorem dX6_tells_32 : decode cX6_tells 32 = .ok (.iaload, 1) := dk_46 (dk_at dksX6_tells_1 9 rfl rfl)
theorem dX6_tells_33 : decode cX6_tells 33 = .ok (.imul, 1) := dk_104 (dk_at dksX6_tells_1 10 rfl rfl)
theorem dX6_tells_34 : decode cX6_tells 34 = .ok (.putfield 261, 3) := dk_181 1 5 (dk_at dksX6_tells_1 11 rfl rfl)
theorem dX6_tells_37 : decode cX6_tells 37 = .ok (.aload_n 0, 1) := dk_42 (dk_at dksX6_tells_1 14 rfl rfl)
theorem dX6_tells_38 : decode cX6_tells 38 = .ok (.aload_n 0, 1) := dk_42 (dk_at dksX6_tells_1 15 rfl rfl)
theorem dX6_tells_39 : decode cX6_tells 39 = .ok (.getfield 261, 3) := dk_180 1 5 (dk_at dksX6_tells_1 16 rfl rfl)
theorem dX6_tells_42 : decode cX6_tells 42 = .ok (.aload_n 0, 1) := dk_42 (dk_at dksX6_tells_1 19 rfl rfl)
theorem dX6_tells_43 : decode cX6_tells 43 = .ok (.getfield 28, 3) := dk_180 0 28 (dk_at dksX6_tells_1 20 rfl rfl)
theorem dX6_tells_46 : decode cX6_tells 46 = .ok (.bipush 45, 2) := dk_16 45 (dk_at dksX6_tells_2 0 rfl rfl)
theorem dX6_tells_48 : decode cX6_tells 48 = .ok (.aload_n 0, 1) := dk_42 (dk_at dksX6_tells_2 2 rfl rfl)
theorem dX6_tells_49 : decode cX6_tells 49 = .ok (.getfield 28, 3) := dk_180 0 28 (dk_at dksX6_tells_2 3 rfl rfl)
theorem dX6_tells_52 : decode cX6_tells 52 = .ok (.bipush 44, 2) := dk_16 44 (dk_at dksX6_tells_2 6 rfl rfl)
theorem dX6_tells_54 : decode cX6_tells 54 = .ok (.iaload, 1) := dk_46 (dk_at dksX6_tells_2 8 rfl rfl)
theorem dX6_tells_55 : decode cX6_tells 55 = .ok (.iadd, 1) := dk_96 (dk_at dksX6_tells_2 9 rfl rfl)
theorem dX6_tells_56 : decode cX6_tells 56 = .ok (.iaload, 1) := dk_46 (dk_at dksX6_tells_2 10 rfl rfl)
theorem dX6_tells_57 : decode cX6_tells 57 = .ok (.iadd, 1) := dk_96 (dk_at dksX6_tells_2 11 rfl rfl)
theorem dX6_tells_58 : decode cX6_tells 58 = .ok (.putfield 258, 3) := dk_181 1 2 (dk_at dksX6_tells_2 12 rfl rfl)
theorem dX6_tells_61 : decode cX6_tells 61 = .ok (.aload_n 0, 1) := dk_42 (dk_at dksX6_tells_2 15 rfl rfl)
theorem dX6_tells_62 : decode cX6_tells 62 = .ok (.getfield 261, 3) := dk_180 1 5 (dk_at dksX6_tells_2 16 rfl rfl)
theorem dX6_tells_65 : decode cX6_tells 65 = .ok (.aload_n 0, 1) := dk_42 (dk_at dksX6_tells_2 19 rfl rfl)
theorem dX6_tells_66 : decode cX6_tells 66 = .ok (.getfield 258, 3) := dk_180 1 2 (dk_at dksX6_tells_2 20 rfl rfl)
theorem dX6_tells_69 : decode cX6_tells 69 = .ok (.if_icmp .ge 143, 3) := dk_162 0 143 (dk_at dksX6_tells_3 0 rfl rfl)
theorem dX6_tells_72 : decode cX6_tells 72 = .ok (.aload_n 0, 1) := dk_42 (dk_at dksX6_tells_3 3 rfl rfl)
theorem dX6_tells_73 : decode cX6_tells 73 = .ok (.aload_n 0, 1) := dk_42 (dk_at dksX6_tells_3 4 rfl rfl)
theorem dX6_tells_74 : decode cX6_tells 74 = .ok (.getfield 261, 3) := dk_180 1 5 (dk_at dksX6_tells_3 5 rfl rfl)
theorem dX6_tells_77 : decode cX6_tells 77 = .ok (.invokevirtual 264, 3) := dk_182 1 8 (dk_at dksX6_tells_3 8 rfl rfl)
theorem dX6_tells_80 : decode cX6_tells 80 = .ok (.istore 6, 2) := dk_54 6 (dk_at dksX6_tells_3 11 rfl rfl)
theorem dX6_tells_82 : decode cX6_tells 82 = .ok (.aload_n 0, 1) := dk_42 (dk_at dksX6_tells_3 13 rfl rfl)
theorem dX6_tells_83 : decode cX6_tells 83 = .ok (.iconst 0, 1) := dk_3 (dk_at dksX6_tells_3 14 rfl rfl)
theorem dX6_tells_84 : decode cX6_tells 84 = .ok (.putfield 271, 3) := dk_181 1 15 (dk_at dksX6_tells_3 15 rfl rfl)
theorem dX6_tells_87 : decode cX6_tells 87 = .ok (.aload_n 0, 1) := dk_42 (dk_at dksX6_tells_3 18 rfl rfl)
theorem dX6_tells_88 : decode cX6_tells 88 = .ok (.dup, 1) := dk_89 (dk_at dksX6_tells_3 19 rfl rfl)
theorem dX6_tells_89 : decode cX6_tells 89 = .ok (.getfield 261, 3) := dk_180 1 5 (dk_at dksX6_tells_3 20 rfl rfl)
theorem dX6_tells_92 : decode cX6_tells 92 = .ok (.iconst 1, 1) := dk_4 (dk_at dksX6_tells_3 23 rfl rfl)
theorem dX6_tells_93 : decode cX6_tells 93 = .ok (.iadd, 1) := dk_96 (dk_at dksX6_tells_4 0 rfl rfl)
theorem dX6_tells_94 : decode cX6_tells 94 = .ok (.putfield 261, 3) := dk_181 1 5 (dk_at dksX6_tells_4 1 rfl rfl)
theorem dX6_tells_97 : decode cX6_tells 97 = .ok (.iload 6, 2) := dk_21 6 (dk_at dksX6_tells_4 4 rfl rfl)
theorem dX6_tells_99 : decode cX6_tells 99 = .ok (.iconst 3, 1) := dk_6 (dk_at dksX6_tells_4 6 rfl rfl)
theorem dX6_tells_100 : decode cX6_tells 100 = .ok (.if_icmp .ne 7, 3) := dk_160 0 7 (dk_at dksX6_tells_4 7 rfl rfl)
theorem dX6_tells_103 : decode cX6_tells 103 = .ok (.lconst 1, 1) := dk_10 (dk_at dksX6_tells_4 10 rfl rfl)
theorem dX6_tells_104 : decode cX6_tells 104 = .ok (.goto 8, 3) := dk_167 0 8 (dk_at dksX6_tells_4 11 rfl rfl)
theorem dX6_tells_107 : decode cX6_tells 107 = .ok (.aload_n 0, 1) := dk_42 (dk_at dksX6_tells_4 14 rfl rfl)
theorem dX6_tells_108 : decode cX6_tells 108 = .ok (.iconst 1, 1) := dk_4 (dk_at dksX6_tells_4 15 rfl rfl)
theorem dX6_tells_109 : decode cX6_tells 109 = .ok (.invokevirtual 288, 3) := dk_182 1 32 (dk_at dksX6_tells_4 16 rfl rfl)
theorem dX6_tells_112 : decode cX6_tells 112 = .ok (.lstore 7, 2) := dk_55 7 (dk_at dksX6_tells_4 19 rfl rfl)
theorem dX6_tells_114 : decode cX6_tells 114 = .ok (.aload_n 0, 1) := dk_42 (dk_at dksX6_tells_4 21 rfl rfl)
theorem dX6_tells_115 : decode cX6_tells 115 = .ok (.getfield 271, 3) := dk_180 1 15 (dk_at dksX6_tells_5 0 rfl rfl)
theorem dX6_tells_118 : decode cX6_tells 118 = .ok (.istore 9, 2) := dk_54 9 (dk_at dksX6_tells_5 3 rfl rfl)
theorem dX6_tells_120 : decode cX6_tells 120 = .ok (.aload_n 0, 1) := dk_42 (dk_at dksX6_tells_5 5 rfl rfl)
theorem dX6_tells_121 : decode cX6_tells 121 = .ok (.iconst 0, 1) := dk_3 (dk_at dksX6_tells_5 6 rfl rfl)
theorem dX6_tells_122 : decode cX6_tells 122 = .ok (.putfield 271, 3) := dk_181 1 15 (dk_at dksX6_tells_5 7 rfl rfl)
theorem dX6_tells_125 : decode cX6_tells 125 = .ok (.aload_n 0, 1) := dk_42 (dk_at dksX6_tells_5 10 rfl rfl)
theorem dX6_tells_126 : decode cX6_tells 126 = .ok (.iconst 4, 1) := dk_7 (dk_at dksX6_tells_5 11 rfl rfl)
theorem dX6_tells_127 : decode cX6_tells 127 = .ok (.invokevirtual 285, 3) := dk_182 1 29 (dk_at dksX6_tells_5 12 rfl rfl)
theorem dX6_tells_130 : decode cX6_tells 130 = .ok (.ifCond .eq 11, 3) := dk_153 0 11 (dk_at dksX6_tells_5 15 rfl rfl)
theorem dX6_tells_133 : decode cX6_tells 133 = .ok (.aload_n 0, 1) := dk_42 (dk_at dksX6_tells_5 18 rfl rfl)
theorem dX6_tells_134 : decode cX6_tells 134 = .ok (.iconst 1, 1) := dk_4 (dk_at dksX6_tells_5 19 rfl rfl)
theorem dX6_tells_135 : decode cX6_tells 135 = .ok (.invokevirtual 318, 3) := dk_182 1 62 (dk_at dksX6_tells_5 20 rfl rfl)
theorem dX6_tells_138 : decode cX6_tells 138 = .ok (.ifCond .eq 7, 3) := dk_153 0 7 (dk_at dksX6_tells_6 0 rfl rfl)
theorem dX6_tells_141 : decode cX6_tells 141 = .ok (.iconst 1, 1) := dk_4 (dk_at dksX6_tells_6 3 rfl rfl)
theorem dX6_tells_142 : decode cX6_tells 142 = .ok (.goto 4, 3) := dk_167 0 4 (dk_at dksX6_tells_6 4 rfl rfl)
theorem dX6_tells_145 : decode cX6_tells 145 = .ok (.iconst 0, 1) := dk_3 (dk_at dksX6_tells_6 7 rfl rfl)
theorem dX6_tells_146 : decode cX6_tells 146 = .ok (.istore 10, 2) := dk_54 10 (dk_at dksX6_tells_6 8 rfl rfl)
theorem dX6_tells_148 : decode cX6_tells 148 = .ok (.iload 6, 2) := dk_21 6 (dk_at dksX6_tells_6 10 rfl rfl)
theorem dX6_tells_150 : decode cX6_tells 150 = .ok (.iload_n 1, 1) := dk_27 (dk_at dksX6_tells_6 12 rfl rfl)
theorem dX6_tells_151 : decode cX6_tells 151 = .ok (.if_icmp .ne 48, 3) := dk_160 0 48 (dk_at dksX6_tells_6 13 rfl rfl)
theorem dX6_tells_154 : decode cX6_tells 154 = .ok (.iload 10, 2) := dk_21 10 (dk_at dksX6_tells_6 16 rfl rfl)
theorem dX6_tells_156 : decode cX6_tells 156 = .ok (.ifCond .eq 43, 3) := dk_153 0 43 (dk_at dksX6_tells_6 18 rfl rfl)
theorem dX6_tells_159 : decode cX6_tells 159 = .ok (.aload_n 0, 1) := dk_42 (dk_at dksX6_tells_6 21 rfl rfl)
theorem dX6_tells_160 : decode cX6_tells 160 = .ok (.getfield 271, 3) := dk_180 1 15 (dk_at dksX6_tells_7 0 rfl rfl)
theorem dX6_tells_163 : decode cX6_tells 163 = .ok (.ifCond .ne 36, 3) := dk_154 0 36 (dk_at dksX6_tells_7 3 rfl rfl)
theorem dX6_tells_166 : decode cX6_tells 166 = .ok (.iload 9, 2) := dk_21 9 (dk_at dksX6_tells_7 6 rfl rfl)
theorem dX6_tells_168 : decode cX6_tells 168 = .ok (.ifCond .ne 31, 3) := dk_154 0 31 (dk_at dksX6_tells_7 8 rfl rfl)
theorem dX6_tells_171 : decode cX6_tells 171 = .ok (.lload 7, 2) := dk_22 7 (dk_at dksX6_tells_7 11 rfl rfl)
theorem dX6_tells_173 : decode cX6_tells 173 = .ok (.lconst 0, 1) := dk_9 (dk_at dksX6_tells_7 13 rfl rfl)
theorem dX6_tells_174 : decode cX6_tells 174 = .ok (.lcmp, 1) := dk_148 (dk_at dksX6_tells_7 14 rfl rfl)
theorem dX6_tells_175 : decode cX6_tells 175 = .ok (.ifCond .ge 7, 3) := dk_156 0 7 (dk_at dksX6_tells_7 15 rfl rfl)
theorem dX6_tells_178 : decode cX6_tells 178 = .ok (.lconst 0, 1) := dk_9 (dk_at dksX6_tells_7 18 rfl rfl)
theorem dX6_tells_179 : decode cX6_tells 179 = .ok (.goto 18, 3) := dk_167 0 18 (dk_at dksX6_tells_7 19 rfl rfl)
theorem dX6_tells_182 : decode cX6_tells 182 = .ok (.lload 7, 2) := dk_22 7 (dk_at dksX6_tells_7 22 rfl rfl)
theorem dX6_tells_184 : decode cX6_tells 184 = .ok (.iload_n 2, 1) := dk_28 (dk_at dksX6_tells_8 0 rfl rfl)
theorem dX6_tells_185 : decode cX6_tells 185 = .ok (.i2l, 1) := dk_133 (dk_at dksX6_tells_8 1 rfl rfl)
theorem dX6_tells_186 : decode cX6_tells 186 = .ok (.lcmp, 1) := dk_148 (dk_at dksX6_tells_8 2 rfl rfl)
theorem dX6_tells_187 : decode cX6_tells 187 = .ok (.ifCond .le 8, 3) := dk_158 0 8 (dk_at dksX6_tells_8 3 rfl rfl)
theorem dX6_tells_190 : decode cX6_tells 190 = .ok (.iload_n 2, 1) := dk_28 (dk_at dksX6_tells_8 6 rfl rfl)
theorem dX6_tells_191 : decode cX6_tells 191 = .ok (.i2l, 1) := dk_133 (dk_at dksX6_tells_8 7 rfl rfl)
theorem dX6_tells_192 : decode cX6_tells 192 = .ok (.goto 5, 3) := dk_167 0 5 (dk_at dksX6_tells_8 8 rfl rfl)
theorem dX6_tells_195 : decode cX6_tells 195 = .ok (.lload 7, 2) := dk_22 7 (dk_at dksX6_tells_8 11 rfl rfl)
theorem dX6_tells_197 : decode cX6_tells 197 = .ok (.lstore 4, 2) := dk_55 4 (dk_at dksX6_tells_8 13 rfl rfl)
theorem dX6_tells_199 : decode cX6_tells 199 = .ok (.aload_n 0, 1) := dk_42 (dk_at dksX6_tells_8 15 rfl rfl)
theorem dX6_tells_200 : decode cX6_tells 200 = .ok (.dup, 1) := dk_89 (dk_at dksX6_tells_8 16 rfl rfl)
theorem dX6_tells_201 : decode cX6_tells 201 = .ok (.getfield 261, 3) := dk_180 1 5 (dk_at dksX6_tells_8 17 rfl rfl)
theorem dX6_tells_204 : decode cX6_tells 204 = .ok (.iconst 1, 1) := dk_4 (dk_at dksX6_tells_8 20 rfl rfl)
theorem dX6_tells_205 : decode cX6_tells 205 = .ok (.iadd, 1) := dk_96 (dk_at dksX6_tells_8 21 rfl rfl)
theorem dX6_tells_206 : decode cX6_tells 206 = .ok (.putfield 261, 3) := dk_181 1 5 (dk_at dksX6_tells_9 0 rfl rfl)
theorem dX6_tells_209 : decode cX6_tells 209 = .ok (.goto (-148), 3) := dk_167 255 108 (dk_at dksX6_tells_9 3 rfl rfl)
theorem dX6_tells_212 : decode cX6_tells 212 = .ok (.lload 4, 2) := dk_22 4 (dk_at dksX6_tells_9 6 rfl rfl)
theorem dX6_tells_214 : decode cX6_tells 214 = .ok (.l2i, 1) := dk_136 (dk_at dksX6_tells_9 8 rfl rfl)
theorem dX6_tells_215 : decode cX6_tells 215 = .ok (.ireturn, 1) := dk_172 (dk_at dksX6_tells_9 9 rfl rfl)
abbrev cX6_codeAt : ByteArray := prog_24_method_58_code
def yX6_codeAt : MethodName := ⟨RX6, "codeAt", "(I)I"⟩
def dkwX6_codeAt_0 : List UInt8 := [27, 42, 180, 1, 2, 162, 0, 15, 42, 180, 0, 28, 16, 52, 27, 96, 46, 167, 0, 4, 3, 172]
abbrev dktX6_codeAt_0 : List UInt8 := dkwX6_codeAt_0 ++ []
theorem dksX6_codeAt_0 : cX6_codeAt.data.toList.drop 0 = dktX6_codeAt_0 := by decide +kernel
theorem dX6_codeAt_0 : decode cX6_codeAt 0 = .ok (.iload_n 1, 1) := dk_27 (dk_at dksX6_codeAt_0 0 rfl rfl)
theorem dX6_codeAt_1 : decode cX6_codeAt 1 = .ok (.aload_n 0, 1) := dk_42 (dk_at dksX6_codeAt_0 1 rfl rfl)
theorem dX6_codeAt_2 : decode cX6_codeAt 2 = .ok (.getfield 258, 3) := dk_180 1 2 (dk_at dksX6_codeAt_0 2 rfl rfl)
theorem dX6_codeAt_5 : decode cX6_codeAt 5 = .ok (.if_icmp .ge 15, 3) := dk_162 0 15 (dk_at dksX6_codeAt_0 5 rfl rfl)
theorem dX6_codeAt_8 : decode cX6_codeAt 8 = .ok (.aload_n 0, 1) := dk_42 (dk_at dksX6_codeAt_0 8 rfl rfl)
theorem dX6_codeAt_9 : decode cX6_codeAt 9 = .ok (.getfield 28, 3) := dk_180 0 28 (dk_at dksX6_codeAt_0 9 rfl rfl)
theorem dX6_codeAt_12 : decode cX6_codeAt 12 = .ok (.bipush 52, 2) := dk_16 52 (dk_at dksX6_codeAt_0 12 rfl rfl)
theorem dX6_codeAt_14 : decode cX6_codeAt 14 = .ok (.iload_n 1, 1) := dk_27 (dk_at dksX6_codeAt_0 14 rfl rfl)
theorem dX6_codeAt_15 : decode cX6_codeAt 15 = .ok (.iadd, 1) := dk_96 (dk_at dksX6_codeAt_0 15 rfl rfl)
theorem dX6_codeAt_16 : decode cX6_codeAt 16 = .ok (.iaload, 1) := dk_46 (dk_at dksX6_codeAt_0 16 rfl rfl)
theorem dX6_codeAt_17 : decode cX6_codeAt 17 = .ok (.goto 4, 3) := dk_167 0 4 (dk_at dksX6_codeAt_0 17 rfl rfl)
theorem dX6_codeAt_20 : decode cX6_codeAt 20 = .ok (.iconst 0, 1) := dk_3 (dk_at dksX6_codeAt_0 20 rfl rfl)
theorem dX6_codeAt_21 : decode cX6_codeAt 21 = .ok (.ireturn, 1) := dk_172 (dk_at dksX6_codeAt_0 21 rfl rfl)
abbrev cX6_sumOf : ByteArray := prog_24_method_61_code
def yX6_sumOf : MethodName := ⟨RX6, "sumOf", "(Z)J"⟩
def dkwX6_sumOf_4 : List UInt8 := [182, 1, 22, 65, 167, 255, 162, 32, 173]
abbrev dktX6_sumOf_4 : List UInt8 := dkwX6_sumOf_4 ++ []
def dkwX6_sumOf_3 : List UInt8 := [27, 182, 1, 18, 55, 5, 42, 21, 4, 153, 0, 10, 32, 22, 5, 97, 167, 0, 7, 32, 22, 5, 101, 27]
abbrev dktX6_sumOf_3 : List UInt8 := dkwX6_sumOf_3 ++ dktX6_sumOf_4
def dkwX6_sumOf_2 : List UInt8 := [184, 0, 220, 160, 0, 7, 4, 167, 0, 4, 3, 54, 4, 42, 89, 180, 1, 5, 4, 96, 181, 1, 5, 42]
abbrev dktX6_sumOf_2 : List UInt8 := dkwX6_sumOf_2 ++ dktX6_sumOf_3
def dkwX6_sumOf_1 : List UInt8 := [180, 1, 5, 182, 1, 8, 16, 45, 184, 0, 220, 160, 0, 68, 42, 42, 180, 1, 5, 182, 1, 8, 16, 43]
abbrev dktX6_sumOf_1 : List UInt8 := dkwX6_sumOf_1 ++ dktX6_sumOf_2
def dkwX6_sumOf_0 : List UInt8 := [42, 27, 182, 1, 18, 65, 42, 42, 180, 1, 5, 182, 1, 8, 16, 43, 184, 0, 220, 159, 0, 19, 42, 42]
abbrev dktX6_sumOf_0 : List UInt8 := dkwX6_sumOf_0 ++ dktX6_sumOf_1
theorem dksX6_sumOf_0 : cX6_sumOf.data.toList.drop 0 = dktX6_sumOf_0 := by decide +kernel
theorem dksX6_sumOf_1 : cX6_sumOf.data.toList.drop 24 = dktX6_sumOf_1 := dk_seg dksX6_sumOf_0 24 rfl rfl
theorem dksX6_sumOf_2 : cX6_sumOf.data.toList.drop 48 = dktX6_sumOf_2 := dk_seg dksX6_sumOf_1 24 rfl rfl
theorem dksX6_sumOf_3 : cX6_sumOf.data.toList.drop 72 = dktX6_sumOf_3 := dk_seg dksX6_sumOf_2 24 rfl rfl
theorem dksX6_sumOf_4 : cX6_sumOf.data.toList.drop 96 = dktX6_sumOf_4 := dk_seg dksX6_sumOf_3 24 rfl rfl
theorem dX6_sumOf_0 : decode cX6_sumOf 0 = .ok (.aload_n 0, 1) := dk_42 (dk_at dksX6_sumOf_0 0 rfl rfl)
theorem dX6_sumOf_1 : decode cX6_sumOf 1 = .ok (.iload_n 1, 1) := dk_27 (dk_at dksX6_sumOf_0 1 rfl rfl)
theorem dX6_sumOf_2 : decode cX6_sumOf 2 = .ok (.invokevirtual 274, 3) := dk_182 1 18 (dk_at dksX6_sumOf_0 2 rfl rfl)
theorem dX6_sumOf_5 : decode cX6_sumOf 5 = .ok (.lstore_n 2, 1) := dk_65 (dk_at dksX6_sumOf_0 5 rfl rfl)
theorem dX6_sumOf_6 : decode cX6_sumOf 6 = .ok (.aload_n 0, 1) := dk_42 (dk_at dksX6_sumOf_0 6 rfl rfl)
theorem dX6_sumOf_7 : decode cX6_sumOf 7 = .ok (.aload_n 0, 1) := dk_42 (dk_at dksX6_sumOf_0 7 rfl rfl)
theorem dX6_sumOf_8 : decode cX6_sumOf 8 = .ok (.getfield 261, 3) := dk_180 1 5 (dk_at dksX6_sumOf_0 8 rfl rfl)
theorem dX6_sumOf_11 : decode cX6_sumOf 11 = .ok (.invokevirtual 264, 3) := dk_182 1 8 (dk_at dksX6_sumOf_0 11 rfl rfl)
theorem dX6_sumOf_14 : decode cX6_sumOf 14 = .ok (.bipush 43, 2) := dk_16 43 (dk_at dksX6_sumOf_0 14 rfl rfl)
theorem dX6_sumOf_16 : decode cX6_sumOf 16 = .ok (.invokestatic 220, 3) := dk_184 0 220 (dk_at dksX6_sumOf_0 16 rfl rfl)
theorem dX6_sumOf_19 : decode cX6_sumOf 19 = .ok (.if_icmp .eq 19, 3) := dk_159 0 19 (dk_at dksX6_sumOf_0 19 rfl rfl)
theorem dX6_sumOf_22 : decode cX6_sumOf 22 = .ok (.aload_n 0, 1) := dk_42 (dk_at dksX6_sumOf_0 22 rfl rfl)
theorem dX6_sumOf_23 : decode cX6_sumOf 23 = .ok (.aload_n 0, 1) := dk_42 (dk_at dksX6_sumOf_0 23 rfl rfl)
theorem dX6_sumOf_24 : decode cX6_sumOf 24 = .ok (.getfield 261, 3) := dk_180 1 5 (dk_at dksX6_sumOf_1 0 rfl rfl)
theorem dX6_sumOf_27 : decode cX6_sumOf 27 = .ok (.invokevirtual 264, 3) := dk_182 1 8 (dk_at dksX6_sumOf_1 3 rfl rfl)
theorem dX6_sumOf_30 : decode cX6_sumOf 30 = .ok (.bipush 45, 2) := dk_16 45 (dk_at dksX6_sumOf_1 6 rfl rfl)
theorem dX6_sumOf_32 : decode cX6_sumOf 32 = .ok (.invokestatic 220, 3) := dk_184 0 220 (dk_at dksX6_sumOf_1 8 rfl rfl)
theorem dX6_sumOf_35 : decode cX6_sumOf 35 = .ok (.if_icmp .ne 68, 3) := dk_160 0 68 (dk_at dksX6_sumOf_1 11 rfl rfl)
theorem dX6_sumOf_38 : decode cX6_sumOf 38 = .ok (.aload_n 0, 1) := dk_42 (dk_at dksX6_sumOf_1 14 rfl rfl)
theorem dX6_sumOf_39 : decode cX6_sumOf 39 = .ok (.aload_n 0, 1) := dk_42 (dk_at dksX6_sumOf_1 15 rfl rfl)
theorem dX6_sumOf_40 : decode cX6_sumOf 40 = .ok (.getfield 261, 3) := dk_180 1 5 (dk_at dksX6_sumOf_1 16 rfl rfl)
theorem dX6_sumOf_43 : decode cX6_sumOf 43 = .ok (.invokevirtual 264, 3) := dk_182 1 8 (dk_at dksX6_sumOf_1 19 rfl rfl)
theorem dX6_sumOf_46 : decode cX6_sumOf 46 = .ok (.bipush 43, 2) := dk_16 43 (dk_at dksX6_sumOf_1 22 rfl rfl)
theorem dX6_sumOf_48 : decode cX6_sumOf 48 = .ok (.invokestatic 220, 3) := dk_184 0 220 (dk_at dksX6_sumOf_2 0 rfl rfl)
theorem dX6_sumOf_51 : decode cX6_sumOf 51 = .ok (.if_icmp .ne 7, 3) := dk_160 0 7 (dk_at dksX6_sumOf_2 3 rfl rfl)
theorem dX6_sumOf_54 : decode cX6_sumOf 54 = .ok (.iconst 1, 1) := dk_4 (dk_at dksX6_sumOf_2 6 rfl rfl)
theorem dX6_sumOf_55 : decode cX6_sumOf 55 = .ok (.goto 4, 3) := dk_167 0 4 (dk_at dksX6_sumOf_2 7 rfl rfl)
theorem dX6_sumOf_58 : decode cX6_sumOf 58 = .ok (.iconst 0, 1) := dk_3 (dk_at dksX6_sumOf_2 10 rfl rfl)
theorem dX6_sumOf_59 : decode cX6_sumOf 59 = .ok (.istore 4, 2) := dk_54 4 (dk_at dksX6_sumOf_2 11 rfl rfl)
theorem dX6_sumOf_61 : decode cX6_sumOf 61 = .ok (.aload_n 0, 1) := dk_42 (dk_at dksX6_sumOf_2 13 rfl rfl)
theorem dX6_sumOf_62 : decode cX6_sumOf 62 = .ok (.dup, 1) := dk_89 (dk_at dksX6_sumOf_2 14 rfl rfl)
theorem dX6_sumOf_63 : decode cX6_sumOf 63 = .ok (.getfield 261, 3) := dk_180 1 5 (dk_at dksX6_sumOf_2 15 rfl rfl)
theorem dX6_sumOf_66 : decode cX6_sumOf 66 = .ok (.iconst 1, 1) := dk_4 (dk_at dksX6_sumOf_2 18 rfl rfl)
theorem dX6_sumOf_67 : decode cX6_sumOf 67 = .ok (.iadd, 1) := dk_96 (dk_at dksX6_sumOf_2 19 rfl rfl)
theorem dX6_sumOf_68 : decode cX6_sumOf 68 = .ok (.putfield 261, 3) := dk_181 1 5 (dk_at dksX6_sumOf_2 20 rfl rfl)
theorem dX6_sumOf_71 : decode cX6_sumOf 71 = .ok (.aload_n 0, 1) := dk_42 (dk_at dksX6_sumOf_2 23 rfl rfl)
theorem dX6_sumOf_72 : decode cX6_sumOf 72 = .ok (.iload_n 1, 1) := dk_27 (dk_at dksX6_sumOf_3 0 rfl rfl)
theorem dX6_sumOf_73 : decode cX6_sumOf 73 = .ok (.invokevirtual 274, 3) := dk_182 1 18 (dk_at dksX6_sumOf_3 1 rfl rfl)
theorem dX6_sumOf_76 : decode cX6_sumOf 76 = .ok (.lstore 5, 2) := dk_55 5 (dk_at dksX6_sumOf_3 4 rfl rfl)
theorem dX6_sumOf_78 : decode cX6_sumOf 78 = .ok (.aload_n 0, 1) := dk_42 (dk_at dksX6_sumOf_3 6 rfl rfl)
theorem dX6_sumOf_79 : decode cX6_sumOf 79 = .ok (.iload 4, 2) := dk_21 4 (dk_at dksX6_sumOf_3 7 rfl rfl)
theorem dX6_sumOf_81 : decode cX6_sumOf 81 = .ok (.ifCond .eq 10, 3) := dk_153 0 10 (dk_at dksX6_sumOf_3 9 rfl rfl)
theorem dX6_sumOf_84 : decode cX6_sumOf 84 = .ok (.lload_n 2, 1) := dk_32 (dk_at dksX6_sumOf_3 12 rfl rfl)
theorem dX6_sumOf_85 : decode cX6_sumOf 85 = .ok (.lload 5, 2) := dk_22 5 (dk_at dksX6_sumOf_3 13 rfl rfl)
theorem dX6_sumOf_87 : decode cX6_sumOf 87 = .ok (.ladd, 1) := dk_97 (dk_at dksX6_sumOf_3 15 rfl rfl)
theorem dX6_sumOf_88 : decode cX6_sumOf 88 = .ok (.goto 7, 3) := dk_167 0 7 (dk_at dksX6_sumOf_3 16 rfl rfl)
theorem dX6_sumOf_91 : decode cX6_sumOf 91 = .ok (.lload_n 2, 1) := dk_32 (dk_at dksX6_sumOf_3 19 rfl rfl)
theorem dX6_sumOf_92 : decode cX6_sumOf 92 = .ok (.lload 5, 2) := dk_22 5 (dk_at dksX6_sumOf_3 20 rfl rfl)
theorem dX6_sumOf_94 : decode cX6_sumOf 94 = .ok (.lsub, 1) := dk_101 (dk_at dksX6_sumOf_3 22 rfl rfl)
theorem dX6_sumOf_95 : decode cX6_sumOf 95 = .ok (.iload_n 1, 1) := dk_27 (dk_at dksX6_sumOf_3 23 rfl rfl)
theorem dX6_sumOf_96 : decode cX6_sumOf 96 = .ok (.invokevirtual 278, 3) := dk_182 1 22 (dk_at dksX6_sumOf_4 0 rfl rfl)
theorem dX6_sumOf_99 : decode cX6_sumOf 99 = .ok (.lstore_n 2, 1) := dk_65 (dk_at dksX6_sumOf_4 3 rfl rfl)
theorem dX6_sumOf_100 : decode cX6_sumOf 100 = .ok (.goto (-94), 3) := dk_167 255 162 (dk_at dksX6_sumOf_4 4 rfl rfl)
theorem dX6_sumOf_103 : decode cX6_sumOf 103 = .ok (.lload_n 2, 1) := dk_32 (dk_at dksX6_sumOf_4 7 rfl rfl)
theorem dX6_sumOf_104 : decode cX6_sumOf 104 = .ok (.lreturn, 1) := dk_173 (dk_at dksX6_sumOf_4 8 rfl rfl)
abbrev cX6_termOf : ByteArray := prog_24_method_62_code
def yX6_termOf : MethodName := ⟨RX6, "termOf", "(Z)J"⟩
def dkwX6_termOf_7 : List UInt8 := [167, 255, 97, 32, 173]
abbrev dktX6_termOf_7 : List UInt8 := dkwX6_termOf_7 ++ []
def dkwX6_termOf_6 : List UInt8 := [184, 0, 220, 160, 0, 10, 32, 22, 5, 109, 167, 0, 7, 32, 22, 5, 113, 27, 182, 1, 22, 65]
abbrev dktX6_termOf_6 : List UInt8 := dkwX6_termOf_6 ++ dktX6_termOf_7
def dkwX6_termOf_5 : List UInt8 := [55, 5, 42, 21, 4, 16, 42, 184, 0, 220, 160, 0, 10, 32, 22, 5, 105, 167, 0, 24, 21, 4, 16, 47]
abbrev dktX6_termOf_5 : List UInt8 := dkwX6_termOf_5 ++ dktX6_termOf_6
def dkwX6_termOf_4 : List UInt8 := [154, 0, 26, 42, 42, 180, 1, 15, 154, 0, 7, 27, 153, 0, 7, 4, 167, 0, 4, 3, 181, 1, 15, 10]
abbrev dktX6_termOf_4 : List UInt8 := dkwX6_termOf_4 ++ dktX6_termOf_5
def dkwX6_termOf_3 : List UInt8 := [181, 1, 5, 42, 27, 182, 1, 26, 55, 5, 21, 4, 16, 42, 184, 0, 220, 159, 0, 33, 22, 5, 9, 148]
abbrev dktX6_termOf_3 : List UInt8 := dkwX6_termOf_3 ++ dktX6_termOf_4
def dkwX6_termOf_2 : List UInt8 := [184, 0, 220, 160, 0, 117, 42, 42, 180, 1, 5, 182, 1, 8, 54, 4, 42, 89, 180, 1, 5, 4, 96]
abbrev dktX6_termOf_2 : List UInt8 := dkwX6_termOf_2 ++ dktX6_termOf_3
def dkwX6_termOf_1 : List UInt8 := [180, 1, 5, 182, 1, 8, 16, 47, 184, 0, 220, 159, 0, 19, 42, 42, 180, 1, 5, 182, 1, 8, 16, 37]
abbrev dktX6_termOf_1 : List UInt8 := dkwX6_termOf_1 ++ dktX6_termOf_2
def dkwX6_termOf_0 : List UInt8 := [42, 27, 182, 1, 26, 65, 42, 42, 180, 1, 5, 182, 1, 8, 16, 42, 184, 0, 220, 159, 0, 35, 42, 42]
abbrev dktX6_termOf_0 : List UInt8 := dkwX6_termOf_0 ++ dktX6_termOf_1
theorem dksX6_termOf_0 : cX6_termOf.data.toList.drop 0 = dktX6_termOf_0 := by decide +kernel
theorem dksX6_termOf_1 : cX6_termOf.data.toList.drop 24 = dktX6_termOf_1 := dk_seg dksX6_termOf_0 24 rfl rfl
theorem dksX6_termOf_2 : cX6_termOf.data.toList.drop 48 = dktX6_termOf_2 := dk_seg dksX6_termOf_1 24 rfl rfl
theorem dksX6_termOf_3 : cX6_termOf.data.toList.drop 71 = dktX6_termOf_3 := dk_seg dksX6_termOf_2 23 rfl rfl
theorem dksX6_termOf_4 : cX6_termOf.data.toList.drop 95 = dktX6_termOf_4 := dk_seg dksX6_termOf_3 24 rfl rfl
theorem dksX6_termOf_5 : cX6_termOf.data.toList.drop 119 = dktX6_termOf_5 := dk_seg dksX6_termOf_4 24 rfl rfl
theorem dksX6_termOf_6 : cX6_termOf.data.toList.drop 143 = dktX6_termOf_6 := dk_seg dksX6_termOf_5 24 rfl rfl
theorem dksX6_termOf_7 : cX6_termOf.data.toList.drop 165 = dktX6_termOf_7 := dk_seg dksX6_termOf_6 22 rfl rfl
theorem dX6_termOf_0 : decode cX6_termOf 0 = .ok (.aload_n 0, 1) := dk_42 (dk_at dksX6_termOf_0 0 rfl rfl)
theorem dX6_termOf_1 : decode cX6_termOf 1 = .ok (.iload_n 1, 1) := dk_27 (dk_at dksX6_termOf_0 1 rfl rfl)
theorem dX6_termOf_2 : decode cX6_termOf 2 = .ok (.invokevirtual 282, 3) := dk_182 1 26 (dk_at dksX6_termOf_0 2 rfl rfl)
theorem dX6_termOf_5 : decode cX6_termOf 5 = .ok (.lstore_n 2, 1) := dk_65 (dk_at dksX6_termOf_0 5 rfl rfl)
theorem dX6_termOf_6 : decode cX6_termOf 6 = .ok (.aload_n 0, 1) := dk_42 (dk_at dksX6_termOf_0 6 rfl rfl)
theorem dX6_termOf_7 : decode cX6_termOf 7 = .ok (.aload_n 0, 1) := dk_42 (dk_at dksX6_termOf_0 7 rfl rfl)
theorem dX6_termOf_8 : decode cX6_termOf 8 = .ok (.getfield 261, 3) := dk_180 1 5 (dk_at dksX6_termOf_0 8 rfl rfl)
theorem dX6_termOf_11 : decode cX6_termOf 11 = .ok (.invokevirtual 264, 3) := dk_182 1 8 (dk_at dksX6_termOf_0 11 rfl rfl)
theorem dX6_termOf_14 : decode cX6_termOf 14 = .ok (.bipush 42, 2) := dk_16 42 (dk_at dksX6_termOf_0 14 rfl rfl)
theorem dX6_termOf_16 : decode cX6_termOf 16 = .ok (.invokestatic 220, 3) := dk_184 0 220 (dk_at dksX6_termOf_0 16 rfl rfl)
theorem dX6_termOf_19 : decode cX6_termOf 19 = .ok (.if_icmp .eq 35, 3) := dk_159 0 35 (dk_at dksX6_termOf_0 19 rfl rfl)
theorem dX6_termOf_22 : decode cX6_termOf 22 = .ok (.aload_n 0, 1) := dk_42 (dk_at dksX6_termOf_0 22 rfl rfl)
theorem dX6_termOf_23 : decode cX6_termOf 23 = .ok (.aload_n 0, 1) := dk_42 (dk_at dksX6_termOf_0 23 rfl rfl)
theorem dX6_termOf_24 : decode cX6_termOf 24 = .ok (.getfield 261, 3) := dk_180 1 5 (dk_at dksX6_termOf_1 0 rfl rfl)
theorem dX6_termOf_27 : decode cX6_termOf 27 = .ok (.invokevirtual 264, 3) := dk_182 1 8 (dk_at dksX6_termOf_1 3 rfl rfl)
theorem dX6_termOf_30 : decode cX6_termOf 30 = .ok (.bipush 47, 2) := dk_16 47 (dk_at dksX6_termOf_1 6 rfl rfl)
theorem dX6_termOf_32 : decode cX6_termOf 32 = .ok (.invokestatic 220, 3) := dk_184 0 220 (dk_at dksX6_termOf_1 8 rfl rfl)
theorem dX6_termOf_35 : decode cX6_termOf 35 = .ok (.if_icmp .eq 19, 3) := dk_159 0 19 (dk_at dksX6_termOf_1 11 rfl rfl)
theorem dX6_termOf_38 : decode cX6_termOf 38 = .ok (.aload_n 0, 1) := dk_42 (dk_at dksX6_termOf_1 14 rfl rfl)
theorem dX6_termOf_39 : decode cX6_termOf 39 = .ok (.aload_n 0, 1) := dk_42 (dk_at dksX6_termOf_1 15 rfl rfl)
theorem dX6_termOf_40 : decode cX6_termOf 40 = .ok (.getfield 261, 3) := dk_180 1 5 (dk_at dksX6_termOf_1 16 rfl rfl)
theorem dX6_termOf_43 : decode cX6_termOf 43 = .ok (.invokevirtual 264, 3) := dk_182 1 8 (dk_at dksX6_termOf_1 19 rfl rfl)
theorem dX6_termOf_46 : decode cX6_termOf 46 = .ok (.bipush 37, 2) := dk_16 37 (dk_at dksX6_termOf_1 22 rfl rfl)
theorem dX6_termOf_48 : decode cX6_termOf 48 = .ok (.invokestatic 220, 3) := dk_184 0 220 (dk_at dksX6_termOf_2 0 rfl rfl)
theorem dX6_termOf_51 : decode cX6_termOf 51 = .ok (.if_icmp .ne 117, 3) := dk_160 0 117 (dk_at dksX6_termOf_2 3 rfl rfl)
theorem dX6_termOf_54 : decode cX6_termOf 54 = .ok (.aload_n 0, 1) := dk_42 (dk_at dksX6_termOf_2 6 rfl rfl)
theorem dX6_termOf_55 : decode cX6_termOf 55 = .ok (.aload_n 0, 1) := dk_42 (dk_at dksX6_termOf_2 7 rfl rfl)
theorem dX6_termOf_56 : decode cX6_termOf 56 = .ok (.getfield 261, 3) := dk_180 1 5 (dk_at dksX6_termOf_2 8 rfl rfl)
theorem dX6_termOf_59 : decode cX6_termOf 59 = .ok (.invokevirtual 264, 3) := dk_182 1 8 (dk_at dksX6_termOf_2 11 rfl rfl)
theorem dX6_termOf_62 : decode cX6_termOf 62 = .ok (.istore 4, 2) := dk_54 4 (dk_at dksX6_termOf_2 14 rfl rfl)
theorem dX6_termOf_64 : decode cX6_termOf 64 = .ok (.aload_n 0, 1) := dk_42 (dk_at dksX6_termOf_2 16 rfl rfl)
theorem dX6_termOf_65 : decode cX6_termOf 65 = .ok (.dup, 1) := dk_89 (dk_at dksX6_termOf_2 17 rfl rfl)
theorem dX6_termOf_66 : decode cX6_termOf 66 = .ok (.getfield 261, 3) := dk_180 1 5 (dk_at dksX6_termOf_2 18 rfl rfl)
theorem dX6_termOf_69 : decode cX6_termOf 69 = .ok (.iconst 1, 1) := dk_4 (dk_at dksX6_termOf_2 21 rfl rfl)
theorem dX6_termOf_70 : decode cX6_termOf 70 = .ok (.iadd, 1) := dk_96 (dk_at dksX6_termOf_2 22 rfl rfl)
theorem dX6_termOf_71 : decode cX6_termOf 71 = .ok (.putfield 261, 3) := dk_181 1 5 (dk_at dksX6_termOf_3 0 rfl rfl)
theorem dX6_termOf_74 : decode cX6_termOf 74 = .ok (.aload_n 0, 1) := dk_42 (dk_at dksX6_termOf_3 3 rfl rfl)
theorem dX6_termOf_75 : decode cX6_termOf 75 = .ok (.iload_n 1, 1) := dk_27 (dk_at dksX6_termOf_3 4 rfl rfl)
theorem dX6_termOf_76 : decode cX6_termOf 76 = .ok (.invokevirtual 282, 3) := dk_182 1 26 (dk_at dksX6_termOf_3 5 rfl rfl)
theorem dX6_termOf_79 : decode cX6_termOf 79 = .ok (.lstore 5, 2) := dk_55 5 (dk_at dksX6_termOf_3 8 rfl rfl)
theorem dX6_termOf_81 : decode cX6_termOf 81 = .ok (.iload 4, 2) := dk_21 4 (dk_at dksX6_termOf_3 10 rfl rfl)
theorem dX6_termOf_83 : decode cX6_termOf 83 = .ok (.bipush 42, 2) := dk_16 42 (dk_at dksX6_termOf_3 12 rfl rfl)
theorem dX6_termOf_85 : decode cX6_termOf 85 = .ok (.invokestatic 220, 3) := dk_184 0 220 (dk_at dksX6_termOf_3 14 rfl rfl)
theorem dX6_termOf_88 : decode cX6_termOf 88 = .ok (.if_icmp .eq 33, 3) := dk_159 0 33 (dk_at dksX6_termOf_3 17 rfl rfl)
theorem dX6_termOf_91 : decode cX6_termOf 91 = .ok (.lload 5, 2) := dk_22 5 (dk_at dksX6_termOf_3 20 rfl rfl)
theorem dX6_termOf_93 : decode cX6_termOf 93 = .ok (.lconst 0, 1) := dk_9 (dk_at dksX6_termOf_3 22 rfl rfl)
theorem dX6_termOf_94 : decode cX6_termOf 94 = .ok (.lcmp, 1) := dk_148 (dk_at dksX6_termOf_3 23 rfl rfl)
theorem dX6_termOf_95 : decode cX6_termOf 95 = .ok (.ifCond .ne 26, 3) := dk_154 0 26 (dk_at dksX6_termOf_4 0 rfl rfl)
theorem dX6_termOf_98 : decode cX6_termOf 98 = .ok (.aload_n 0, 1) := dk_42 (dk_at dksX6_termOf_4 3 rfl rfl)
theorem dX6_termOf_99 : decode cX6_termOf 99 = .ok (.aload_n 0, 1) := dk_42 (dk_at dksX6_termOf_4 4 rfl rfl)
theorem dX6_termOf_100 : decode cX6_termOf 100 = .ok (.getfield 271, 3) := dk_180 1 15 (dk_at dksX6_termOf_4 5 rfl rfl)
theorem dX6_termOf_103 : decode cX6_termOf 103 = .ok (.ifCond .ne 7, 3) := dk_154 0 7 (dk_at dksX6_termOf_4 8 rfl rfl)
theorem dX6_termOf_106 : decode cX6_termOf 106 = .ok (.iload_n 1, 1) := dk_27 (dk_at dksX6_termOf_4 11 rfl rfl)
theorem dX6_termOf_107 : decode cX6_termOf 107 = .ok (.ifCond .eq 7, 3) := dk_153 0 7 (dk_at dksX6_termOf_4 12 rfl rfl)
theorem dX6_termOf_110 : decode cX6_termOf 110 = .ok (.iconst 1, 1) := dk_4 (dk_at dksX6_termOf_4 15 rfl rfl)
theorem dX6_termOf_111 : decode cX6_termOf 111 = .ok (.goto 4, 3) := dk_167 0 4 (dk_at dksX6_termOf_4 16 rfl rfl)
theorem dX6_termOf_114 : decode cX6_termOf 114 = .ok (.iconst 0, 1) := dk_3 (dk_at dksX6_termOf_4 19 rfl rfl)
theorem dX6_termOf_115 : decode cX6_termOf 115 = .ok (.putfield 271, 3) := dk_181 1 15 (dk_at dksX6_termOf_4 20 rfl rfl)
theorem dX6_termOf_118 : decode cX6_termOf 118 = .ok (.lconst 1, 1) := dk_10 (dk_at dksX6_termOf_4 23 rfl rfl)
theorem dX6_termOf_119 : decode cX6_termOf 119 = .ok (.lstore 5, 2) := dk_55 5 (dk_at dksX6_termOf_5 0 rfl rfl)
theorem dX6_termOf_121 : decode cX6_termOf 121 = .ok (.aload_n 0, 1) := dk_42 (dk_at dksX6_termOf_5 2 rfl rfl)
theorem dX6_termOf_122 : decode cX6_termOf 122 = .ok (.iload 4, 2) := dk_21 4 (dk_at dksX6_termOf_5 3 rfl rfl)
theorem dX6_termOf_124 : decode cX6_termOf 124 = .ok (.bipush 42, 2) := dk_16 42 (dk_at dksX6_termOf_5 5 rfl rfl)
theorem dX6_termOf_126 : decode cX6_termOf 126 = .ok (.invokestatic 220, 3) := dk_184 0 220 (dk_at dksX6_termOf_5 7 rfl rfl)
theorem dX6_termOf_129 : decode cX6_termOf 129 = .ok (.if_icmp .ne 10, 3) := dk_160 0 10 (dk_at dksX6_termOf_5 10 rfl rfl)
theorem dX6_termOf_132 : decode cX6_termOf 132 = .ok (.lload_n 2, 1) := dk_32 (dk_at dksX6_termOf_5 13 rfl rfl)
theorem dX6_termOf_133 : decode cX6_termOf 133 = .ok (.lload 5, 2) := dk_22 5 (dk_at dksX6_termOf_5 14 rfl rfl)
theorem dX6_termOf_135 : decode cX6_termOf 135 = .ok (.lmul, 1) := dk_105 (dk_at dksX6_termOf_5 16 rfl rfl)
theorem dX6_termOf_136 : decode cX6_termOf 136 = .ok (.goto 24, 3) := dk_167 0 24 (dk_at dksX6_termOf_5 17 rfl rfl)
theorem dX6_termOf_139 : decode cX6_termOf 139 = .ok (.iload 4, 2) := dk_21 4 (dk_at dksX6_termOf_5 20 rfl rfl)
theorem dX6_termOf_141 : decode cX6_termOf 141 = .ok (.bipush 47, 2) := dk_16 47 (dk_at dksX6_termOf_5 22 rfl rfl)
theorem dX6_termOf_143 : decode cX6_termOf 143 = .ok (.invokestatic 220, 3) := dk_184 0 220 (dk_at dksX6_termOf_6 0 rfl rfl)
theorem dX6_termOf_146 : decode cX6_termOf 146 = .ok (.if_icmp .ne 10, 3) := dk_160 0 10 (dk_at dksX6_termOf_6 3 rfl rfl)
theorem dX6_termOf_149 : decode cX6_termOf 149 = .ok (.lload_n 2, 1) := dk_32 (dk_at dksX6_termOf_6 6 rfl rfl)
theorem dX6_termOf_150 : decode cX6_termOf 150 = .ok (.lload 5, 2) := dk_22 5 (dk_at dksX6_termOf_6 7 rfl rfl)
theorem dX6_termOf_152 : decode cX6_termOf 152 = .ok (.ldiv, 1) := dk_109 (dk_at dksX6_termOf_6 9 rfl rfl)
theorem dX6_termOf_153 : decode cX6_termOf 153 = .ok (.goto 7, 3) := dk_167 0 7 (dk_at dksX6_termOf_6 10 rfl rfl)
theorem dX6_termOf_156 : decode cX6_termOf 156 = .ok (.lload_n 2, 1) := dk_32 (dk_at dksX6_termOf_6 13 rfl rfl)
theorem dX6_termOf_157 : decode cX6_termOf 157 = .ok (.lload 5, 2) := dk_22 5 (dk_at dksX6_termOf_6 14 rfl rfl)
theorem dX6_termOf_159 : decode cX6_termOf 159 = .ok (.lrem, 1) := dk_113 (dk_at dksX6_termOf_6 16 rfl rfl)
theorem dX6_termOf_160 : decode cX6_termOf 160 = .ok (.iload_n 1, 1) := dk_27 (dk_at dksX6_termOf_6 17 rfl rfl)
theorem dX6_termOf_161 : decode cX6_termOf 161 = .ok (.invokevirtual 278, 3) := dk_182 1 22 (dk_at dksX6_termOf_6 18 rfl rfl)
theorem dX6_termOf_164 : decode cX6_termOf 164 = .ok (.lstore_n 2, 1) := dk_65 (dk_at dksX6_termOf_6 21 rfl rfl)
theorem dX6_termOf_165 : decode cX6_termOf 165 = .ok (.goto (-159), 3) := dk_167 255 97 (dk_at dksX6_termOf_7 0 rfl rfl)
theorem dX6_termOf_168 : decode cX6_termOf 168 = .ok (.lload_n 2, 1) := dk_32 (dk_at dksX6_termOf_7 3 rfl rfl)
theorem dX6_termOf_169 : decode cX6_termOf 169 = .ok (.lreturn, 1) := dk_173 (dk_at dksX6_termOf_7 4 rfl rfl)
abbrev cX6_partOf : ByteArray := prog_24_method_63_code
def yX6_partOf : MethodName := ⟨RX6, "partOf", "(Z)J"⟩
def dkwX6_partOf_6 : List UInt8 := [182, 1, 38, 133, 167, 0, 13, 42, 180, 0, 63, 28, 16, 8, 100, 46, 133, 173]
abbrev dktX6_partOf_6 : List UInt8 := dkwX6_partOf_6 ++ []
def dkwX6_partOf_5 : List UInt8 := [17, 11, 36, 42, 180, 1, 5, 96, 4, 100, 46, 133, 173, 42, 180, 1, 35, 153, 0, 13, 42, 28, 29]
abbrev dktX6_partOf_5 : List UInt8 := dkwX6_partOf_5 ++ dktX6_partOf_6
def dkwX6_partOf_4 : List UInt8 := [153, 0, 10, 42, 180, 1, 15, 153, 0, 5, 9, 173, 28, 16, 50, 160, 0, 20, 42, 180, 0, 28]
abbrev dktX6_partOf_4 : List UInt8 := dkwX6_partOf_4 ++ dktX6_partOf_5
def dkwX6_partOf_3 : List UInt8 := [180, 0, 28, 17, 11, 36, 42, 180, 1, 5, 96, 46, 62, 42, 89, 180, 1, 5, 4, 96, 181, 1, 5, 27]
abbrev dktX6_partOf_3 : List UInt8 := dkwX6_partOf_3 ++ dktX6_partOf_4
def dkwX6_partOf_2 : List UInt8 := [181, 1, 5, 42, 180, 1, 35, 153, 0, 39, 28, 16, 15, 159, 0, 9, 28, 16, 16, 160, 0, 27, 42]
abbrev dktX6_partOf_2 : List UInt8 := dkwX6_partOf_2 ++ dktX6_partOf_3
def dkwX6_partOf_1 : List UInt8 := [96, 181, 1, 5, 32, 173, 42, 42, 180, 1, 5, 182, 1, 8, 61, 3, 62, 42, 89, 180, 1, 5, 4, 96]
abbrev dktX6_partOf_1 : List UInt8 := dkwX6_partOf_1 ++ dktX6_partOf_2
def dkwX6_partOf_0 : List UInt8 := [42, 16, 91, 184, 0, 220, 182, 1, 29, 153, 0, 21, 42, 27, 182, 1, 32, 65, 42, 89, 180, 1, 5, 4]
abbrev dktX6_partOf_0 : List UInt8 := dkwX6_partOf_0 ++ dktX6_partOf_1
theorem dksX6_partOf_0 : cX6_partOf.data.toList.drop 0 = dktX6_partOf_0 := by decide +kernel
theorem dksX6_partOf_1 : cX6_partOf.data.toList.drop 24 = dktX6_partOf_1 := dk_seg dksX6_partOf_0 24 rfl rfl
theorem dksX6_partOf_2 : cX6_partOf.data.toList.drop 48 = dktX6_partOf_2 := dk_seg dksX6_partOf_1 24 rfl rfl
theorem dksX6_partOf_3 : cX6_partOf.data.toList.drop 71 = dktX6_partOf_3 := dk_seg dksX6_partOf_2 23 rfl rfl
theorem dksX6_partOf_4 : cX6_partOf.data.toList.drop 95 = dktX6_partOf_4 := dk_seg dksX6_partOf_3 24 rfl rfl
theorem dksX6_partOf_5 : cX6_partOf.data.toList.drop 117 = dktX6_partOf_5 := dk_seg dksX6_partOf_4 22 rfl rfl
theorem dksX6_partOf_6 : cX6_partOf.data.toList.drop 140 = dktX6_partOf_6 := dk_seg dksX6_partOf_5 23 rfl rfl
theorem dX6_partOf_0 : decode cX6_partOf 0 = .ok (.aload_n 0, 1) := dk_42 (dk_at dksX6_partOf_0 0 rfl rfl)
theorem dX6_partOf_1 : decode cX6_partOf 1 = .ok (.bipush 91, 2) := dk_16 91 (dk_at dksX6_partOf_0 1 rfl rfl)
theorem dX6_partOf_3 : decode cX6_partOf 3 = .ok (.invokestatic 220, 3) := dk_184 0 220 (dk_at dksX6_partOf_0 3 rfl rfl)
theorem dX6_partOf_6 : decode cX6_partOf 6 = .ok (.invokevirtual 285, 3) := dk_182 1 29 (dk_at dksX6_partOf_0 6 rfl rfl)
theorem dX6_partOf_9 : decode cX6_partOf 9 = .ok (.ifCond .eq 21, 3) := dk_153 0 21 (dk_at dksX6_partOf_0 9 rfl rfl)
theorem dX6_partOf_12 : decode cX6_partOf 12 = .ok (.aload_n 0, 1) := dk_42 (dk_at dksX6_partOf_0 12 rfl rfl)
theorem dX6_partOf_13 : decode cX6_partOf 13 = .ok (.iload_n 1, 1) := dk_27 (dk_at dksX6_partOf_0 13 rfl rfl)
theorem dX6_partOf_14 : decode cX6_partOf 14 = .ok (.invokevirtual 288, 3) := dk_182 1 32 (dk_at dksX6_partOf_0 14 rfl rfl)
theorem dX6_partOf_17 : decode cX6_partOf 17 = .ok (.lstore_n 2, 1) := dk_65 (dk_at dksX6_partOf_0 17 rfl rfl)
theorem dX6_partOf_18 : decode cX6_partOf 18 = .ok (.aload_n 0, 1) := dk_42 (dk_at dksX6_partOf_0 18 rfl rfl)
theorem dX6_partOf_19 : decode cX6_partOf 19 = .ok (.dup, 1) := dk_89 (dk_at dksX6_partOf_0 19 rfl rfl)
theorem dX6_partOf_20 : decode cX6_partOf 20 = .ok (.getfield 261, 3) := dk_180 1 5 (dk_at dksX6_partOf_0 20 rfl rfl)
theorem dX6_partOf_23 : decode cX6_partOf 23 = .ok (.iconst 1, 1) := dk_4 (dk_at dksX6_partOf_0 23 rfl rfl)
theorem dX6_partOf_24 : decode cX6_partOf 24 = .ok (.iadd, 1) := dk_96 (dk_at dksX6_partOf_1 0 rfl rfl)
theorem dX6_partOf_25 : decode cX6_partOf 25 = .ok (.putfield 261, 3) := dk_181 1 5 (dk_at dksX6_partOf_1 1 rfl rfl)
theorem dX6_partOf_28 : decode cX6_partOf 28 = .ok (.lload_n 2, 1) := dk_32 (dk_at dksX6_partOf_1 4 rfl rfl)
theorem dX6_partOf_29 : decode cX6_partOf 29 = .ok (.lreturn, 1) := dk_173 (dk_at dksX6_partOf_1 5 rfl rfl)
theorem dX6_partOf_30 : decode cX6_partOf 30 = .ok (.aload_n 0, 1) := dk_42 (dk_at dksX6_partOf_1 6 rfl rfl)
theorem dX6_partOf_31 : decode cX6_partOf 31 = .ok (.aload_n 0, 1) := dk_42 (dk_at dksX6_partOf_1 7 rfl rfl)
theorem dX6_partOf_32 : decode cX6_partOf 32 = .ok (.getfield 261, 3) := dk_180 1 5 (dk_at dksX6_partOf_1 8 rfl rfl)
theorem dX6_partOf_35 : decode cX6_partOf 35 = .ok (.invokevirtual 264, 3) := dk_182 1 8 (dk_at dksX6_partOf_1 11 rfl rfl)
theorem dX6_partOf_38 : decode cX6_partOf 38 = .ok (.istore_n 2, 1) := dk_61 (dk_at dksX6_partOf_1 14 rfl rfl)
theorem dX6_partOf_39 : decode cX6_partOf 39 = .ok (.iconst 0, 1) := dk_3 (dk_at dksX6_partOf_1 15 rfl rfl)
theorem dX6_partOf_40 : decode cX6_partOf 40 = .ok (.istore_n 3, 1) := dk_62 (dk_at dksX6_partOf_1 16 rfl rfl)
theorem dX6_partOf_41 : decode cX6_partOf 41 = .ok (.aload_n 0, 1) := dk_42 (dk_at dksX6_partOf_1 17 rfl rfl)
theorem dX6_partOf_42 : decode cX6_partOf 42 = .ok (.dup, 1) := dk_89 (dk_at dksX6_partOf_1 18 rfl rfl)
theorem dX6_partOf_43 : decode cX6_partOf 43 = .ok (.getfield 261, 3) := dk_180 1 5 (dk_at dksX6_partOf_1 19 rfl rfl)
theorem dX6_partOf_46 : decode cX6_partOf 46 = .ok (.iconst 1, 1) := dk_4 (dk_at dksX6_partOf_1 22 rfl rfl)
theorem dX6_partOf_47 : decode cX6_partOf 47 = .ok (.iadd, 1) := dk_96 (dk_at dksX6_partOf_1 23 rfl rfl)
theorem dX6_partOf_48 : decode cX6_partOf 48 = .ok (.putfield 261, 3) := dk_181 1 5 (dk_at dksX6_partOf_2 0 rfl rfl)
theorem dX6_partOf_51 : decode cX6_partOf 51 = .ok (.aload_n 0, 1) := dk_42 (dk_at dksX6_partOf_2 3 rfl rfl)
theorem dX6_partOf_52 : decode cX6_partOf 52 = .ok (.getfield 291, 3) := dk_180 1 35 (dk_at dksX6_partOf_2 4 rfl rfl)
theorem dX6_partOf_55 : decode cX6_partOf 55 = .ok (.ifCond .eq 39, 3) := dk_153 0 39 (dk_at dksX6_partOf_2 7 rfl rfl)
theorem dX6_partOf_58 : decode cX6_partOf 58 = .ok (.iload_n 2, 1) := dk_28 (dk_at dksX6_partOf_2 10 rfl rfl)
theorem dX6_partOf_59 : decode cX6_partOf 59 = .ok (.bipush 15, 2) := dk_16 15 (dk_at dksX6_partOf_2 11 rfl rfl)
theorem dX6_partOf_61 : decode cX6_partOf 61 = .ok (.if_icmp .eq 9, 3) := dk_159 0 9 (dk_at dksX6_partOf_2 13 rfl rfl)
theorem dX6_partOf_64 : decode cX6_partOf 64 = .ok (.iload_n 2, 1) := dk_28 (dk_at dksX6_partOf_2 16 rfl rfl)
theorem dX6_partOf_65 : decode cX6_partOf 65 = .ok (.bipush 16, 2) := dk_16 16 (dk_at dksX6_partOf_2 17 rfl rfl)
theorem dX6_partOf_67 : decode cX6_partOf 67 = .ok (.if_icmp .ne 27, 3) := dk_160 0 27 (dk_at dksX6_partOf_2 19 rfl rfl)
theorem dX6_partOf_70 : decode cX6_partOf 70 = .ok (.aload_n 0, 1) := dk_42 (dk_at dksX6_partOf_2 22 rfl rfl)
theorem dX6_partOf_71 : decode cX6_partOf 71 = .ok (.getfield 28, 3) := dk_180 0 28 (dk_at dksX6_partOf_3 0 rfl rfl)
theorem dX6_partOf_74 : decode cX6_partOf 74 = .ok (.sipush 2852, 3) := dk_17 11 36 (dk_at dksX6_partOf_3 3 rfl rfl)
theorem dX6_partOf_77 : decode cX6_partOf 77 = .ok (.aload_n 0, 1) := dk_42 (dk_at dksX6_partOf_3 6 rfl rfl)
theorem dX6_partOf_78 : decode cX6_partOf 78 = .ok (.getfield 261, 3) := dk_180 1 5 (dk_at dksX6_partOf_3 7 rfl rfl)
theorem dX6_partOf_81 : decode cX6_partOf 81 = .ok (.iadd, 1) := dk_96 (dk_at dksX6_partOf_3 10 rfl rfl)
theorem dX6_partOf_82 : decode cX6_partOf 82 = .ok (.iaload, 1) := dk_46 (dk_at dksX6_partOf_3 11 rfl rfl)
theorem dX6_partOf_83 : decode cX6_partOf 83 = .ok (.istore_n 3, 1) := dk_62 (dk_at dksX6_partOf_3 12 rfl rfl)
theorem dX6_partOf_84 : decode cX6_partOf 84 = .ok (.aload_n 0, 1) := dk_42 (dk_at dksX6_partOf_3 13 rfl rfl)
theorem dX6_partOf_85 : decode cX6_partOf 85 = .ok (.dup, 1) := dk_89 (dk_at dksX6_partOf_3 14 rfl rfl)
theorem dX6_partOf_86 : decode cX6_partOf 86 = .ok (.getfield 261, 3) := dk_180 1 5 (dk_at dksX6_partOf_3 15 rfl rfl)
theorem dX6_partOf_89 : decode cX6_partOf 89 = .ok (.iconst 1, 1) := dk_4 (dk_at dksX6_partOf_3 18 rfl rfl)
theorem dX6_partOf_90 : decode cX6_partOf 90 = .ok (.iadd, 1) := dk_96 (dk_at dksX6_partOf_3 19 rfl rfl)
theorem dX6_partOf_91 : decode cX6_partOf 91 = .ok (.putfield 261, 3) := dk_181 1 5 (dk_at dksX6_partOf_3 20 rfl rfl)
theorem dX6_partOf_94 : decode cX6_partOf 94 = .ok (.iload_n 1, 1) := dk_27 (dk_at dksX6_partOf_3 23 rfl rfl)
theorem dX6_partOf_95 : decode cX6_partOf 95 = .ok (.ifCond .eq 10, 3) := dk_153 0 10 (dk_at dksX6_partOf_4 0 rfl rfl)
theorem dX6_partOf_98 : decode cX6_partOf 98 = .ok (.aload_n 0, 1) := dk_42 (dk_at dksX6_partOf_4 3 rfl rfl)
theorem dX6_partOf_99 : decode cX6_partOf 99 = .ok (.getfield 271, 3) := dk_180 1 15 (dk_at dksX6_partOf_4 4 rfl rfl)
theorem dX6_partOf_102 : decode cX6_partOf 102 = .ok (.ifCond .eq 5, 3) := dk_153 0 5 (dk_at dksX6_partOf_4 7 rfl rfl)
theorem dX6_partOf_105 : decode cX6_partOf 105 = .ok (.lconst 0, 1) := dk_9 (dk_at dksX6_partOf_4 10 rfl rfl)
theorem dX6_partOf_106 : decode cX6_partOf 106 = .ok (.lreturn, 1) := dk_173 (dk_at dksX6_partOf_4 11 rfl rfl)
theorem dX6_partOf_107 : decode cX6_partOf 107 = .ok (.iload_n 2, 1) := dk_28 (dk_at dksX6_partOf_4 12 rfl rfl)
theorem dX6_partOf_108 : decode cX6_partOf 108 = .ok (.bipush 50, 2) := dk_16 50 (dk_at dksX6_partOf_4 13 rfl rfl)
theorem dX6_partOf_110 : decode cX6_partOf 110 = .ok (.if_icmp .ne 20, 3) := dk_160 0 20 (dk_at dksX6_partOf_4 15 rfl rfl)
theorem dX6_partOf_113 : decode cX6_partOf 113 = .ok (.aload_n 0, 1) := dk_42 (dk_at dksX6_partOf_4 18 rfl rfl)
theorem dX6_partOf_114 : decode cX6_partOf 114 = .ok (.getfield 28, 3) := dk_180 0 28 (dk_at dksX6_partOf_4 19 rfl rfl)
theorem dX6_partOf_117 : decode cX6_partOf 117 = .ok (.sipush 2852, 3) := dk_17 11 36 (dk_at dksX6_partOf_5 0 rfl rfl)
theorem dX6_partOf_120 : decode cX6_partOf 120 = .ok (.aload_n 0, 1) := dk_42 (dk_at dksX6_partOf_5 3 rfl rfl)
theorem dX6_partOf_121 : decode cX6_partOf 121 = .ok (.getfield 261, 3) := dk_180 1 5 (dk_at dksX6_partOf_5 4 rfl rfl)
theorem dX6_partOf_124 : decode cX6_partOf 124 = .ok (.iadd, 1) := dk_96 (dk_at dksX6_partOf_5 7 rfl rfl)
theorem dX6_partOf_125 : decode cX6_partOf 125 = .ok (.iconst 1, 1) := dk_4 (dk_at dksX6_partOf_5 8 rfl rfl)
theorem dX6_partOf_126 : decode cX6_partOf 126 = .ok (.isub, 1) := dk_100 (dk_at dksX6_partOf_5 9 rfl rfl)
theorem dX6_partOf_127 : decode cX6_partOf 127 = .ok (.iaload, 1) := dk_46 (dk_at dksX6_partOf_5 10 rfl rfl)
theorem dX6_partOf_128 : decode cX6_partOf 128 = .ok (.i2l, 1) := dk_133 (dk_at dksX6_partOf_5 11 rfl rfl)
theorem dX6_partOf_129 : decode cX6_partOf 129 = .ok (.lreturn, 1) := dk_173 (dk_at dksX6_partOf_5 12 rfl rfl)
theorem dX6_partOf_130 : decode cX6_partOf 130 = .ok (.aload_n 0, 1) := dk_42 (dk_at dksX6_partOf_5 13 rfl rfl)
theorem dX6_partOf_131 : decode cX6_partOf 131 = .ok (.getfield 291, 3) := dk_180 1 35 (dk_at dksX6_partOf_5 14 rfl rfl)
theorem dX6_partOf_134 : decode cX6_partOf 134 = .ok (.ifCond .eq 13, 3) := dk_153 0 13 (dk_at dksX6_partOf_5 17 rfl rfl)
theorem dX6_partOf_137 : decode cX6_partOf 137 = .ok (.aload_n 0, 1) := dk_42 (dk_at dksX6_partOf_5 20 rfl rfl)
theorem dX6_partOf_138 : decode cX6_partOf 138 = .ok (.iload_n 2, 1) := dk_28 (dk_at dksX6_partOf_5 21 rfl rfl)
theorem dX6_partOf_139 : decode cX6_partOf 139 = .ok (.iload_n 3, 1) := dk_29 (dk_at dksX6_partOf_5 22 rfl rfl)
theorem dX6_partOf_140 : decode cX6_partOf 140 = .ok (.invokevirtual 294, 3) := dk_182 1 38 (dk_at dksX6_partOf_6 0 rfl rfl)
theorem dX6_partOf_143 : decode cX6_partOf 143 = .ok (.i2l, 1) := dk_133 (dk_at dksX6_partOf_6 3 rfl rfl)
theorem dX6_partOf_144 : decode cX6_partOf 144 = .ok (.goto 13, 3) := dk_167 0 13 (dk_at dksX6_partOf_6 4 rfl rfl)
theorem dX6_partOf_147 : decode cX6_partOf 147 = .ok (.aload_n 0, 1) := dk_42 (dk_at dksX6_partOf_6 7 rfl rfl)
theorem dX6_partOf_148 : decode cX6_partOf 148 = .ok (.getfield 63, 3) := dk_180 0 63 (dk_at dksX6_partOf_6 8 rfl rfl)
theorem dX6_partOf_151 : decode cX6_partOf 151 = .ok (.iload_n 2, 1) := dk_28 (dk_at dksX6_partOf_6 11 rfl rfl)
theorem dX6_partOf_152 : decode cX6_partOf 152 = .ok (.bipush 8, 2) := dk_16 8 (dk_at dksX6_partOf_6 12 rfl rfl)
theorem dX6_partOf_154 : decode cX6_partOf 154 = .ok (.isub, 1) := dk_100 (dk_at dksX6_partOf_6 14 rfl rfl)
theorem dX6_partOf_155 : decode cX6_partOf 155 = .ok (.iaload, 1) := dk_46 (dk_at dksX6_partOf_6 15 rfl rfl)
theorem dX6_partOf_156 : decode cX6_partOf 156 = .ok (.i2l, 1) := dk_133 (dk_at dksX6_partOf_6 16 rfl rfl)
theorem dX6_partOf_157 : decode cX6_partOf 157 = .ok (.lreturn, 1) := dk_173 (dk_at dksX6_partOf_6 17 rfl rfl)
abbrev cX6_sign : ByteArray := prog_24_method_40_code
def yX6_sign : MethodName := ⟨RX6, "sign", "(C)I"⟩
def dkwX6_sign_0 : List UInt8 := [16, 100, 26, 96, 172]
abbrev dktX6_sign_0 : List UInt8 := dkwX6_sign_0 ++ []
theorem dksX6_sign_0 : cX6_sign.data.toList.drop 0 = dktX6_sign_0 := by decide +kernel
theorem dX6_sign_0 : decode cX6_sign 0 = .ok (.bipush 100, 2) := dk_16 100 (dk_at dksX6_sign_0 0 rfl rfl)
theorem dX6_sign_2 : decode cX6_sign 2 = .ok (.iload_n 0, 1) := dk_26 (dk_at dksX6_sign_0 2 rfl rfl)
theorem dX6_sign_3 : decode cX6_sign 3 = .ok (.iadd, 1) := dk_96 (dk_at dksX6_sign_0 3 rfl rfl)
theorem dX6_sign_4 : decode cX6_sign 4 = .ok (.ireturn, 1) := dk_172 (dk_at dksX6_sign_0 4 rfl rfl)
abbrev cX6_passes0 : ByteArray := prog_24_method_59_code
def yX6_passes0 : MethodName := ⟨RX6, "passes0", "(I)Z"⟩
def dkwX6_passes0_1 : List UInt8 := [180, 1, 5, 4, 96, 181, 1, 5, 28, 172]
abbrev dktX6_passes0_1 : List UInt8 := dkwX6_passes0_1 ++ []
def dkwX6_passes0_0 : List UInt8 := [42, 42, 180, 1, 5, 182, 1, 8, 27, 160, 0, 7, 4, 167, 0, 4, 3, 61, 28, 153, 0, 13, 42, 89]
abbrev dktX6_passes0_0 : List UInt8 := dkwX6_passes0_0 ++ dktX6_passes0_1
theorem dksX6_passes0_0 : cX6_passes0.data.toList.drop 0 = dktX6_passes0_0 := by decide +kernel
theorem dksX6_passes0_1 : cX6_passes0.data.toList.drop 24 = dktX6_passes0_1 := dk_seg dksX6_passes0_0 24 rfl rfl
theorem dX6_passes0_0 : decode cX6_passes0 0 = .ok (.aload_n 0, 1) := dk_42 (dk_at dksX6_passes0_0 0 rfl rfl)
theorem dX6_passes0_1 : decode cX6_passes0 1 = .ok (.aload_n 0, 1) := dk_42 (dk_at dksX6_passes0_0 1 rfl rfl)
theorem dX6_passes0_2 : decode cX6_passes0 2 = .ok (.getfield 261, 3) := dk_180 1 5 (dk_at dksX6_passes0_0 2 rfl rfl)
theorem dX6_passes0_5 : decode cX6_passes0 5 = .ok (.invokevirtual 264, 3) := dk_182 1 8 (dk_at dksX6_passes0_0 5 rfl rfl)
theorem dX6_passes0_8 : decode cX6_passes0 8 = .ok (.iload_n 1, 1) := dk_27 (dk_at dksX6_passes0_0 8 rfl rfl)
theorem dX6_passes0_9 : decode cX6_passes0 9 = .ok (.if_icmp .ne 7, 3) := dk_160 0 7 (dk_at dksX6_passes0_0 9 rfl rfl)
theorem dX6_passes0_12 : decode cX6_passes0 12 = .ok (.iconst 1, 1) := dk_4 (dk_at dksX6_passes0_0 12 rfl rfl)
theorem dX6_passes0_13 : decode cX6_passes0 13 = .ok (.goto 4, 3) := dk_167 0 4 (dk_at dksX6_passes0_0 13 rfl rfl)
theorem dX6_passes0_16 : decode cX6_passes0 16 = .ok (.iconst 0, 1) := dk_3 (dk_at dksX6_passes0_0 16 rfl rfl)
theorem dX6_passes0_17 : decode cX6_passes0 17 = .ok (.istore_n 2, 1) := dk_61 (dk_at dksX6_passes0_0 17 rfl rfl)
theorem dX6_passes0_18 : decode cX6_passes0 18 = .ok (.iload_n 2, 1) := dk_28 (dk_at dksX6_passes0_0 18 rfl rfl)
theorem dX6_passes0_19 : decode cX6_passes0 19 = .ok (.ifCond .eq 13, 3) := dk_153 0 13 (dk_at dksX6_passes0_0 19 rfl rfl)
theorem dX6_passes0_22 : decode cX6_passes0 22 = .ok (.aload_n 0, 1) := dk_42 (dk_at dksX6_passes0_0 22 rfl rfl)
theorem dX6_passes0_23 : decode cX6_passes0 23 = .ok (.dup, 1) := dk_89 (dk_at dksX6_passes0_0 23 rfl rfl)
theorem dX6_passes0_24 : decode cX6_passes0 24 = .ok (.getfield 261, 3) := dk_180 1 5 (dk_at dksX6_passes0_1 0 rfl rfl)
theorem dX6_passes0_27 : decode cX6_passes0 27 = .ok (.iconst 1, 1) := dk_4 (dk_at dksX6_passes0_1 3 rfl rfl)
theorem dX6_passes0_28 : decode cX6_passes0 28 = .ok (.iadd, 1) := dk_96 (dk_at dksX6_passes0_1 4 rfl rfl)
theorem dX6_passes0_29 : decode cX6_passes0 29 = .ok (.putfield 261, 3) := dk_181 1 5 (dk_at dksX6_passes0_1 5 rfl rfl)
theorem dX6_passes0_32 : decode cX6_passes0 32 = .ok (.iload_n 2, 1) := dk_28 (dk_at dksX6_passes0_1 8 rfl rfl)
theorem dX6_passes0_33 : decode cX6_passes0 33 = .ok (.ireturn, 1) := dk_172 (dk_at dksX6_passes0_1 9 rfl rfl)
abbrev cX6_orderValue : ByteArray := prog_24_method_64_code
def yX6_orderValue : MethodName := ⟨RX6, "orderValue", "(II)I"⟩
def dkwX6_orderValue_4 : List UInt8 := [16, 24, 46, 172, 42, 180, 1, 41, 172, 42, 180, 1, 44, 172, 42, 180, 1, 47, 172, 42, 180, 1, 50, 172]
abbrev dktX6_orderValue_4 : List UInt8 := dkwX6_orderValue_4 ++ []
def dkwX6_orderValue_3 : List UInt8 := [182, 0, 124, 153, 0, 15, 42, 180, 0, 28, 16, 12, 28, 96, 46, 167, 0, 4, 2, 172, 42, 180, 0, 28]
abbrev dktX6_orderValue_3 : List UInt8 := dkwX6_orderValue_3 ++ dktX6_orderValue_4
def dkwX6_orderValue_2 : List UInt8 := [42, 28, 182, 0, 124, 153, 0, 14, 42, 180, 0, 28, 3, 28, 96, 46, 167, 0, 4, 2, 172, 42, 28]
abbrev dktX6_orderValue_2 : List UInt8 := dkwX6_orderValue_2 ++ dktX6_orderValue_3
def dkwX6_orderValue_1 : List UInt8 := [170, 0, 0, 0, 0, 0, 105, 0, 0, 0, 15, 0, 0, 0, 20, 0, 0, 0, 39, 0, 0, 0, 60, 0, 0, 0, 82, 0, 0, 0, 90, 0, 0, 0, 95, 0, 0, 0, 100]
abbrev dktX6_orderValue_1 : List UInt8 := dkwX6_orderValue_1 ++ dktX6_orderValue_2
def dkwX6_orderValue_0 : List UInt8 := [27]
abbrev dktX6_orderValue_0 : List UInt8 := dkwX6_orderValue_0 ++ dktX6_orderValue_1
theorem dksX6_orderValue_0 : cX6_orderValue.data.toList.drop 0 = dktX6_orderValue_0 := by decide +kernel
theorem dksX6_orderValue_1 : cX6_orderValue.data.toList.drop 1 = dktX6_orderValue_1 := dk_seg dksX6_orderValue_0 1 rfl rfl
theorem dksX6_orderValue_2 : cX6_orderValue.data.toList.drop 40 = dktX6_orderValue_2 := dk_seg dksX6_orderValue_1 39 rfl rfl
theorem dksX6_orderValue_3 : cX6_orderValue.data.toList.drop 63 = dktX6_orderValue_3 := dk_seg dksX6_orderValue_2 23 rfl rfl
theorem dksX6_orderValue_4 : cX6_orderValue.data.toList.drop 87 = dktX6_orderValue_4 := dk_seg dksX6_orderValue_3 24 rfl rfl
theorem dX6_orderValue_0 : decode cX6_orderValue 0 = .ok (.iload_n 1, 1) := dk_27 (dk_at dksX6_orderValue_0 0 rfl rfl)
theorem dX6_orderValue_1 : decode cX6_orderValue 1 = .ok (.tableswitch 105 15 20 #[39, 60, 82, 90, 95, 100], 39) := by decide +kernel
theorem dX6_orderValue_40 : decode cX6_orderValue 40 = .ok (.aload_n 0, 1) := dk_42 (dk_at dksX6_orderValue_2 0 rfl rfl)
theorem dX6_orderValue_41 : decode cX6_orderValue 41 = .ok (.iload_n 2, 1) := dk_28 (dk_at dksX6_orderValue_2 1 rfl rfl)
theorem dX6_orderValue_42 : decode cX6_orderValue 42 = .ok (.invokevirtual 124, 3) := dk_182 0 124 (dk_at dksX6_orderValue_2 2 rfl rfl)
theorem dX6_orderValue_45 : decode cX6_orderValue 45 = .ok (.ifCond .eq 14, 3) := dk_153 0 14 (dk_at dksX6_orderValue_2 5 rfl rfl)
theorem dX6_orderValue_48 : decode cX6_orderValue 48 = .ok (.aload_n 0, 1) := dk_42 (dk_at dksX6_orderValue_2 8 rfl rfl)
theorem dX6_orderValue_49 : decode cX6_orderValue 49 = .ok (.getfield 28, 3) := dk_180 0 28 (dk_at dksX6_orderValue_2 9 rfl rfl)
theorem dX6_orderValue_52 : decode cX6_orderValue 52 = .ok (.iconst 0, 1) := dk_3 (dk_at dksX6_orderValue_2 12 rfl rfl)
theorem dX6_orderValue_53 : decode cX6_orderValue 53 = .ok (.iload_n 2, 1) := dk_28 (dk_at dksX6_orderValue_2 13 rfl rfl)
theorem dX6_orderValue_54 : decode cX6_orderValue 54 = .ok (.iadd, 1) := dk_96 (dk_at dksX6_orderValue_2 14 rfl rfl)
theorem dX6_orderValue_55 : decode cX6_orderValue 55 = .ok (.iaload, 1) := dk_46 (dk_at dksX6_orderValue_2 15 rfl rfl)
theorem dX6_orderValue_56 : decode cX6_orderValue 56 = .ok (.goto 4, 3) := dk_167 0 4 (dk_at dksX6_orderValue_2 16 rfl rfl)
theorem dX6_orderValue_59 : decode cX6_orderValue 59 = .ok (.iconst (-1), 1) := dk_2 (dk_at dksX6_orderValue_2 19 rfl rfl)
theorem dX6_orderValue_60 : decode cX6_orderValue 60 = .ok (.ireturn, 1) := dk_172 (dk_at dksX6_orderValue_2 20 rfl rfl)
theorem dX6_orderValue_61 : decode cX6_orderValue 61 = .ok (.aload_n 0, 1) := dk_42 (dk_at dksX6_orderValue_2 21 rfl rfl)
theorem dX6_orderValue_62 : decode cX6_orderValue 62 = .ok (.iload_n 2, 1) := dk_28 (dk_at dksX6_orderValue_2 22 rfl rfl)
theorem dX6_orderValue_63 : decode cX6_orderValue 63 = .ok (.invokevirtual 124, 3) := dk_182 0 124 (dk_at dksX6_orderValue_3 0 rfl rfl)
theorem dX6_orderValue_66 : decode cX6_orderValue 66 = .ok (.ifCond .eq 15, 3) := dk_153 0 15 (dk_at dksX6_orderValue_3 3 rfl rfl)
theorem dX6_orderValue_69 : decode cX6_orderValue 69 = .ok (.aload_n 0, 1) := dk_42 (dk_at dksX6_orderValue_3 6 rfl rfl)
theorem dX6_orderValue_70 : decode cX6_orderValue 70 = .ok (.getfield 28, 3) := dk_180 0 28 (dk_at dksX6_orderValue_3 7 rfl rfl)
theorem dX6_orderValue_73 : decode cX6_orderValue 73 = .ok (.bipush 12, 2) := dk_16 12 (dk_at dksX6_orderValue_3 10 rfl rfl)
theorem dX6_orderValue_75 : decode cX6_orderValue 75 = .ok (.iload_n 2, 1) := dk_28 (dk_at dksX6_orderValue_3 12 rfl rfl)
theorem dX6_orderValue_76 : decode cX6_orderValue 76 = .ok (.iadd, 1) := dk_96 (dk_at dksX6_orderValue_3 13 rfl rfl)
theorem dX6_orderValue_77 : decode cX6_orderValue 77 = .ok (.iaload, 1) := dk_46 (dk_at dksX6_orderValue_3 14 rfl rfl)
theorem dX6_orderValue_78 : decode cX6_orderValue 78 = .ok (.goto 4, 3) := dk_167 0 4 (dk_at dksX6_orderValue_3 15 rfl rfl)
theorem dX6_orderValue_81 : decode cX6_orderValue 81 = .ok (.iconst (-1), 1) := dk_2 (dk_at dksX6_orderValue_3 18 rfl rfl)
theorem dX6_orderValue_82 : decode cX6_orderValue 82 = .ok (.ireturn, 1) := dk_172 (dk_at dksX6_orderValue_3 19 rfl rfl)
theorem dX6_orderValue_83 : decode cX6_orderValue 83 = .ok (.aload_n 0, 1) := dk_42 (dk_at dksX6_orderValue_3 20 rfl rfl)
theorem dX6_orderValue_84 : decode cX6_orderValue 84 = .ok (.getfield 28, 3) := dk_180 0 28 (dk_at dksX6_orderValue_3 21 rfl rfl)
theorem dX6_orderValue_87 : decode cX6_orderValue 87 = .ok (.bipush 24, 2) := dk_16 24 (dk_at dksX6_orderValue_4 0 rfl rfl)
theorem dX6_orderValue_89 : decode cX6_orderValue 89 = .ok (.iaload, 1) := dk_46 (dk_at dksX6_orderValue_4 2 rfl rfl)
theorem dX6_orderValue_90 : decode cX6_orderValue 90 = .ok (.ireturn, 1) := dk_172 (dk_at dksX6_orderValue_4 3 rfl rfl)
theorem dX6_orderValue_91 : decode cX6_orderValue 91 = .ok (.aload_n 0, 1) := dk_42 (dk_at dksX6_orderValue_4 4 rfl rfl)
theorem dX6_orderValue_92 : decode cX6_orderValue 92 = .ok (.getfield 297, 3) := dk_180 1 41 (dk_at dksX6_orderValue_4 5 rfl rfl)
theorem dX6_orderValue_95 : decode cX6_orderValue 95 = .ok (.ireturn, 1) := dk_172 (dk_at dksX6_orderValue_4 8 rfl rfl)
theorem dX6_orderValue_96 : decode cX6_orderValue 96 = .ok (.aload_n 0, 1) := dk_42 (dk_at dksX6_orderValue_4 9 rfl rfl)
theorem dX6_orderValue_97 : decode cX6_orderValue 97 = .ok (.getfield 300, 3) := dk_180 1 44 (dk_at dksX6_orderValue_4 10 rfl rfl)
theorem dX6_orderValue_100 : decode cX6_orderValue 100 = .ok (.ireturn, 1) := dk_172 (dk_at dksX6_orderValue_4 13 rfl rfl)
theorem dX6_orderValue_101 : decode cX6_orderValue 101 = .ok (.aload_n 0, 1) := dk_42 (dk_at dksX6_orderValue_4 14 rfl rfl)
theorem dX6_orderValue_102 : decode cX6_orderValue 102 = .ok (.getfield 303, 3) := dk_180 1 47 (dk_at dksX6_orderValue_4 15 rfl rfl)
theorem dX6_orderValue_105 : decode cX6_orderValue 105 = .ok (.ireturn, 1) := dk_172 (dk_at dksX6_orderValue_4 18 rfl rfl)
theorem dX6_orderValue_106 : decode cX6_orderValue 106 = .ok (.aload_n 0, 1) := dk_42 (dk_at dksX6_orderValue_4 19 rfl rfl)
theorem dX6_orderValue_107 : decode cX6_orderValue 107 = .ok (.getfield 306, 3) := dk_180 1 50 (dk_at dksX6_orderValue_4 20 rfl rfl)
theorem dX6_orderValue_110 : decode cX6_orderValue 110 = .ok (.ireturn, 1) := dk_172 (dk_at dksX6_orderValue_4 23 rfl rfl)
abbrev cX6_bounded : ByteArray := prog_24_method_60_code
def yX6_bounded : MethodName := ⟨RX6, "bounded", "(JZ)J"⟩
def dkwX6_bounded_1 : List UInt8 := [181, 1, 15, 42, 180, 1, 15, 153, 0, 7, 9, 167, 0, 4, 31, 173]
abbrev dktX6_bounded_1 : List UInt8 := dkwX6_bounded_1 ++ []
def dkwX6_bounded_0 : List UInt8 := [29, 153, 0, 24, 31, 20, 1, 11, 148, 157, 0, 11, 31, 20, 1, 13, 148, 156, 0, 8, 42, 4]
abbrev dktX6_bounded_0 : List UInt8 := dkwX6_bounded_0 ++ dktX6_bounded_1
theorem dksX6_bounded_0 : cX6_bounded.data.toList.drop 0 = dktX6_bounded_0 := by decide +kernel
theorem dksX6_bounded_1 : cX6_bounded.data.toList.drop 22 = dktX6_bounded_1 := dk_seg dksX6_bounded_0 22 rfl rfl
theorem dX6_bounded_0 : decode cX6_bounded 0 = .ok (.iload_n 3, 1) := dk_29 (dk_at dksX6_bounded_0 0 rfl rfl)
theorem dX6_bounded_1 : decode cX6_bounded 1 = .ok (.ifCond .eq 24, 3) := dk_153 0 24 (dk_at dksX6_bounded_0 1 rfl rfl)
theorem dX6_bounded_4 : decode cX6_bounded 4 = .ok (.lload_n 1, 1) := dk_31 (dk_at dksX6_bounded_0 4 rfl rfl)
theorem dX6_bounded_5 : decode cX6_bounded 5 = .ok (.ldc2_w 267, 3) := dk_20 1 11 (dk_at dksX6_bounded_0 5 rfl rfl)
theorem dX6_bounded_8 : decode cX6_bounded 8 = .ok (.lcmp, 1) := dk_148 (dk_at dksX6_bounded_0 8 rfl rfl)
theorem dX6_bounded_9 : decode cX6_bounded 9 = .ok (.ifCond .gt 11, 3) := dk_157 0 11 (dk_at dksX6_bounded_0 9 rfl rfl)
theorem dX6_bounded_12 : decode cX6_bounded 12 = .ok (.lload_n 1, 1) := dk_31 (dk_at dksX6_bounded_0 12 rfl rfl)
theorem dX6_bounded_13 : decode cX6_bounded 13 = .ok (.ldc2_w 269, 3) := dk_20 1 13 (dk_at dksX6_bounded_0 13 rfl rfl)
theorem dX6_bounded_16 : decode cX6_bounded 16 = .ok (.lcmp, 1) := dk_148 (dk_at dksX6_bounded_0 16 rfl rfl)
theorem dX6_bounded_17 : decode cX6_bounded 17 = .ok (.ifCond .ge 8, 3) := dk_156 0 8 (dk_at dksX6_bounded_0 17 rfl rfl)
theorem dX6_bounded_20 : decode cX6_bounded 20 = .ok (.aload_n 0, 1) := dk_42 (dk_at dksX6_bounded_0 20 rfl rfl)
theorem dX6_bounded_21 : decode cX6_bounded 21 = .ok (.iconst 1, 1) := dk_4 (dk_at dksX6_bounded_0 21 rfl rfl)
theorem dX6_bounded_22 : decode cX6_bounded 22 = .ok (.putfield 271, 3) := dk_181 1 15 (dk_at dksX6_bounded_1 0 rfl rfl)
theorem dX6_bounded_25 : decode cX6_bounded 25 = .ok (.aload_n 0, 1) := dk_42 (dk_at dksX6_bounded_1 3 rfl rfl)
theorem dX6_bounded_26 : decode cX6_bounded 26 = .ok (.getfield 271, 3) := dk_180 1 15 (dk_at dksX6_bounded_1 4 rfl rfl)
theorem dX6_bounded_29 : decode cX6_bounded 29 = .ok (.ifCond .eq 7, 3) := dk_153 0 7 (dk_at dksX6_bounded_1 7 rfl rfl)
theorem dX6_bounded_32 : decode cX6_bounded 32 = .ok (.lconst 0, 1) := dk_9 (dk_at dksX6_bounded_1 10 rfl rfl)
theorem dX6_bounded_33 : decode cX6_bounded 33 = .ok (.goto 4, 3) := dk_167 0 4 (dk_at dksX6_bounded_1 11 rfl rfl)
theorem dX6_bounded_36 : decode cX6_bounded 36 = .ok (.lload_n 1, 1) := dk_31 (dk_at dksX6_bounded_1 14 rfl rfl)
theorem dX6_bounded_37 : decode cX6_bounded 37 = .ok (.lreturn, 1) := dk_173 (dk_at dksX6_bounded_1 15 rfl rfl)
abbrev cX6_testOf : ByteArray := prog_24_method_65_code
def yX6_testOf : MethodName := ⟨RX6, "testOf", "(Z)Z"⟩
def dkwX6_testOf_2 : List UInt8 := [167, 255, 216, 28, 172]
abbrev dktX6_testOf_2 : List UInt8 := dkwX6_testOf_2 ++ []
def dkwX6_testOf_1 : List UInt8 := [167, 0, 4, 3, 182, 1, 53, 62, 28, 154, 0, 7, 29, 153, 0, 7, 4, 167, 0, 4, 3, 61]
abbrev dktX6_testOf_1 : List UInt8 := dkwX6_testOf_1 ++ dktX6_testOf_2
def dkwX6_testOf_0 : List UInt8 := [42, 27, 182, 1, 53, 61, 42, 8, 182, 1, 29, 153, 0, 38, 42, 27, 153, 0, 11, 28, 154, 0, 7, 4]
abbrev dktX6_testOf_0 : List UInt8 := dkwX6_testOf_0 ++ dktX6_testOf_1
theorem dksX6_testOf_0 : cX6_testOf.data.toList.drop 0 = dktX6_testOf_0 := by decide +kernel
theorem dksX6_testOf_1 : cX6_testOf.data.toList.drop 24 = dktX6_testOf_1 := dk_seg dksX6_testOf_0 24 rfl rfl
theorem dksX6_testOf_2 : cX6_testOf.data.toList.drop 46 = dktX6_testOf_2 := dk_seg dksX6_testOf_1 22 rfl rfl
theorem dX6_testOf_0 : decode cX6_testOf 0 = .ok (.aload_n 0, 1) := dk_42 (dk_at dksX6_testOf_0 0 rfl rfl)
theorem dX6_testOf_1 : decode cX6_testOf 1 = .ok (.iload_n 1, 1) := dk_27 (dk_at dksX6_testOf_0 1 rfl rfl)
theorem dX6_testOf_2 : decode cX6_testOf 2 = .ok (.invokevirtual 309, 3) := dk_182 1 53 (dk_at dksX6_testOf_0 2 rfl rfl)
theorem dX6_testOf_5 : decode cX6_testOf 5 = .ok (.istore_n 2, 1) := dk_61 (dk_at dksX6_testOf_0 5 rfl rfl)
theorem dX6_testOf_6 : decode cX6_testOf 6 = .ok (.aload_n 0, 1) := dk_42 (dk_at dksX6_testOf_0 6 rfl rfl)
theorem dX6_testOf_7 : decode cX6_testOf 7 = .ok (.iconst 5, 1) := dk_8 (dk_at dksX6_testOf_0 7 rfl rfl)
theorem dX6_testOf_8 : decode cX6_testOf 8 = .ok (.invokevirtual 285, 3) := dk_182 1 29 (dk_at dksX6_testOf_0 8 rfl rfl)
theorem dX6_testOf_11 : decode cX6_testOf 11 = .ok (.ifCond .eq 38, 3) := dk_153 0 38 (dk_at dksX6_testOf_0 11 rfl rfl)
theorem dX6_testOf_14 : decode cX6_testOf 14 = .ok (.aload_n 0, 1) := dk_42 (dk_at dksX6_testOf_0 14 rfl rfl)
theorem dX6_testOf_15 : decode cX6_testOf 15 = .ok (.iload_n 1, 1) := dk_27 (dk_at dksX6_testOf_0 15 rfl rfl)
theorem dX6_testOf_16 : decode cX6_testOf 16 = .ok (.ifCond .eq 11, 3) := dk_153 0 11 (dk_at dksX6_testOf_0 16 rfl rfl)
theorem dX6_testOf_19 : decode cX6_testOf 19 = .ok (.iload_n 2, 1) := dk_28 (dk_at dksX6_testOf_0 19 rfl rfl)
theorem dX6_testOf_20 : decode cX6_testOf 20 = .ok (.ifCond .ne 7, 3) := dk_154 0 7 (dk_at dksX6_testOf_0 20 rfl rfl)
theorem dX6_testOf_23 : decode cX6_testOf 23 = .ok (.iconst 1, 1) := dk_4 (dk_at dksX6_testOf_0 23 rfl rfl)
theorem dX6_testOf_24 : decode cX6_testOf 24 = .ok (.goto 4, 3) := dk_167 0 4 (dk_at dksX6_testOf_1 0 rfl rfl)
theorem dX6_testOf_27 : decode cX6_testOf 27 = .ok (.iconst 0, 1) := dk_3 (dk_at dksX6_testOf_1 3 rfl rfl)
theorem dX6_testOf_28 : decode cX6_testOf 28 = .ok (.invokevirtual 309, 3) := dk_182 1 53 (dk_at dksX6_testOf_1 4 rfl rfl)
theorem dX6_testOf_31 : decode cX6_testOf 31 = .ok (.istore_n 3, 1) := dk_62 (dk_at dksX6_testOf_1 7 rfl rfl)
theorem dX6_testOf_32 : decode cX6_testOf 32 = .ok (.iload_n 2, 1) := dk_28 (dk_at dksX6_testOf_1 8 rfl rfl)
theorem dX6_testOf_33 : decode cX6_testOf 33 = .ok (.ifCond .ne 7, 3) := dk_154 0 7 (dk_at dksX6_testOf_1 9 rfl rfl)
theorem dX6_testOf_36 : decode cX6_testOf 36 = .ok (.iload_n 3, 1) := dk_29 (dk_at dksX6_testOf_1 12 rfl rfl)
theorem dX6_testOf_37 : decode cX6_testOf 37 = .ok (.ifCond .eq 7, 3) := dk_153 0 7 (dk_at dksX6_testOf_1 13 rfl rfl)
theorem dX6_testOf_40 : decode cX6_testOf 40 = .ok (.iconst 1, 1) := dk_4 (dk_at dksX6_testOf_1 16 rfl rfl)
theorem dX6_testOf_41 : decode cX6_testOf 41 = .ok (.goto 4, 3) := dk_167 0 4 (dk_at dksX6_testOf_1 17 rfl rfl)
theorem dX6_testOf_44 : decode cX6_testOf 44 = .ok (.iconst 0, 1) := dk_3 (dk_at dksX6_testOf_1 20 rfl rfl)
theorem dX6_testOf_45 : decode cX6_testOf 45 = .ok (.istore_n 2, 1) := dk_61 (dk_at dksX6_testOf_1 21 rfl rfl)
theorem dX6_testOf_46 : decode cX6_testOf 46 = .ok (.goto (-40), 3) := dk_167 255 216 (dk_at dksX6_testOf_2 0 rfl rfl)
theorem dX6_testOf_49 : decode cX6_testOf 49 = .ok (.iload_n 2, 1) := dk_28 (dk_at dksX6_testOf_2 3 rfl rfl)
theorem dX6_testOf_50 : decode cX6_testOf 50 = .ok (.ireturn, 1) := dk_172 (dk_at dksX6_testOf_2 4 rfl rfl)
abbrev cX6_bothOf : ByteArray := prog_24_method_66_code
def yX6_bothOf : MethodName := ⟨RX6, "bothOf", "(Z)Z"⟩
def dkwX6_bothOf_2 : List UInt8 := [167, 255, 215, 28, 172]
abbrev dktX6_bothOf_2 : List UInt8 := dkwX6_bothOf_2 ++ []
def dkwX6_bothOf_1 : List UInt8 := [4, 167, 0, 4, 3, 182, 1, 56, 62, 28, 153, 0, 11, 29, 153, 0, 7, 4, 167, 0, 4, 3, 61]
abbrev dktX6_bothOf_1 : List UInt8 := dkwX6_bothOf_1 ++ dktX6_bothOf_2
def dkwX6_bothOf_0 : List UInt8 := [42, 27, 182, 1, 56, 61, 42, 16, 6, 182, 1, 29, 153, 0, 38, 42, 27, 153, 0, 11, 28, 153, 0, 7]
abbrev dktX6_bothOf_0 : List UInt8 := dkwX6_bothOf_0 ++ dktX6_bothOf_1
theorem dksX6_bothOf_0 : cX6_bothOf.data.toList.drop 0 = dktX6_bothOf_0 := by decide +kernel
theorem dksX6_bothOf_1 : cX6_bothOf.data.toList.drop 24 = dktX6_bothOf_1 := dk_seg dksX6_bothOf_0 24 rfl rfl
theorem dksX6_bothOf_2 : cX6_bothOf.data.toList.drop 47 = dktX6_bothOf_2 := dk_seg dksX6_bothOf_1 23 rfl rfl
theorem dX6_bothOf_0 : decode cX6_bothOf 0 = .ok (.aload_n 0, 1) := dk_42 (dk_at dksX6_bothOf_0 0 rfl rfl)
theorem dX6_bothOf_1 : decode cX6_bothOf 1 = .ok (.iload_n 1, 1) := dk_27 (dk_at dksX6_bothOf_0 1 rfl rfl)
theorem dX6_bothOf_2 : decode cX6_bothOf 2 = .ok (.invokevirtual 312, 3) := dk_182 1 56 (dk_at dksX6_bothOf_0 2 rfl rfl)
theorem dX6_bothOf_5 : decode cX6_bothOf 5 = .ok (.istore_n 2, 1) := dk_61 (dk_at dksX6_bothOf_0 5 rfl rfl)
theorem dX6_bothOf_6 : decode cX6_bothOf 6 = .ok (.aload_n 0, 1) := dk_42 (dk_at dksX6_bothOf_0 6 rfl rfl)
theorem dX6_bothOf_7 : decode cX6_bothOf 7 = .ok (.bipush 6, 2) := dk_16 6 (dk_at dksX6_bothOf_0 7 rfl rfl)
theorem dX6_bothOf_9 : decode cX6_bothOf 9 = .ok (.invokevirtual 285, 3) := dk_182 1 29 (dk_at dksX6_bothOf_0 9 rfl rfl)
theorem dX6_bothOf_12 : decode cX6_bothOf 12 = .ok (.ifCond .eq 38, 3) := dk_153 0 38 (dk_at dksX6_bothOf_0 12 rfl rfl)
theorem dX6_bothOf_15 : decode cX6_bothOf 15 = .ok (.aload_n 0, 1) := dk_42 (dk_at dksX6_bothOf_0 15 rfl rfl)
theorem dX6_bothOf_16 : decode cX6_bothOf 16 = .ok (.iload_n 1, 1) := dk_27 (dk_at dksX6_bothOf_0 16 rfl rfl)
theorem dX6_bothOf_17 : decode cX6_bothOf 17 = .ok (.ifCond .eq 11, 3) := dk_153 0 11 (dk_at dksX6_bothOf_0 17 rfl rfl)
theorem dX6_bothOf_20 : decode cX6_bothOf 20 = .ok (.iload_n 2, 1) := dk_28 (dk_at dksX6_bothOf_0 20 rfl rfl)
theorem dX6_bothOf_21 : decode cX6_bothOf 21 = .ok (.ifCond .eq 7, 3) := dk_153 0 7 (dk_at dksX6_bothOf_0 21 rfl rfl)
theorem dX6_bothOf_24 : decode cX6_bothOf 24 = .ok (.iconst 1, 1) := dk_4 (dk_at dksX6_bothOf_1 0 rfl rfl)
theorem dX6_bothOf_25 : decode cX6_bothOf 25 = .ok (.goto 4, 3) := dk_167 0 4 (dk_at dksX6_bothOf_1 1 rfl rfl)
theorem dX6_bothOf_28 : decode cX6_bothOf 28 = .ok (.iconst 0, 1) := dk_3 (dk_at dksX6_bothOf_1 4 rfl rfl)
theorem dX6_bothOf_29 : decode cX6_bothOf 29 = .ok (.invokevirtual 312, 3) := dk_182 1 56 (dk_at dksX6_bothOf_1 5 rfl rfl)
theorem dX6_bothOf_32 : decode cX6_bothOf 32 = .ok (.istore_n 3, 1) := dk_62 (dk_at dksX6_bothOf_1 8 rfl rfl)
theorem dX6_bothOf_33 : decode cX6_bothOf 33 = .ok (.iload_n 2, 1) := dk_28 (dk_at dksX6_bothOf_1 9 rfl rfl)
theorem dX6_bothOf_34 : decode cX6_bothOf 34 = .ok (.ifCond .eq 11, 3) := dk_153 0 11 (dk_at dksX6_bothOf_1 10 rfl rfl)
theorem dX6_bothOf_37 : decode cX6_bothOf 37 = .ok (.iload_n 3, 1) := dk_29 (dk_at dksX6_bothOf_1 13 rfl rfl)
theorem dX6_bothOf_38 : decode cX6_bothOf 38 = .ok (.ifCond .eq 7, 3) := dk_153 0 7 (dk_at dksX6_bothOf_1 14 rfl rfl)
theorem dX6_bothOf_41 : decode cX6_bothOf 41 = .ok (.iconst 1, 1) := dk_4 (dk_at dksX6_bothOf_1 17 rfl rfl)
theorem dX6_bothOf_42 : decode cX6_bothOf 42 = .ok (.goto 4, 3) := dk_167 0 4 (dk_at dksX6_bothOf_1 18 rfl rfl)
theorem dX6_bothOf_45 : decode cX6_bothOf 45 = .ok (.iconst 0, 1) := dk_3 (dk_at dksX6_bothOf_1 21 rfl rfl)
theorem dX6_bothOf_46 : decode cX6_bothOf 46 = .ok (.istore_n 2, 1) := dk_61 (dk_at dksX6_bothOf_1 22 rfl rfl)
theorem dX6_bothOf_47 : decode cX6_bothOf 47 = .ok (.goto (-41), 3) := dk_167 255 215 (dk_at dksX6_bothOf_2 0 rfl rfl)
theorem dX6_bothOf_50 : decode cX6_bothOf 50 = .ok (.iload_n 2, 1) := dk_28 (dk_at dksX6_bothOf_2 3 rfl rfl)
theorem dX6_bothOf_51 : decode cX6_bothOf 51 = .ok (.ireturn, 1) := dk_172 (dk_at dksX6_bothOf_2 4 rfl rfl)
abbrev cX6_plainOf : ByteArray := prog_24_method_67_code
def yX6_plainOf : MethodName := ⟨RX6, "plainOf", "(Z)Z"⟩
def dkwX6_plainOf_1 : List UInt8 := [42, 27, 182, 1, 59, 28, 159, 0, 7, 4, 167, 0, 4, 3, 172]
abbrev dktX6_plainOf_1 : List UInt8 := dkwX6_plainOf_1 ++ []
def dkwX6_plainOf_0 : List UInt8 := [3, 61, 42, 16, 7, 182, 1, 29, 153, 0, 16, 28, 154, 0, 7, 4, 167, 0, 4, 3, 61, 167, 255, 237]
abbrev dktX6_plainOf_0 : List UInt8 := dkwX6_plainOf_0 ++ dktX6_plainOf_1
theorem dksX6_plainOf_0 : cX6_plainOf.data.toList.drop 0 = dktX6_plainOf_0 := by decide +kernel
theorem dksX6_plainOf_1 : cX6_plainOf.data.toList.drop 24 = dktX6_plainOf_1 := dk_seg dksX6_plainOf_0 24 rfl rfl
theorem dX6_plainOf_0 : decode cX6_plainOf 0 = .ok (.iconst 0, 1) := dk_3 (dk_at dksX6_plainOf_0 0 rfl rfl)
theorem dX6_plainOf_1 : decode cX6_plainOf 1 = .ok (.istore_n 2, 1) := dk_61 (dk_at dksX6_plainOf_0 1 rfl rfl)
theorem dX6_plainOf_2 : decode cX6_plainOf 2 = .ok (.aload_n 0, 1) := dk_42 (dk_at dksX6_plainOf_0 2 rfl rfl)
theorem dX6_plainOf_3 : decode cX6_plainOf 3 = .ok (.bipush 7, 2) := dk_16 7 (dk_at dksX6_plainOf_0 3 rfl rfl)
theorem dX6_plainOf_5 : decode cX6_plainOf 5 = .ok (.invokevirtual 285, 3) := dk_182 1 29 (dk_at dksX6_plainOf_0 5 rfl rfl)
theorem dX6_plainOf_8 : decode cX6_plainOf 8 = .ok (.ifCond .eq 16, 3) := dk_153 0 16 (dk_at dksX6_plainOf_0 8 rfl rfl)
theorem dX6_plainOf_11 : decode cX6_plainOf 11 = .ok (.iload_n 2, 1) := dk_28 (dk_at dksX6_plainOf_0 11 rfl rfl)
theorem dX6_plainOf_12 : decode cX6_plainOf 12 = .ok (.ifCond .ne 7, 3) := dk_154 0 7 (dk_at dksX6_plainOf_0 12 rfl rfl)
theorem dX6_plainOf_15 : decode cX6_plainOf 15 = .ok (.iconst 1, 1) := dk_4 (dk_at dksX6_plainOf_0 15 rfl rfl)
theorem dX6_plainOf_16 : decode cX6_plainOf 16 = .ok (.goto 4, 3) := dk_167 0 4 (dk_at dksX6_plainOf_0 16 rfl rfl)
theorem dX6_plainOf_19 : decode cX6_plainOf 19 = .ok (.iconst 0, 1) := dk_3 (dk_at dksX6_plainOf_0 19 rfl rfl)
theorem dX6_plainOf_20 : decode cX6_plainOf 20 = .ok (.istore_n 2, 1) := dk_61 (dk_at dksX6_plainOf_0 20 rfl rfl)
theorem dX6_plainOf_21 : decode cX6_plainOf 21 = .ok (.goto (-19), 3) := dk_167 255 237 (dk_at dksX6_plainOf_0 21 rfl rfl)
theorem dX6_plainOf_24 : decode cX6_plainOf 24 = .ok (.aload_n 0, 1) := dk_42 (dk_at dksX6_plainOf_1 0 rfl rfl)
theorem dX6_plainOf_25 : decode cX6_plainOf 25 = .ok (.iload_n 1, 1) := dk_27 (dk_at dksX6_plainOf_1 1 rfl rfl)
theorem dX6_plainOf_26 : decode cX6_plainOf 26 = .ok (.invokevirtual 315, 3) := dk_182 1 59 (dk_at dksX6_plainOf_1 2 rfl rfl)
theorem dX6_plainOf_29 : decode cX6_plainOf 29 = .ok (.iload_n 2, 1) := dk_28 (dk_at dksX6_plainOf_1 5 rfl rfl)
theorem dX6_plainOf_30 : decode cX6_plainOf 30 = .ok (.if_icmp .eq 7, 3) := dk_159 0 7 (dk_at dksX6_plainOf_1 6 rfl rfl)
theorem dX6_plainOf_33 : decode cX6_plainOf 33 = .ok (.iconst 1, 1) := dk_4 (dk_at dksX6_plainOf_1 9 rfl rfl)
theorem dX6_plainOf_34 : decode cX6_plainOf 34 = .ok (.goto 4, 3) := dk_167 0 4 (dk_at dksX6_plainOf_1 10 rfl rfl)
theorem dX6_plainOf_37 : decode cX6_plainOf 37 = .ok (.iconst 0, 1) := dk_3 (dk_at dksX6_plainOf_1 13 rfl rfl)
theorem dX6_plainOf_38 : decode cX6_plainOf 38 = .ok (.ireturn, 1) := dk_172 (dk_at dksX6_plainOf_1 14 rfl rfl)
abbrev cX6_positiveOf : ByteArray := prog_24_method_68_code
def yX6_positiveOf : MethodName := ⟨RX6, "positiveOf", "(Z)Z"⟩
def dkwX6_positiveOf_5 : List UInt8 := [154, 0, 7, 4, 167, 0, 4, 3, 172]
abbrev dktX6_positiveOf_5 : List UInt8 := dkwX6_positiveOf_5 ++ []
def dkwX6_positiveOf_4 : List UInt8 := [21, 4, 16, 62, 184, 0, 220, 160, 0, 13, 32, 22, 5, 148, 158, 0, 17, 167, 0, 10, 32, 22, 5, 148]
abbrev dktX6_positiveOf_4 : List UInt8 := dkwX6_positiveOf_4 ++ dktX6_positiveOf_5
def dkwX6_positiveOf_3 : List UInt8 := [154, 0, 54, 21, 4, 16, 60, 184, 0, 220, 160, 0, 13, 32, 22, 5, 148, 156, 0, 37, 167, 0, 30]
abbrev dktX6_positiveOf_3 : List UInt8 := dkwX6_positiveOf_3 ++ dktX6_positiveOf_4
def dkwX6_positiveOf_2 : List UInt8 := [180, 1, 5, 4, 96, 181, 1, 5, 42, 27, 182, 1, 32, 55, 5, 27, 153, 0, 61, 42, 180, 1, 15]
abbrev dktX6_positiveOf_2 : List UInt8 := dkwX6_positiveOf_2 ++ dktX6_positiveOf_3
def dkwX6_positiveOf_1 : List UInt8 := [96, 181, 1, 5, 28, 172, 42, 27, 182, 1, 32, 65, 42, 42, 180, 1, 5, 182, 1, 8, 54, 4, 42, 89]
abbrev dktX6_positiveOf_1 : List UInt8 := dkwX6_positiveOf_1 ++ dktX6_positiveOf_2
def dkwX6_positiveOf_0 : List UInt8 := [42, 16, 40, 184, 0, 220, 182, 1, 29, 153, 0, 21, 42, 27, 182, 1, 62, 61, 42, 89, 180, 1, 5, 4]
abbrev dktX6_positiveOf_0 : List UInt8 := dkwX6_positiveOf_0 ++ dktX6_positiveOf_1
theorem dksX6_positiveOf_0 : cX6_positiveOf.data.toList.drop 0 = dktX6_positiveOf_0 := by decide +kernel
theorem dksX6_positiveOf_1 : cX6_positiveOf.data.toList.drop 24 = dktX6_positiveOf_1 := dk_seg dksX6_positiveOf_0 24 rfl rfl
theorem dksX6_positiveOf_2 : cX6_positiveOf.data.toList.drop 48 = dktX6_positiveOf_2 := dk_seg dksX6_positiveOf_1 24 rfl rfl
theorem dksX6_positiveOf_3 : cX6_positiveOf.data.toList.drop 71 = dktX6_positiveOf_3 := dk_seg dksX6_positiveOf_2 23 rfl rfl
theorem dksX6_positiveOf_4 : cX6_positiveOf.data.toList.drop 94 = dktX6_positiveOf_4 := dk_seg dksX6_positiveOf_3 23 rfl rfl
theorem dksX6_positiveOf_5 : cX6_positiveOf.data.toList.drop 118 = dktX6_positiveOf_5 := dk_seg dksX6_positiveOf_4 24 rfl rfl
theorem dX6_positiveOf_0 : decode cX6_positiveOf 0 = .ok (.aload_n 0, 1) := dk_42 (dk_at dksX6_positiveOf_0 0 rfl rfl)
theorem dX6_positiveOf_1 : decode cX6_positiveOf 1 = .ok (.bipush 40, 2) := dk_16 40 (dk_at dksX6_positiveOf_0 1 rfl rfl)
theorem dX6_positiveOf_3 : decode cX6_positiveOf 3 = .ok (.invokestatic 220, 3) := dk_184 0 220 (dk_at dksX6_positiveOf_0 3 rfl rfl)
theorem dX6_positiveOf_6 : decode cX6_positiveOf 6 = .ok (.invokevirtual 285, 3) := dk_182 1 29 (dk_at dksX6_positiveOf_0 6 rfl rfl)
theorem dX6_positiveOf_9 : decode cX6_positiveOf 9 = .ok (.ifCond .eq 21, 3) := dk_153 0 21 (dk_at dksX6_positiveOf_0 9 rfl rfl)
theorem dX6_positiveOf_12 : decode cX6_positiveOf 12 = .ok (.aload_n 0, 1) := dk_42 (dk_at dksX6_positiveOf_0 12 rfl rfl)
theorem dX6_positiveOf_13 : decode cX6_positiveOf 13 = .ok (.iload_n 1, 1) := dk_27 (dk_at dksX6_positiveOf_0 13 rfl rfl)
theorem dX6_positiveOf_14 : decode cX6_positiveOf 14 = .ok (.invokevirtual 318, 3) := dk_182 1 62 (dk_at dksX6_positiveOf_0 14 rfl rfl)
theorem dX6_positiveOf_17 : decode cX6_positiveOf 17 = .ok (.istore_n 2, 1) := dk_61 (dk_at dksX6_positiveOf_0 17 rfl rfl)
theorem dX6_positiveOf_18 : decode cX6_positiveOf 18 = .ok (.aload_n 0, 1) := dk_42 (dk_at dksX6_positiveOf_0 18 rfl rfl)
theorem dX6_positiveOf_19 : decode cX6_positiveOf 19 = .ok (.dup, 1) := dk_89 (dk_at dksX6_positiveOf_0 19 rfl rfl)
theorem dX6_positiveOf_20 : decode cX6_positiveOf 20 = .ok (.getfield 261, 3) := dk_180 1 5 (dk_at dksX6_positiveOf_0 20 rfl rfl)
theorem dX6_positiveOf_23 : decode cX6_positiveOf 23 = .ok (.iconst 1, 1) := dk_4 (dk_at dksX6_positiveOf_0 23 rfl rfl)
theorem dX6_positiveOf_24 : decode cX6_positiveOf 24 = .ok (.iadd, 1) := dk_96 (dk_at dksX6_positiveOf_1 0 rfl rfl)
theorem dX6_positiveOf_25 : decode cX6_positiveOf 25 = .ok (.putfield 261, 3) := dk_181 1 5 (dk_at dksX6_positiveOf_1 1 rfl rfl)
theorem dX6_positiveOf_28 : decode cX6_positiveOf 28 = .ok (.iload_n 2, 1) := dk_28 (dk_at dksX6_positiveOf_1 4 rfl rfl)
theorem dX6_positiveOf_29 : decode cX6_positiveOf 29 = .ok (.ireturn, 1) := dk_172 (dk_at dksX6_positiveOf_1 5 rfl rfl)
theorem dX6_positiveOf_30 : decode cX6_positiveOf 30 = .ok (.aload_n 0, 1) := dk_42 (dk_at dksX6_positiveOf_1 6 rfl rfl)
theorem dX6_positiveOf_31 : decode cX6_positiveOf 31 = .ok (.iload_n 1, 1) := dk_27 (dk_at dksX6_positiveOf_1 7 rfl rfl)
theorem dX6_positiveOf_32 : decode cX6_positiveOf 32 = .ok (.invokevirtual 288, 3) := dk_182 1 32 (dk_at dksX6_positiveOf_1 8 rfl rfl)
theorem dX6_positiveOf_35 : decode cX6_positiveOf 35 = .ok (.lstore_n 2, 1) := dk_65 (dk_at dksX6_positiveOf_1 11 rfl rfl)
theorem dX6_positiveOf_36 : decode cX6_positiveOf 36 = .ok (.aload_n 0, 1) := dk_42 (dk_at dksX6_positiveOf_1 12 rfl rfl)
theorem dX6_positiveOf_37 : decode cX6_positiveOf 37 = .ok (.aload_n 0, 1) := dk_42 (dk_at dksX6_positiveOf_1 13 rfl rfl)
theorem dX6_positiveOf_38 : decode cX6_positiveOf 38 = .ok (.getfield 261, 3) := dk_180 1 5 (dk_at dksX6_positiveOf_1 14 rfl rfl)
theorem dX6_positiveOf_41 : decode cX6_positiveOf 41 = .ok (.invokevirtual 264, 3) := dk_182 1 8 (dk_at dksX6_positiveOf_1 17 rfl rfl)
theorem dX6_positiveOf_44 : decode cX6_positiveOf 44 = .ok (.istore 4, 2) := dk_54 4 (dk_at dksX6_positiveOf_1 20 rfl rfl)
theorem dX6_positiveOf_46 : decode cX6_positiveOf 46 = .ok (.aload_n 0, 1) := dk_42 (dk_at dksX6_positiveOf_1 22 rfl rfl)
theorem dX6_positiveOf_47 : decode cX6_positiveOf 47 = .ok (.dup, 1) := dk_89 (dk_at dksX6_positiveOf_1 23 rfl rfl)
theorem dX6_positiveOf_48 : decode cX6_positiveOf 48 = .ok (.getfield 261, 3) := dk_180 1 5 (dk_at dksX6_positiveOf_2 0 rfl rfl)
theorem dX6_positiveOf_51 : decode cX6_positiveOf 51 = .ok (.iconst 1, 1) := dk_4 (dk_at dksX6_positiveOf_2 3 rfl rfl)
theorem dX6_positiveOf_52 : decode cX6_positiveOf 52 = .ok (.iadd, 1) := dk_96 (dk_at dksX6_positiveOf_2 4 rfl rfl)
theorem dX6_positiveOf_53 : decode cX6_positiveOf 53 = .ok (.putfield 261, 3) := dk_181 1 5 (dk_at dksX6_positiveOf_2 5 rfl rfl)
theorem dX6_positiveOf_56 : decode cX6_positiveOf 56 = .ok (.aload_n 0, 1) := dk_42 (dk_at dksX6_positiveOf_2 8 rfl rfl)
theorem dX6_positiveOf_57 : decode cX6_positiveOf 57 = .ok (.iload_n 1, 1) := dk_27 (dk_at dksX6_positiveOf_2 9 rfl rfl)
theorem dX6_positiveOf_58 : decode cX6_positiveOf 58 = .ok (.invokevirtual 288, 3) := dk_182 1 32 (dk_at dksX6_positiveOf_2 10 rfl rfl)
theorem dX6_positiveOf_61 : decode cX6_positiveOf 61 = .ok (.lstore 5, 2) := dk_55 5 (dk_at dksX6_positiveOf_2 13 rfl rfl)
theorem dX6_positiveOf_63 : decode cX6_positiveOf 63 = .ok (.iload_n 1, 1) := dk_27 (dk_at dksX6_positiveOf_2 15 rfl rfl)
theorem dX6_positiveOf_64 : decode cX6_positiveOf 64 = .ok (.ifCond .eq 61, 3) := dk_153 0 61 (dk_at dksX6_positiveOf_2 16 rfl rfl)
theorem dX6_positiveOf_67 : decode cX6_positiveOf 67 = .ok (.aload_n 0, 1) := dk_42 (dk_at dksX6_positiveOf_2 19 rfl rfl)
theorem dX6_positiveOf_68 : decode cX6_positiveOf 68 = .ok (.getfield 271, 3) := dk_180 1 15 (dk_at dksX6_positiveOf_2 20 rfl rfl)
theorem dX6_positiveOf_71 : decode cX6_positiveOf 71 = .ok (.ifCond .ne 54, 3) := dk_154 0 54 (dk_at dksX6_positiveOf_3 0 rfl rfl)
theorem dX6_positiveOf_74 : decode cX6_positiveOf 74 = .ok (.iload 4, 2) := dk_21 4 (dk_at dksX6_positiveOf_3 3 rfl rfl)
theorem dX6_positiveOf_76 : decode cX6_positiveOf 76 = .ok (.bipush 60, 2) := dk_16 60 (dk_at dksX6_positiveOf_3 5 rfl rfl)
theorem dX6_positiveOf_78 : decode cX6_positiveOf 78 = .ok (.invokestatic 220, 3) := dk_184 0 220 (dk_at dksX6_positiveOf_3 7 rfl rfl)
theorem dX6_positiveOf_81 : decode cX6_positiveOf 81 = .ok (.if_icmp .ne 13, 3) := dk_160 0 13 (dk_at dksX6_positiveOf_3 10 rfl rfl)
theorem dX6_positiveOf_84 : decode cX6_positiveOf 84 = .ok (.lload_n 2, 1) := dk_32 (dk_at dksX6_positiveOf_3 13 rfl rfl)
theorem dX6_positiveOf_85 : decode cX6_positiveOf 85 = .ok (.lload 5, 2) := dk_22 5 (dk_at dksX6_positiveOf_3 14 rfl rfl)
theorem dX6_positiveOf_87 : decode cX6_positiveOf 87 = .ok (.lcmp, 1) := dk_148 (dk_at dksX6_positiveOf_3 16 rfl rfl)
theorem dX6_positiveOf_88 : decode cX6_positiveOf 88 = .ok (.ifCond .ge 37, 3) := dk_156 0 37 (dk_at dksX6_positiveOf_3 17 rfl rfl)
theorem dX6_positiveOf_91 : decode cX6_positiveOf 91 = .ok (.goto 30, 3) := dk_167 0 30 (dk_at dksX6_positiveOf_3 20 rfl rfl)
theorem dX6_positiveOf_94 : decode cX6_positiveOf 94 = .ok (.iload 4, 2) := dk_21 4 (dk_at dksX6_positiveOf_4 0 rfl rfl)
theorem dX6_positiveOf_96 : decode cX6_positiveOf 96 = .ok (.bipush 62, 2) := dk_16 62 (dk_at dksX6_positiveOf_4 2 rfl rfl)
theorem dX6_positiveOf_98 : decode cX6_positiveOf 98 = .ok (.invokestatic 220, 3) := dk_184 0 220 (dk_at dksX6_positiveOf_4 4 rfl rfl)
theorem dX6_positiveOf_101 : decode cX6_positiveOf 101 = .ok (.if_icmp .ne 13, 3) := dk_160 0 13 (dk_at dksX6_positiveOf_4 7 rfl rfl)
theorem dX6_positiveOf_104 : decode cX6_positiveOf 104 = .ok (.lload_n 2, 1) := dk_32 (dk_at dksX6_positiveOf_4 10 rfl rfl)
theorem dX6_positiveOf_105 : decode cX6_positiveOf 105 = .ok (.lload 5, 2) := dk_22 5 (dk_at dksX6_positiveOf_4 11 rfl rfl)
theorem dX6_positiveOf_107 : decode cX6_positiveOf 107 = .ok (.lcmp, 1) := dk_148 (dk_at dksX6_positiveOf_4 13 rfl rfl)
theorem dX6_positiveOf_108 : decode cX6_positiveOf 108 = .ok (.ifCond .le 17, 3) := dk_158 0 17 (dk_at dksX6_positiveOf_4 14 rfl rfl)
theorem dX6_positiveOf_111 : decode cX6_positiveOf 111 = .ok (.goto 10, 3) := dk_167 0 10 (dk_at dksX6_positiveOf_4 17 rfl rfl)
theorem dX6_positiveOf_114 : decode cX6_positiveOf 114 = .ok (.lload_n 2, 1) := dk_32 (dk_at dksX6_positiveOf_4 20 rfl rfl)
theorem dX6_positiveOf_115 : decode cX6_positiveOf 115 = .ok (.lload 5, 2) := dk_22 5 (dk_at dksX6_positiveOf_4 21 rfl rfl)
theorem dX6_positiveOf_117 : decode cX6_positiveOf 117 = .ok (.lcmp, 1) := dk_148 (dk_at dksX6_positiveOf_4 23 rfl rfl)
theorem dX6_positiveOf_118 : decode cX6_positiveOf 118 = .ok (.ifCond .ne 7, 3) := dk_154 0 7 (dk_at dksX6_positiveOf_5 0 rfl rfl)
theorem dX6_positiveOf_121 : decode cX6_positiveOf 121 = .ok (.iconst 1, 1) := dk_4 (dk_at dksX6_positiveOf_5 3 rfl rfl)
theorem dX6_positiveOf_122 : decode cX6_positiveOf 122 = .ok (.goto 4, 3) := dk_167 0 4 (dk_at dksX6_positiveOf_5 4 rfl rfl)
theorem dX6_positiveOf_125 : decode cX6_positiveOf 125 = .ok (.iconst 0, 1) := dk_3 (dk_at dksX6_positiveOf_5 7 rfl rfl)
theorem dX6_positiveOf_126 : decode cX6_positiveOf 126 = .ok (.ireturn, 1) := dk_172 (dk_at dksX6_positiveOf_5 8 rfl rfl)
abbrev cX6_earnsNow : ByteArray := prog_24_method_73_code
def yX6_earnsNow : MethodName := ⟨RX6, "earnsNow", "()I"⟩
def dkwX6_earnsNow_0 : List UInt8 := [42, 5, 16, 99, 4, 182, 1, 72, 172]
abbrev dktX6_earnsNow_0 : List UInt8 := dkwX6_earnsNow_0 ++ []
theorem dksX6_earnsNow_0 : cX6_earnsNow.data.toList.drop 0 = dktX6_earnsNow_0 := by decide +kernel
theorem dX6_earnsNow_0 : decode cX6_earnsNow 0 = .ok (.aload_n 0, 1) := dk_42 (dk_at dksX6_earnsNow_0 0 rfl rfl)
theorem dX6_earnsNow_1 : decode cX6_earnsNow 1 = .ok (.iconst 2, 1) := dk_5 (dk_at dksX6_earnsNow_0 1 rfl rfl)
theorem dX6_earnsNow_2 : decode cX6_earnsNow 2 = .ok (.bipush 99, 2) := dk_16 99 (dk_at dksX6_earnsNow_0 2 rfl rfl)
theorem dX6_earnsNow_4 : decode cX6_earnsNow 4 = .ok (.iconst 1, 1) := dk_4 (dk_at dksX6_earnsNow_0 4 rfl rfl)
theorem dX6_earnsNow_5 : decode cX6_earnsNow 5 = .ok (.invokevirtual 328, 3) := dk_182 1 72 (dk_at dksX6_earnsNow_0 5 rfl rfl)
theorem dX6_earnsNow_8 : decode cX6_earnsNow 8 = .ok (.ireturn, 1) := dk_172 (dk_at dksX6_earnsNow_0 8 rfl rfl)
abbrev cX6_isBarred : ByteArray := prog_24_method_74_code
def yX6_isBarred : MethodName := ⟨RX6, "isBarred", "()Z"⟩
def dkwX6_isBarred_0 : List UInt8 := [42, 6, 4, 3, 182, 1, 72, 4, 160, 0, 7, 4, 167, 0, 4, 3, 172]
abbrev dktX6_isBarred_0 : List UInt8 := dkwX6_isBarred_0 ++ []
theorem dksX6_isBarred_0 : cX6_isBarred.data.toList.drop 0 = dktX6_isBarred_0 := by decide +kernel
theorem dX6_isBarred_0 : decode cX6_isBarred 0 = .ok (.aload_n 0, 1) := dk_42 (dk_at dksX6_isBarred_0 0 rfl rfl)
theorem dX6_isBarred_1 : decode cX6_isBarred 1 = .ok (.iconst 3, 1) := dk_6 (dk_at dksX6_isBarred_0 1 rfl rfl)
theorem dX6_isBarred_2 : decode cX6_isBarred 2 = .ok (.iconst 1, 1) := dk_4 (dk_at dksX6_isBarred_0 2 rfl rfl)
theorem dX6_isBarred_3 : decode cX6_isBarred 3 = .ok (.iconst 0, 1) := dk_3 (dk_at dksX6_isBarred_0 3 rfl rfl)
theorem dX6_isBarred_4 : decode cX6_isBarred 4 = .ok (.invokevirtual 328, 3) := dk_182 1 72 (dk_at dksX6_isBarred_0 4 rfl rfl)
theorem dX6_isBarred_7 : decode cX6_isBarred 7 = .ok (.iconst 1, 1) := dk_4 (dk_at dksX6_isBarred_0 7 rfl rfl)
theorem dX6_isBarred_8 : decode cX6_isBarred 8 = .ok (.if_icmp .ne 7, 3) := dk_160 0 7 (dk_at dksX6_isBarred_0 8 rfl rfl)
theorem dX6_isBarred_11 : decode cX6_isBarred 11 = .ok (.iconst 1, 1) := dk_4 (dk_at dksX6_isBarred_0 11 rfl rfl)
theorem dX6_isBarred_12 : decode cX6_isBarred 12 = .ok (.goto 4, 3) := dk_167 0 4 (dk_at dksX6_isBarred_0 12 rfl rfl)
theorem dX6_isBarred_15 : decode cX6_isBarred 15 = .ok (.iconst 0, 1) := dk_3 (dk_at dksX6_isBarred_0 15 rfl rfl)
theorem dX6_isBarred_16 : decode cX6_isBarred 16 = .ok (.ireturn, 1) := dk_172 (dk_at dksX6_isBarred_0 16 rfl rfl)
abbrev cX6_at : ByteArray := prog_24_method_23_code
def yX6_at : MethodName := ⟨RX6, "at", "(II)I"⟩
def dkwX6_at_1 : List UInt8 := [154, 0, 11, 42, 27, 182, 0, 141, 167, 0, 8, 42, 27, 182, 0, 144, 172]
abbrev dktX6_at_1 : List UInt8 := dkwX6_at_1 ++ []
def dkwX6_at_0 : List UInt8 := [42, 27, 182, 0, 124, 153, 0, 12, 28, 3, 4, 184, 0, 18, 154, 0, 7, 17, 252, 24, 172, 28]
abbrev dktX6_at_0 : List UInt8 := dkwX6_at_0 ++ dktX6_at_1
theorem dksX6_at_0 : cX6_at.data.toList.drop 0 = dktX6_at_0 := by decide +kernel
theorem dksX6_at_1 : cX6_at.data.toList.drop 22 = dktX6_at_1 := dk_seg dksX6_at_0 22 rfl rfl
theorem dX6_at_0 : decode cX6_at 0 = .ok (.aload_n 0, 1) := dk_42 (dk_at dksX6_at_0 0 rfl rfl)
theorem dX6_at_1 : decode cX6_at 1 = .ok (.iload_n 1, 1) := dk_27 (dk_at dksX6_at_0 1 rfl rfl)
theorem dX6_at_2 : decode cX6_at 2 = .ok (.invokevirtual 124, 3) := dk_182 0 124 (dk_at dksX6_at_0 2 rfl rfl)
theorem dX6_at_5 : decode cX6_at 5 = .ok (.ifCond .eq 12, 3) := dk_153 0 12 (dk_at dksX6_at_0 5 rfl rfl)
theorem dX6_at_8 : decode cX6_at 8 = .ok (.iload_n 2, 1) := dk_28 (dk_at dksX6_at_0 8 rfl rfl)
theorem dX6_at_9 : decode cX6_at 9 = .ok (.iconst 0, 1) := dk_3 (dk_at dksX6_at_0 9 rfl rfl)
theorem dX6_at_10 : decode cX6_at 10 = .ok (.iconst 1, 1) := dk_4 (dk_at dksX6_at_0 10 rfl rfl)
theorem dX6_at_11 : decode cX6_at 11 = .ok (.invokestatic 18, 3) := dk_184 0 18 (dk_at dksX6_at_0 11 rfl rfl)
theorem dX6_at_14 : decode cX6_at 14 = .ok (.ifCond .ne 7, 3) := dk_154 0 7 (dk_at dksX6_at_0 14 rfl rfl)
theorem dX6_at_17 : decode cX6_at 17 = .ok (.sipush (-1000), 3) := dk_17 252 24 (dk_at dksX6_at_0 17 rfl rfl)
theorem dX6_at_20 : decode cX6_at 20 = .ok (.ireturn, 1) := dk_172 (dk_at dksX6_at_0 20 rfl rfl)
theorem dX6_at_21 : decode cX6_at 21 = .ok (.iload_n 2, 1) := dk_28 (dk_at dksX6_at_0 21 rfl rfl)
theorem dX6_at_22 : decode cX6_at 22 = .ok (.ifCond .ne 11, 3) := dk_154 0 11 (dk_at dksX6_at_1 0 rfl rfl)
theorem dX6_at_25 : decode cX6_at 25 = .ok (.aload_n 0, 1) := dk_42 (dk_at dksX6_at_1 3 rfl rfl)
theorem dX6_at_26 : decode cX6_at 26 = .ok (.iload_n 1, 1) := dk_27 (dk_at dksX6_at_1 4 rfl rfl)
theorem dX6_at_27 : decode cX6_at 27 = .ok (.invokevirtual 141, 3) := dk_182 0 141 (dk_at dksX6_at_1 5 rfl rfl)
theorem dX6_at_30 : decode cX6_at 30 = .ok (.goto 8, 3) := dk_167 0 8 (dk_at dksX6_at_1 8 rfl rfl)
theorem dX6_at_33 : decode cX6_at 33 = .ok (.aload_n 0, 1) := dk_42 (dk_at dksX6_at_1 11 rfl rfl)
theorem dX6_at_34 : decode cX6_at 34 = .ok (.iload_n 1, 1) := dk_27 (dk_at dksX6_at_1 12 rfl rfl)
theorem dX6_at_35 : decode cX6_at 35 = .ok (.invokevirtual 144, 3) := dk_182 0 144 (dk_at dksX6_at_1 13 rfl rfl)
theorem dX6_at_38 : decode cX6_at 38 = .ok (.ireturn, 1) := dk_172 (dk_at dksX6_at_1 16 rfl rfl)
abbrev cX6_apartOf : ByteArray := prog_24_method_21_code
def yX6_apartOf : MethodName := ⟨RX6, "apartOf", "(I)I"⟩
def dkwX6_apartOf_0 : List UInt8 := [42, 180, 0, 28, 3, 27, 96, 46, 42, 180, 0, 28, 16, 12, 27, 96, 46, 100, 172]
abbrev dktX6_apartOf_0 : List UInt8 := dkwX6_apartOf_0 ++ []
theorem dksX6_apartOf_0 : cX6_apartOf.data.toList.drop 0 = dktX6_apartOf_0 := by decide +kernel
theorem dX6_apartOf_0 : decode cX6_apartOf 0 = .ok (.aload_n 0, 1) := dk_42 (dk_at dksX6_apartOf_0 0 rfl rfl)
theorem dX6_apartOf_1 : decode cX6_apartOf 1 = .ok (.getfield 28, 3) := dk_180 0 28 (dk_at dksX6_apartOf_0 1 rfl rfl)
theorem dX6_apartOf_4 : decode cX6_apartOf 4 = .ok (.iconst 0, 1) := dk_3 (dk_at dksX6_apartOf_0 4 rfl rfl)
theorem dX6_apartOf_5 : decode cX6_apartOf 5 = .ok (.iload_n 1, 1) := dk_27 (dk_at dksX6_apartOf_0 5 rfl rfl)
theorem dX6_apartOf_6 : decode cX6_apartOf 6 = .ok (.iadd, 1) := dk_96 (dk_at dksX6_apartOf_0 6 rfl rfl)
theorem dX6_apartOf_7 : decode cX6_apartOf 7 = .ok (.iaload, 1) := dk_46 (dk_at dksX6_apartOf_0 7 rfl rfl)
theorem dX6_apartOf_8 : decode cX6_apartOf 8 = .ok (.aload_n 0, 1) := dk_42 (dk_at dksX6_apartOf_0 8 rfl rfl)
theorem dX6_apartOf_9 : decode cX6_apartOf 9 = .ok (.getfield 28, 3) := dk_180 0 28 (dk_at dksX6_apartOf_0 9 rfl rfl)
theorem dX6_apartOf_12 : decode cX6_apartOf 12 = .ok (.bipush 12, 2) := dk_16 12 (dk_at dksX6_apartOf_0 12 rfl rfl)
theorem dX6_apartOf_14 : decode cX6_apartOf 14 = .ok (.iload_n 1, 1) := dk_27 (dk_at dksX6_apartOf_0 14 rfl rfl)
theorem dX6_apartOf_15 : decode cX6_apartOf 15 = .ok (.iadd, 1) := dk_96 (dk_at dksX6_apartOf_0 15 rfl rfl)
theorem dX6_apartOf_16 : decode cX6_apartOf 16 = .ok (.iaload, 1) := dk_46 (dk_at dksX6_apartOf_0 16 rfl rfl)
theorem dX6_apartOf_17 : decode cX6_apartOf 17 = .ok (.isub, 1) := dk_100 (dk_at dksX6_apartOf_0 17 rfl rfl)
theorem dX6_apartOf_18 : decode cX6_apartOf 18 = .ok (.ireturn, 1) := dk_172 (dk_at dksX6_apartOf_0 18 rfl rfl)
abbrev cX6_leapOf : ByteArray := prog_24_method_22_code
def yX6_leapOf : MethodName := ⟨RX6, "leapOf", "(I)I"⟩
def dkwX6_leapOf_1 : List UInt8 := [100, 172]
abbrev dktX6_leapOf_1 : List UInt8 := dkwX6_leapOf_1 ++ []
def dkwX6_leapOf_0 : List UInt8 := [27, 154, 0, 5, 3, 172, 42, 180, 0, 28, 3, 27, 96, 46, 42, 180, 0, 28, 3, 27, 96, 4, 100, 46]
abbrev dktX6_leapOf_0 : List UInt8 := dkwX6_leapOf_0 ++ dktX6_leapOf_1
theorem dksX6_leapOf_0 : cX6_leapOf.data.toList.drop 0 = dktX6_leapOf_0 := by decide +kernel
theorem dksX6_leapOf_1 : cX6_leapOf.data.toList.drop 24 = dktX6_leapOf_1 := dk_seg dksX6_leapOf_0 24 rfl rfl
theorem dX6_leapOf_0 : decode cX6_leapOf 0 = .ok (.iload_n 1, 1) := dk_27 (dk_at dksX6_leapOf_0 0 rfl rfl)
theorem dX6_leapOf_1 : decode cX6_leapOf 1 = .ok (.ifCond .ne 5, 3) := dk_154 0 5 (dk_at dksX6_leapOf_0 1 rfl rfl)
theorem dX6_leapOf_4 : decode cX6_leapOf 4 = .ok (.iconst 0, 1) := dk_3 (dk_at dksX6_leapOf_0 4 rfl rfl)
theorem dX6_leapOf_5 : decode cX6_leapOf 5 = .ok (.ireturn, 1) := dk_172 (dk_at dksX6_leapOf_0 5 rfl rfl)
theorem dX6_leapOf_6 : decode cX6_leapOf 6 = .ok (.aload_n 0, 1) := dk_42 (dk_at dksX6_leapOf_0 6 rfl rfl)
theorem dX6_leapOf_7 : decode cX6_leapOf 7 = .ok (.getfield 28, 3) := dk_180 0 28 (dk_at dksX6_leapOf_0 7 rfl rfl)
theorem dX6_leapOf_10 : decode cX6_leapOf 10 = .ok (.iconst 0, 1) := dk_3 (dk_at dksX6_leapOf_0 10 rfl rfl)
theorem dX6_leapOf_11 : decode cX6_leapOf 11 = .ok (.iload_n 1, 1) := dk_27 (dk_at dksX6_leapOf_0 11 rfl rfl)
theorem dX6_leapOf_12 : decode cX6_leapOf 12 = .ok (.iadd, 1) := dk_96 (dk_at dksX6_leapOf_0 12 rfl rfl)
theorem dX6_leapOf_13 : decode cX6_leapOf 13 = .ok (.iaload, 1) := dk_46 (dk_at dksX6_leapOf_0 13 rfl rfl)
theorem dX6_leapOf_14 : decode cX6_leapOf 14 = .ok (.aload_n 0, 1) := dk_42 (dk_at dksX6_leapOf_0 14 rfl rfl)
theorem dX6_leapOf_15 : decode cX6_leapOf 15 = .ok (.getfield 28, 3) := dk_180 0 28 (dk_at dksX6_leapOf_0 15 rfl rfl)
theorem dX6_leapOf_18 : decode cX6_leapOf 18 = .ok (.iconst 0, 1) := dk_3 (dk_at dksX6_leapOf_0 18 rfl rfl)
theorem dX6_leapOf_19 : decode cX6_leapOf 19 = .ok (.iload_n 1, 1) := dk_27 (dk_at dksX6_leapOf_0 19 rfl rfl)
theorem dX6_leapOf_20 : decode cX6_leapOf 20 = .ok (.iadd, 1) := dk_96 (dk_at dksX6_leapOf_0 20 rfl rfl)
theorem dX6_leapOf_21 : decode cX6_leapOf 21 = .ok (.iconst 1, 1) := dk_4 (dk_at dksX6_leapOf_0 21 rfl rfl)
theorem dX6_leapOf_22 : decode cX6_leapOf 22 = .ok (.isub, 1) := dk_100 (dk_at dksX6_leapOf_0 22 rfl rfl)
theorem dX6_leapOf_23 : decode cX6_leapOf 23 = .ok (.iaload, 1) := dk_46 (dk_at dksX6_leapOf_0 23 rfl rfl)
theorem dX6_leapOf_24 : decode cX6_leapOf 24 = .ok (.isub, 1) := dk_100 (dk_at dksX6_leapOf_1 0 rfl rfl)
theorem dX6_leapOf_25 : decode cX6_leapOf 25 = .ok (.ireturn, 1) := dk_172 (dk_at dksX6_leapOf_1 1 rfl rfl)
abbrev cX6_terms : ByteArray := prog_24_method_26_code
def yX6_terms : MethodName := ⟨RX6, "terms", "(II)I"⟩
def dkwX6_terms_1 : List UInt8 := [42, 180, 0, 28, 27, 184, 0, 151, 28, 79, 42, 29, 182, 0, 109, 172]
abbrev dktX6_terms_1 : List UInt8 := dkwX6_terms_1 ++ []
def dkwX6_terms_0 : List UInt8 := [27, 28, 184, 0, 147, 154, 0, 9, 42, 2, 182, 0, 106, 172, 42, 180, 0, 28, 27, 184, 0, 151, 46, 62]
abbrev dktX6_terms_0 : List UInt8 := dkwX6_terms_0 ++ dktX6_terms_1
theorem dksX6_terms_0 : cX6_terms.data.toList.drop 0 = dktX6_terms_0 := by decide +kernel
theorem dksX6_terms_1 : cX6_terms.data.toList.drop 24 = dktX6_terms_1 := dk_seg dksX6_terms_0 24 rfl rfl
theorem dX6_terms_0 : decode cX6_terms 0 = .ok (.iload_n 1, 1) := dk_27 (dk_at dksX6_terms_0 0 rfl rfl)
theorem dX6_terms_1 : decode cX6_terms 1 = .ok (.iload_n 2, 1) := dk_28 (dk_at dksX6_terms_0 1 rfl rfl)
theorem dX6_terms_2 : decode cX6_terms 2 = .ok (.invokestatic 147, 3) := dk_184 0 147 (dk_at dksX6_terms_0 2 rfl rfl)
theorem dX6_terms_5 : decode cX6_terms 5 = .ok (.ifCond .ne 9, 3) := dk_154 0 9 (dk_at dksX6_terms_0 5 rfl rfl)
theorem dX6_terms_8 : decode cX6_terms 8 = .ok (.aload_n 0, 1) := dk_42 (dk_at dksX6_terms_0 8 rfl rfl)
theorem dX6_terms_9 : decode cX6_terms 9 = .ok (.iconst (-1), 1) := dk_2 (dk_at dksX6_terms_0 9 rfl rfl)
theorem dX6_terms_10 : decode cX6_terms 10 = .ok (.invokevirtual 106, 3) := dk_182 0 106 (dk_at dksX6_terms_0 10 rfl rfl)
theorem dX6_terms_13 : decode cX6_terms 13 = .ok (.ireturn, 1) := dk_172 (dk_at dksX6_terms_0 13 rfl rfl)
theorem dX6_terms_14 : decode cX6_terms 14 = .ok (.aload_n 0, 1) := dk_42 (dk_at dksX6_terms_0 14 rfl rfl)
theorem dX6_terms_15 : decode cX6_terms 15 = .ok (.getfield 28, 3) := dk_180 0 28 (dk_at dksX6_terms_0 15 rfl rfl)
theorem dX6_terms_18 : decode cX6_terms 18 = .ok (.iload_n 1, 1) := dk_27 (dk_at dksX6_terms_0 18 rfl rfl)
theorem dX6_terms_19 : decode cX6_terms 19 = .ok (.invokestatic 151, 3) := dk_184 0 151 (dk_at dksX6_terms_0 19 rfl rfl)
theorem dX6_terms_22 : decode cX6_terms 22 = .ok (.iaload, 1) := dk_46 (dk_at dksX6_terms_0 22 rfl rfl)
theorem dX6_terms_23 : decode cX6_terms 23 = .ok (.istore_n 3, 1) := dk_62 (dk_at dksX6_terms_0 23 rfl rfl)
theorem dX6_terms_24 : decode cX6_terms 24 = .ok (.aload_n 0, 1) := dk_42 (dk_at dksX6_terms_1 0 rfl rfl)
theorem dX6_terms_25 : decode cX6_terms 25 = .ok (.getfield 28, 3) := dk_180 0 28 (dk_at dksX6_terms_1 1 rfl rfl)
theorem dX6_terms_28 : decode cX6_terms 28 = .ok (.iload_n 1, 1) := dk_27 (dk_at dksX6_terms_1 4 rfl rfl)
theorem dX6_terms_29 : decode cX6_terms 29 = .ok (.invokestatic 151, 3) := dk_184 0 151 (dk_at dksX6_terms_1 5 rfl rfl)
theorem dX6_terms_32 : decode cX6_terms 32 = .ok (.iload_n 2, 1) := dk_28 (dk_at dksX6_terms_1 8 rfl rfl)
theorem dX6_terms_33 : decode cX6_terms 33 = .ok (.iastore, 1) := dk_79 (dk_at dksX6_terms_1 9 rfl rfl)
theorem dX6_terms_34 : decode cX6_terms 34 = .ok (.aload_n 0, 1) := dk_42 (dk_at dksX6_terms_1 10 rfl rfl)
theorem dX6_terms_35 : decode cX6_terms 35 = .ok (.iload_n 3, 1) := dk_29 (dk_at dksX6_terms_1 11 rfl rfl)
theorem dX6_terms_36 : decode cX6_terms 36 = .ok (.invokevirtual 109, 3) := dk_182 0 109 (dk_at dksX6_terms_1 12 rfl rfl)
theorem dX6_terms_39 : decode cX6_terms 39 = .ok (.ireturn, 1) := dk_172 (dk_at dksX6_terms_1 15 rfl rfl)
abbrev cX6_isTerm : ByteArray := prog_24_method_24_code
def yX6_isTerm : MethodName := ⟨RX6, "isTerm", "(II)Z"⟩
def dkwX6_isTerm_3 : List UInt8 := [172, 27, 184, 0, 116, 172, 3, 172]
abbrev dktX6_isTerm_3 : List UInt8 := dkwX6_isTerm_3 ++ []
def dkwX6_isTerm_2 : List UInt8 := [27, 3, 17, 3, 231, 184, 0, 18, 172, 27, 3, 16, 10, 184, 0, 18, 172, 27, 3, 16, 9, 184, 0, 18]
abbrev dktX6_isTerm_2 : List UInt8 := dkwX6_isTerm_2 ++ dktX6_isTerm_3
def dkwX6_isTerm_1 : List UInt8 := [170, 0, 0, 0, 0, 0, 65, 0, 0, 0, 0, 0, 0, 0, 4, 0, 0, 0, 35, 0, 0, 0, 44, 0, 0, 0, 52, 0, 0, 0, 60, 0, 0, 0, 60]
abbrev dktX6_isTerm_1 : List UInt8 := dkwX6_isTerm_1 ++ dktX6_isTerm_2
def dkwX6_isTerm_0 : List UInt8 := [26]
abbrev dktX6_isTerm_0 : List UInt8 := dkwX6_isTerm_0 ++ dktX6_isTerm_1
theorem dksX6_isTerm_0 : cX6_isTerm.data.toList.drop 0 = dktX6_isTerm_0 := by decide +kernel
theorem dksX6_isTerm_1 : cX6_isTerm.data.toList.drop 1 = dktX6_isTerm_1 := dk_seg dksX6_isTerm_0 1 rfl rfl
theorem dksX6_isTerm_2 : cX6_isTerm.data.toList.drop 36 = dktX6_isTerm_2 := dk_seg dksX6_isTerm_1 35 rfl rfl
theorem dksX6_isTerm_3 : cX6_isTerm.data.toList.drop 60 = dktX6_isTerm_3 := dk_seg dksX6_isTerm_2 24 rfl rfl
theorem dX6_isTerm_0 : decode cX6_isTerm 0 = .ok (.iload_n 0, 1) := dk_26 (dk_at dksX6_isTerm_0 0 rfl rfl)
theorem dX6_isTerm_1 : decode cX6_isTerm 1 = .ok (.tableswitch 65 0 4 #[35, 44, 52, 60, 60], 35) := by decide +kernel
theorem dX6_isTerm_36 : decode cX6_isTerm 36 = .ok (.iload_n 1, 1) := dk_27 (dk_at dksX6_isTerm_2 0 rfl rfl)
theorem dX6_isTerm_37 : decode cX6_isTerm 37 = .ok (.iconst 0, 1) := dk_3 (dk_at dksX6_isTerm_2 1 rfl rfl)
theorem dX6_isTerm_38 : decode cX6_isTerm 38 = .ok (.sipush 999, 3) := dk_17 3 231 (dk_at dksX6_isTerm_2 2 rfl rfl)
theorem dX6_isTerm_41 : decode cX6_isTerm 41 = .ok (.invokestatic 18, 3) := dk_184 0 18 (dk_at dksX6_isTerm_2 5 rfl rfl)
theorem dX6_isTerm_44 : decode cX6_isTerm 44 = .ok (.ireturn, 1) := dk_172 (dk_at dksX6_isTerm_2 8 rfl rfl)
theorem dX6_isTerm_45 : decode cX6_isTerm 45 = .ok (.iload_n 1, 1) := dk_27 (dk_at dksX6_isTerm_2 9 rfl rfl)
theorem dX6_isTerm_46 : decode cX6_isTerm 46 = .ok (.iconst 0, 1) := dk_3 (dk_at dksX6_isTerm_2 10 rfl rfl)
theorem dX6_isTerm_47 : decode cX6_isTerm 47 = .ok (.bipush 10, 2) := dk_16 10 (dk_at dksX6_isTerm_2 11 rfl rfl)
theorem dX6_isTerm_49 : decode cX6_isTerm 49 = .ok (.invokestatic 18, 3) := dk_184 0 18 (dk_at dksX6_isTerm_2 13 rfl rfl)
theorem dX6_isTerm_52 : decode cX6_isTerm 52 = .ok (.ireturn, 1) := dk_172 (dk_at dksX6_isTerm_2 16 rfl rfl)
theorem dX6_isTerm_53 : decode cX6_isTerm 53 = .ok (.iload_n 1, 1) := dk_27 (dk_at dksX6_isTerm_2 17 rfl rfl)
theorem dX6_isTerm_54 : decode cX6_isTerm 54 = .ok (.iconst 0, 1) := dk_3 (dk_at dksX6_isTerm_2 18 rfl rfl)
theorem dX6_isTerm_55 : decode cX6_isTerm 55 = .ok (.bipush 9, 2) := dk_16 9 (dk_at dksX6_isTerm_2 19 rfl rfl)
theorem dX6_isTerm_57 : decode cX6_isTerm 57 = .ok (.invokestatic 18, 3) := dk_184 0 18 (dk_at dksX6_isTerm_2 21 rfl rfl)
theorem dX6_isTerm_60 : decode cX6_isTerm 60 = .ok (.ireturn, 1) := dk_172 (dk_at dksX6_isTerm_3 0 rfl rfl)
theorem dX6_isTerm_61 : decode cX6_isTerm 61 = .ok (.iload_n 1, 1) := dk_27 (dk_at dksX6_isTerm_3 1 rfl rfl)
theorem dX6_isTerm_62 : decode cX6_isTerm 62 = .ok (.invokestatic 116, 3) := dk_184 0 116 (dk_at dksX6_isTerm_3 2 rfl rfl)
theorem dX6_isTerm_65 : decode cX6_isTerm 65 = .ok (.ireturn, 1) := dk_172 (dk_at dksX6_isTerm_3 5 rfl rfl)
theorem dX6_isTerm_66 : decode cX6_isTerm 66 = .ok (.iconst 0, 1) := dk_3 (dk_at dksX6_isTerm_3 6 rfl rfl)
theorem dX6_isTerm_67 : decode cX6_isTerm 67 = .ok (.ireturn, 1) := dk_172 (dk_at dksX6_isTerm_3 7 rfl rfl)
abbrev cX6_termAt : ByteArray := prog_24_method_25_code
def yX6_termAt : MethodName := ⟨RX6, "termAt", "(I)I"⟩
def dkwX6_termAt_2 : List UInt8 := [16, 24, 172, 16, 37, 172, 16, 38, 172, 16, 39, 172, 16, 40, 172]
abbrev dktX6_termAt_2 : List UInt8 := dkwX6_termAt_2 ++ []
def dkwX6_termAt_1 : List UInt8 := [170, 0, 0, 0, 0, 0, 43, 0, 0, 0, 0, 0, 0, 0, 3, 0, 0, 0, 31, 0, 0, 0, 34, 0, 0, 0, 37, 0, 0, 0, 40]
abbrev dktX6_termAt_1 : List UInt8 := dkwX6_termAt_1 ++ dktX6_termAt_2
def dkwX6_termAt_0 : List UInt8 := [26]
abbrev dktX6_termAt_0 : List UInt8 := dkwX6_termAt_0 ++ dktX6_termAt_1
theorem dksX6_termAt_0 : cX6_termAt.data.toList.drop 0 = dktX6_termAt_0 := by decide +kernel
theorem dksX6_termAt_1 : cX6_termAt.data.toList.drop 1 = dktX6_termAt_1 := dk_seg dksX6_termAt_0 1 rfl rfl
theorem dksX6_termAt_2 : cX6_termAt.data.toList.drop 32 = dktX6_termAt_2 := dk_seg dksX6_termAt_1 31 rfl rfl
theorem dX6_termAt_0 : decode cX6_termAt 0 = .ok (.iload_n 0, 1) := dk_26 (dk_at dksX6_termAt_0 0 rfl rfl)
theorem dX6_termAt_1 : decode cX6_termAt 1 = .ok (.tableswitch 43 0 3 #[31, 34, 37, 40], 31) := by decide +kernel
theorem dX6_termAt_32 : decode cX6_termAt 32 = .ok (.bipush 24, 2) := dk_16 24 (dk_at dksX6_termAt_2 0 rfl rfl)
theorem dX6_termAt_34 : decode cX6_termAt 34 = .ok (.ireturn, 1) := dk_172 (dk_at dksX6_termAt_2 2 rfl rfl)
theorem dX6_termAt_35 : decode cX6_termAt 35 = .ok (.bipush 37, 2) := dk_16 37 (dk_at dksX6_termAt_2 3 rfl rfl)
theorem dX6_termAt_37 : decode cX6_termAt 37 = .ok (.ireturn, 1) := dk_172 (dk_at dksX6_termAt_2 5 rfl rfl)
theorem dX6_termAt_38 : decode cX6_termAt 38 = .ok (.bipush 38, 2) := dk_16 38 (dk_at dksX6_termAt_2 6 rfl rfl)
theorem dX6_termAt_40 : decode cX6_termAt 40 = .ok (.ireturn, 1) := dk_172 (dk_at dksX6_termAt_2 8 rfl rfl)
theorem dX6_termAt_41 : decode cX6_termAt 41 = .ok (.bipush 39, 2) := dk_16 39 (dk_at dksX6_termAt_2 9 rfl rfl)
theorem dX6_termAt_43 : decode cX6_termAt 43 = .ok (.ireturn, 1) := dk_172 (dk_at dksX6_termAt_2 11 rfl rfl)
theorem dX6_termAt_44 : decode cX6_termAt 44 = .ok (.bipush 40, 2) := dk_16 40 (dk_at dksX6_termAt_2 12 rfl rfl)
theorem dX6_termAt_46 : decode cX6_termAt 46 = .ok (.ireturn, 1) := dk_172 (dk_at dksX6_termAt_2 14 rfl rfl)
abbrev cX6_row : ByteArray := prog_24_method_27_code
def yX6_row : MethodName := ⟨RX6, "row", "()I"⟩
def dkwX6_row_6 : List UInt8 := [181, 0, 157, 132, 3, 2, 167, 255, 149, 42, 28, 182, 0, 109, 172]
abbrev dktX6_row_6 : List UInt8 := dkwX6_row_6 ++ []
def dkwX6_row_5 : List UInt8 := [167, 0, 4, 3, 96, 61, 42, 89, 180, 0, 157, 21, 4, 153, 0, 7, 3, 167, 0, 4, 4, 96]
abbrev dktX6_row_5 : List UInt8 := dkwX6_row_5 ++ dktX6_row_6
def dkwX6_row_4 : List UInt8 := [180, 0, 45, 29, 51, 42, 180, 0, 45, 29, 4, 96, 51, 182, 0, 120, 28, 21, 4, 153, 0, 7, 4]
abbrev dktX6_row_4 : List UInt8 := dkwX6_row_4 ++ dktX6_row_5
def dkwX6_row_3 : List UInt8 := [29, 4, 96, 51, 184, 0, 116, 153, 0, 7, 4, 167, 0, 4, 3, 54, 4, 21, 4, 153, 0, 21, 42, 42]
abbrev dktX6_row_3 : List UInt8 := dkwX6_row_3 ++ dktX6_row_4
def dkwX6_row_2 : List UInt8 := [182, 0, 112, 16, 12, 162, 0, 33, 42, 180, 0, 45, 29, 51, 184, 0, 116, 153, 0, 21, 42, 180, 0, 45]
abbrev dktX6_row_2 : List UInt8 := dkwX6_row_2 ++ dktX6_row_3
def dkwX6_row_1 : List UInt8 := [27, 5, 112, 154, 0, 7, 3, 167, 0, 4, 4, 181, 0, 157, 3, 62, 29, 5, 96, 27, 163, 0, 106, 42]
abbrev dktX6_row_1 : List UInt8 := dkwX6_row_1 ++ dktX6_row_2
def dkwX6_row_0 : List UInt8 := [42, 180, 0, 154, 60, 42, 3, 181, 0, 154, 27, 154, 0, 10, 42, 16, 250, 182, 0, 106, 172, 3, 61, 42]
abbrev dktX6_row_0 : List UInt8 := dkwX6_row_0 ++ dktX6_row_1
theorem dksX6_row_0 : cX6_row.data.toList.drop 0 = dktX6_row_0 := by decide +kernel
theorem dksX6_row_1 : cX6_row.data.toList.drop 24 = dktX6_row_1 := dk_seg dksX6_row_0 24 rfl rfl
theorem dksX6_row_2 : cX6_row.data.toList.drop 48 = dktX6_row_2 := dk_seg dksX6_row_1 24 rfl rfl
theorem dksX6_row_3 : cX6_row.data.toList.drop 72 = dktX6_row_3 := dk_seg dksX6_row_2 24 rfl rfl
theorem dksX6_row_4 : cX6_row.data.toList.drop 96 = dktX6_row_4 := dk_seg dksX6_row_3 24 rfl rfl
theorem dksX6_row_5 : cX6_row.data.toList.drop 119 = dktX6_row_5 := dk_seg dksX6_row_4 23 rfl rfl
theorem dksX6_row_6 : cX6_row.data.toList.drop 141 = dktX6_row_6 := dk_seg dksX6_row_5 22 rfl rfl
theorem dX6_row_0 : decode cX6_row 0 = .ok (.aload_n 0, 1) := dk_42 (dk_at dksX6_row_0 0 rfl rfl)
theorem dX6_row_1 : decode cX6_row 1 = .ok (.getfield 154, 3) := dk_180 0 154 (dk_at dksX6_row_0 1 rfl rfl)
theorem dX6_row_4 : decode cX6_row 4 = .ok (.istore_n 1, 1) := dk_60 (dk_at dksX6_row_0 4 rfl rfl)
theorem dX6_row_5 : decode cX6_row 5 = .ok (.aload_n 0, 1) := dk_42 (dk_at dksX6_row_0 5 rfl rfl)
theorem dX6_row_6 : decode cX6_row 6 = .ok (.iconst 0, 1) := dk_3 (dk_at dksX6_row_0 6 rfl rfl)
theorem dX6_row_7 : decode cX6_row 7 = .ok (.putfield 154, 3) := dk_181 0 154 (dk_at dksX6_row_0 7 rfl rfl)
theorem dX6_row_10 : decode cX6_row 10 = .ok (.iload_n 1, 1) := dk_27 (dk_at dksX6_row_0 10 rfl rfl)
theorem dX6_row_11 : decode cX6_row 11 = .ok (.ifCond .ne 10, 3) := dk_154 0 10 (dk_at dksX6_row_0 11 rfl rfl)
theorem dX6_row_14 : decode cX6_row 14 = .ok (.aload_n 0, 1) := dk_42 (dk_at dksX6_row_0 14 rfl rfl)
theorem dX6_row_15 : decode cX6_row 15 = .ok (.bipush (-6), 2) := dk_16 250 (dk_at dksX6_row_0 15 rfl rfl)
theorem dX6_row_17 : decode cX6_row 17 = .ok (.invokevirtual 106, 3) := dk_182 0 106 (dk_at dksX6_row_0 17 rfl rfl)
theorem dX6_row_20 : decode cX6_row 20 = .ok (.ireturn, 1) := dk_172 (dk_at dksX6_row_0 20 rfl rfl)
theorem dX6_row_21 : decode cX6_row 21 = .ok (.iconst 0, 1) := dk_3 (dk_at dksX6_row_0 21 rfl rfl)
theorem dX6_row_22 : decode cX6_row 22 = .ok (.istore_n 2, 1) := dk_61 (dk_at dksX6_row_0 22 rfl rfl)
theorem dX6_row_23 : decode cX6_row 23 = .ok (.aload_n 0, 1) := dk_42 (dk_at dksX6_row_0 23 rfl rfl)
theorem dX6_row_24 : decode cX6_row 24 = .ok (.iload_n 1, 1) := dk_27 (dk_at dksX6_row_1 0 rfl rfl)
theorem dX6_row_25 : decode cX6_row 25 = .ok (.iconst 2, 1) := dk_5 (dk_at dksX6_row_1 1 rfl rfl)
theorem dX6_row_26 : decode cX6_row 26 = .ok (.irem, 1) := dk_112 (dk_at dksX6_row_1 2 rfl rfl)
theorem dX6_row_27 : decode cX6_row 27 = .ok (.ifCond .ne 7, 3) := dk_154 0 7 (dk_at dksX6_row_1 3 rfl rfl)
theorem dX6_row_30 : decode cX6_row 30 = .ok (.iconst 0, 1) := dk_3 (dk_at dksX6_row_1 6 rfl rfl)
theorem dX6_row_31 : decode cX6_row 31 = .ok (.goto 4, 3) := dk_167 0 4 (dk_at dksX6_row_1 7 rfl rfl)
theorem dX6_row_34 : decode cX6_row 34 = .ok (.iconst 1, 1) := dk_4 (dk_at dksX6_row_1 10 rfl rfl)
theorem dX6_row_35 : decode cX6_row 35 = .ok (.putfield 157, 3) := dk_181 0 157 (dk_at dksX6_row_1 11 rfl rfl)
theorem dX6_row_38 : decode cX6_row 38 = .ok (.iconst 0, 1) := dk_3 (dk_at dksX6_row_1 14 rfl rfl)
theorem dX6_row_39 : decode cX6_row 39 = .ok (.istore_n 3, 1) := dk_62 (dk_at dksX6_row_1 15 rfl rfl)
theorem dX6_row_40 : decode cX6_row 40 = .ok (.iload_n 3, 1) := dk_29 (dk_at dksX6_row_1 16 rfl rfl)
theorem dX6_row_41 : decode cX6_row 41 = .ok (.iconst 2, 1) := dk_5 (dk_at dksX6_row_1 17 rfl rfl)
theorem dX6_row_42 : decode cX6_row 42 = .ok (.iadd, 1) := dk_96 (dk_at dksX6_row_1 18 rfl rfl)
theorem dX6_row_43 : decode cX6_row 43 = .ok (.iload_n 1, 1) := dk_27 (dk_at dksX6_row_1 19 rfl rfl)
theorem dX6_row_44 : decode cX6_row 44 = .ok (.if_icmp .gt 106, 3) := dk_163 0 106 (dk_at dksX6_row_1 20 rfl rfl)
theorem dX6_row_47 : decode cX6_row 47 = .ok (.aload_n 0, 1) := dk_42 (dk_at dksX6_row_1 23 rfl rfl)
theorem dX6_row_48 : decode cX6_row 48 = .ok (.invokevirtual 112, 3) := dk_182 0 112 (dk_at dksX6_row_2 0 rfl rfl)
theorem dX6_row_51 : decode cX6_row 51 = .ok (.bipush 12, 2) := dk_16 12 (dk_at dksX6_row_2 3 rfl rfl)
theorem dX6_row_53 : decode cX6_row 53 = .ok (.if_icmp .ge 33, 3) := dk_162 0 33 (dk_at dksX6_row_2 5 rfl rfl)
theorem dX6_row_56 : decode cX6_row 56 = .ok (.aload_n 0, 1) := dk_42 (dk_at dksX6_row_2 8 rfl rfl)
theorem dX6_row_57 : decode cX6_row 57 = .ok (.getfield 45, 3) := dk_180 0 45 (dk_at dksX6_row_2 9 rfl rfl)
theorem dX6_row_60 : decode cX6_row 60 = .ok (.iload_n 3, 1) := dk_29 (dk_at dksX6_row_2 12 rfl rfl)
theorem dX6_row_61 : decode cX6_row 61 = .ok (.baload, 1) := dk_51 (dk_at dksX6_row_2 13 rfl rfl)
theorem dX6_row_62 : decode cX6_row 62 = .ok (.invokestatic 116, 3) := dk_184 0 116 (dk_at dksX6_row_2 14 rfl rfl)
theorem dX6_row_65 : decode cX6_row 65 = .ok (.ifCond .eq 21, 3) := dk_153 0 21 (dk_at dksX6_row_2 17 rfl rfl)
theorem dX6_row_68 : decode cX6_row 68 = .ok (.aload_n 0, 1) := dk_42 (dk_at dksX6_row_2 20 rfl rfl)
theorem dX6_row_69 : decode cX6_row 69 = .ok (.getfield 45, 3) := dk_180 0 45 (dk_at dksX6_row_2 21 rfl rfl)
theorem dX6_row_72 : decode cX6_row 72 = .ok (.iload_n 3, 1) := dk_29 (dk_at dksX6_row_3 0 rfl rfl)
theorem dX6_row_73 : decode cX6_row 73 = .ok (.iconst 1, 1) := dk_4 (dk_at dksX6_row_3 1 rfl rfl)
theorem dX6_row_74 : decode cX6_row 74 = .ok (.iadd, 1) := dk_96 (dk_at dksX6_row_3 2 rfl rfl)
theorem dX6_row_75 : decode cX6_row 75 = .ok (.baload, 1) := dk_51 (dk_at dksX6_row_3 3 rfl rfl)
theorem dX6_row_76 : decode cX6_row 76 = .ok (.invokestatic 116, 3) := dk_184 0 116 (dk_at dksX6_row_3 4 rfl rfl)
theorem dX6_row_79 : decode cX6_row 79 = .ok (.ifCond .eq 7, 3) := dk_153 0 7 (dk_at dksX6_row_3 7 rfl rfl)
theorem dX6_row_82 : decode cX6_row 82 = .ok (.iconst 1, 1) := dk_4 (dk_at dksX6_row_3 10 rfl rfl)
theorem dX6_row_83 : decode cX6_row 83 = .ok (.goto 4, 3) := dk_167 0 4 (dk_at dksX6_row_3 11 rfl rfl)
theorem dX6_row_86 : decode cX6_row 86 = .ok (.iconst 0, 1) := dk_3 (dk_at dksX6_row_3 14 rfl rfl)
theorem dX6_row_87 : decode cX6_row 87 = .ok (.istore 4, 2) := dk_54 4 (dk_at dksX6_row_3 15 rfl rfl)
theorem dX6_row_89 : decode cX6_row 89 = .ok (.iload 4, 2) := dk_21 4 (dk_at dksX6_row_3 17 rfl rfl)
theorem dX6_row_91 : decode cX6_row 91 = .ok (.ifCond .eq 21, 3) := dk_153 0 21 (dk_at dksX6_row_3 19 rfl rfl)
theorem dX6_row_94 : decode cX6_row 94 = .ok (.aload_n 0, 1) := dk_42 (dk_at dksX6_row_3 22 rfl rfl)
theorem dX6_row_95 : decode cX6_row 95 = .ok (.aload_n 0, 1) := dk_42 (dk_at dksX6_row_3 23 rfl rfl)
theorem dX6_row_96 : decode cX6_row 96 = .ok (.getfield 45, 3) := dk_180 0 45 (dk_at dksX6_row_4 0 rfl rfl)
theorem dX6_row_99 : decode cX6_row 99 = .ok (.iload_n 3, 1) := dk_29 (dk_at dksX6_row_4 3 rfl rfl)
theorem dX6_row_100 : decode cX6_row 100 = .ok (.baload, 1) := dk_51 (dk_at dksX6_row_4 4 rfl rfl)
theorem dX6_row_101 : decode cX6_row 101 = .ok (.aload_n 0, 1) := dk_42 (dk_at dksX6_row_4 5 rfl rfl)
theorem dX6_row_102 : decode cX6_row 102 = .ok (.getfield 45, 3) := dk_180 0 45 (dk_at dksX6_row_4 6 rfl rfl)
theorem dX6_row_105 : decode cX6_row 105 = .ok (.iload_n 3, 1) := dk_29 (dk_at dksX6_row_4 9 rfl rfl)
theorem dX6_row_106 : decode cX6_row 106 = .ok (.iconst 1, 1) := dk_4 (dk_at dksX6_row_4 10 rfl rfl)
theorem dX6_row_107 : decode cX6_row 107 = .ok (.iadd, 1) := dk_96 (dk_at dksX6_row_4 11 rfl rfl)
theorem dX6_row_108 : decode cX6_row 108 = .ok (.baload, 1) := dk_51 (dk_at dksX6_row_4 12 rfl rfl)
theorem dX6_row_109 : decode cX6_row 109 = .ok (.invokevirtual 120, 3) := dk_182 0 120 (dk_at dksX6_row_4 13 rfl rfl)
theorem dX6_row_112 : decode cX6_row 112 = .ok (.iload_n 2, 1) := dk_28 (dk_at dksX6_row_4 16 rfl rfl)
theorem dX6_row_113 : decode cX6_row 113 = .ok (.iload 4, 2) := dk_21 4 (dk_at dksX6_row_4 17 rfl rfl)
theorem dX6_row_115 : decode cX6_row 115 = .ok (.ifCond .eq 7, 3) := dk_153 0 7 (dk_at dksX6_row_4 19 rfl rfl)
theorem dX6_row_118 : decode cX6_row 118 = .ok (.iconst 1, 1) := dk_4 (dk_at dksX6_row_4 22 rfl rfl)
theorem dX6_row_119 : decode cX6_row 119 = .ok (.goto 4, 3) := dk_167 0 4 (dk_at dksX6_row_5 0 rfl rfl)
theorem dX6_row_122 : decode cX6_row 122 = .ok (.iconst 0, 1) := dk_3 (dk_at dksX6_row_5 3 rfl rfl)
theorem dX6_row_123 : decode cX6_row 123 = .ok (.iadd, 1) := dk_96 (dk_at dksX6_row_5 4 rfl rfl)
theorem dX6_row_124 : decode cX6_row 124 = .ok (.istore_n 2, 1) := dk_61 (dk_at dksX6_row_5 5 rfl rfl)
theorem dX6_row_125 : decode cX6_row 125 = .ok (.aload_n 0, 1) := dk_42 (dk_at dksX6_row_5 6 rfl rfl)
theorem dX6_row_126 : decode cX6_row 126 = .ok (.dup, 1) := dk_89 (dk_at dksX6_row_5 7 rfl rfl)
theorem dX6_row_127 : decode cX6_row 127 = .ok (.getfield 157, 3) := dk_180 0 157 (dk_at dksX6_row_5 8 rfl rfl)
theorem dX6_row_130 : decode cX6_row 130 = .ok (.iload 4, 2) := dk_21 4 (dk_at dksX6_row_5 11 rfl rfl)
theorem dX6_row_132 : decode cX6_row 132 = .ok (.ifCond .eq 7, 3) := dk_153 0 7 (dk_at dksX6_row_5 13 rfl rfl)
theorem dX6_row_135 : decode cX6_row 135 = .ok (.iconst 0, 1) := dk_3 (dk_at dksX6_row_5 16 rfl rfl)
theorem dX6_row_136 : decode cX6_row 136 = .ok (.goto 4, 3) := dk_167 0 4 (dk_at dksX6_row_5 17 rfl rfl)
theorem dX6_row_139 : decode cX6_row 139 = .ok (.iconst 1, 1) := dk_4 (dk_at dksX6_row_5 20 rfl rfl)
theorem dX6_row_140 : decode cX6_row 140 = .ok (.iadd, 1) := dk_96 (dk_at dksX6_row_5 21 rfl rfl)
theorem dX6_row_141 : decode cX6_row 141 = .ok (.putfield 157, 3) := dk_181 0 157 (dk_at dksX6_row_6 0 rfl rfl)
theorem dX6_row_144 : decode cX6_row 144 = .ok (.iinc 3 2, 3) := dk_132 3 2 (dk_at dksX6_row_6 3 rfl rfl)
theorem dX6_row_147 : decode cX6_row 147 = .ok (.goto (-107), 3) := dk_167 255 149 (dk_at dksX6_row_6 6 rfl rfl)
theorem dX6_row_150 : decode cX6_row 150 = .ok (.aload_n 0, 1) := dk_42 (dk_at dksX6_row_6 9 rfl rfl)
theorem dX6_row_151 : decode cX6_row 151 = .ok (.iload_n 2, 1) := dk_28 (dk_at dksX6_row_6 10 rfl rfl)
theorem dX6_row_152 : decode cX6_row 152 = .ok (.invokevirtual 109, 3) := dk_182 0 109 (dk_at dksX6_row_6 11 rfl rfl)
theorem dX6_row_155 : decode cX6_row 155 = .ok (.ireturn, 1) := dk_172 (dk_at dksX6_row_6 14 rfl rfl)
abbrev cX6_blots : ByteArray := prog_24_method_28_code
def yX6_blots : MethodName := ⟨RX6, "blots", "()I"⟩
theorem dX6_blots_0 : decode cX6_blots 0 = .ok (.aload_n 0, 1) := by decide +kernel
theorem dX6_blots_1 : decode cX6_blots 1 = .ok (.getfield 157, 3) := by decide +kernel
theorem dX6_blots_4 : decode cX6_blots 4 = .ok (.ireturn, 1) := by decide +kernel
abbrev cX6_feed : ByteArray := prog_24_method_29_code
def yX6_feed : MethodName := ⟨RX6, "feed", "(IIIII)I"⟩
def dkwX6_feed_5 : List UInt8 := [180, 0, 154, 172]
abbrev dktX6_feed_5 : List UInt8 := dkwX6_feed_5 ++ []
def dkwX6_feed_4 : List UInt8 := [100, 122, 145, 84, 132, 6, 1, 167, 255, 213, 42, 89, 180, 0, 154, 16, 20, 96, 181, 0, 154, 42]
abbrev dktX6_feed_4 : List UInt8 := dkwX6_feed_4 ++ dktX6_feed_5
def dkwX6_feed_3 : List UInt8 := [180, 0, 154, 21, 6, 96, 42, 180, 0, 48, 21, 6, 7, 108, 46, 16, 24, 16, 8, 21, 6, 7, 112, 104]
abbrev dktX6_feed_3 : List UInt8 := dkwX6_feed_3 ++ dktX6_feed_4
def dkwX6_feed_2 : List UInt8 := [180, 0, 48, 7, 21, 5, 79, 3, 54, 6, 21, 6, 16, 20, 162, 0, 42, 42, 180, 0, 45, 42]
abbrev dktX6_feed_2 : List UInt8 := dkwX6_feed_2 ++ dktX6_feed_3
def dkwX6_feed_1 : List UInt8 := [180, 0, 48, 4, 28, 79, 42, 180, 0, 48, 5, 29, 79, 42, 180, 0, 48, 6, 21, 4, 79, 42]
abbrev dktX6_feed_1 : List UInt8 := dkwX6_feed_1 ++ dktX6_feed_2
def dkwX6_feed_0 : List UInt8 := [42, 180, 0, 154, 16, 20, 96, 17, 1, 144, 164, 0, 5, 2, 172, 42, 180, 0, 48, 3, 27, 79, 42]
abbrev dktX6_feed_0 : List UInt8 := dkwX6_feed_0 ++ dktX6_feed_1
theorem dksX6_feed_0 : cX6_feed.data.toList.drop 0 = dktX6_feed_0 := by decide +kernel
theorem dksX6_feed_1 : cX6_feed.data.toList.drop 23 = dktX6_feed_1 := dk_seg dksX6_feed_0 23 rfl rfl
theorem dksX6_feed_2 : cX6_feed.data.toList.drop 45 = dktX6_feed_2 := dk_seg dksX6_feed_1 22 rfl rfl
theorem dksX6_feed_3 : cX6_feed.data.toList.drop 67 = dktX6_feed_3 := dk_seg dksX6_feed_2 22 rfl rfl
theorem dksX6_feed_4 : cX6_feed.data.toList.drop 91 = dktX6_feed_4 := dk_seg dksX6_feed_3 24 rfl rfl
theorem dksX6_feed_5 : cX6_feed.data.toList.drop 113 = dktX6_feed_5 := dk_seg dksX6_feed_4 22 rfl rfl
theorem dX6_feed_0 : decode cX6_feed 0 = .ok (.aload_n 0, 1) := dk_42 (dk_at dksX6_feed_0 0 rfl rfl)
theorem dX6_feed_1 : decode cX6_feed 1 = .ok (.getfield 154, 3) := dk_180 0 154 (dk_at dksX6_feed_0 1 rfl rfl)
theorem dX6_feed_4 : decode cX6_feed 4 = .ok (.bipush 20, 2) := dk_16 20 (dk_at dksX6_feed_0 4 rfl rfl)
theorem dX6_feed_6 : decode cX6_feed 6 = .ok (.iadd, 1) := dk_96 (dk_at dksX6_feed_0 6 rfl rfl)
theorem dX6_feed_7 : decode cX6_feed 7 = .ok (.sipush 400, 3) := dk_17 1 144 (dk_at dksX6_feed_0 7 rfl rfl)
theorem dX6_feed_10 : decode cX6_feed 10 = .ok (.if_icmp .le 5, 3) := dk_164 0 5 (dk_at dksX6_feed_0 10 rfl rfl)
theorem dX6_feed_13 : decode cX6_feed 13 = .ok (.iconst (-1), 1) := dk_2 (dk_at dksX6_feed_0 13 rfl rfl)
theorem dX6_feed_14 : decode cX6_feed 14 = .ok (.ireturn, 1) := dk_172 (dk_at dksX6_feed_0 14 rfl rfl)
theorem dX6_feed_15 : decode cX6_feed 15 = .ok (.aload_n 0, 1) := dk_42 (dk_at dksX6_feed_0 15 rfl rfl)
theorem dX6_feed_16 : decode cX6_feed 16 = .ok (.getfield 48, 3) := dk_180 0 48 (dk_at dksX6_feed_0 16 rfl rfl)
theorem dX6_feed_19 : decode cX6_feed 19 = .ok (.iconst 0, 1) := dk_3 (dk_at dksX6_feed_0 19 rfl rfl)
theorem dX6_feed_20 : decode cX6_feed 20 = .ok (.iload_n 1, 1) := dk_27 (dk_at dksX6_feed_0 20 rfl rfl)
theorem dX6_feed_21 : decode cX6_feed 21 = .ok (.iastore, 1) := dk_79 (dk_at dksX6_feed_0 21 rfl rfl)
theorem dX6_feed_22 : decode cX6_feed 22 = .ok (.aload_n 0, 1) := dk_42 (dk_at dksX6_feed_0 22 rfl rfl)
theorem dX6_feed_23 : decode cX6_feed 23 = .ok (.getfield 48, 3) := dk_180 0 48 (dk_at dksX6_feed_1 0 rfl rfl)
theorem dX6_feed_26 : decode cX6_feed 26 = .ok (.iconst 1, 1) := dk_4 (dk_at dksX6_feed_1 3 rfl rfl)
theorem dX6_feed_27 : decode cX6_feed 27 = .ok (.iload_n 2, 1) := dk_28 (dk_at dksX6_feed_1 4 rfl rfl)
theorem dX6_feed_28 : decode cX6_feed 28 = .ok (.iastore, 1) := dk_79 (dk_at dksX6_feed_1 5 rfl rfl)
theorem dX6_feed_29 : decode cX6_feed 29 = .ok (.aload_n 0, 1) := dk_42 (dk_at dksX6_feed_1 6 rfl rfl)
theorem dX6_feed_30 : decode cX6_feed 30 = .ok (.getfield 48, 3) := dk_180 0 48 (dk_at dksX6_feed_1 7 rfl rfl)
theorem dX6_feed_33 : decode cX6_feed 33 = .ok (.iconst 2, 1) := dk_5 (dk_at dksX6_feed_1 10 rfl rfl)
theorem dX6_feed_34 : decode cX6_feed 34 = .ok (.iload_n 3, 1) := dk_29 (dk_at dksX6_feed_1 11 rfl rfl)
theorem dX6_feed_35 : decode cX6_feed 35 = .ok (.iastore, 1) := dk_79 (dk_at dksX6_feed_1 12 rfl rfl)
theorem dX6_feed_36 : decode cX6_feed 36 = .ok (.aload_n 0, 1) := dk_42 (dk_at dksX6_feed_1 13 rfl rfl)
theorem dX6_feed_37 : decode cX6_feed 37 = .ok (.getfield 48, 3) := dk_180 0 48 (dk_at dksX6_feed_1 14 rfl rfl)
theorem dX6_feed_40 : decode cX6_feed 40 = .ok (.iconst 3, 1) := dk_6 (dk_at dksX6_feed_1 17 rfl rfl)
theorem dX6_feed_41 : decode cX6_feed 41 = .ok (.iload 4, 2) := dk_21 4 (dk_at dksX6_feed_1 18 rfl rfl)
theorem dX6_feed_43 : decode cX6_feed 43 = .ok (.iastore, 1) := dk_79 (dk_at dksX6_feed_1 20 rfl rfl)
theorem dX6_feed_44 : decode cX6_feed 44 = .ok (.aload_n 0, 1) := dk_42 (dk_at dksX6_feed_1 21 rfl rfl)
theorem dX6_feed_45 : decode cX6_feed 45 = .ok (.getfield 48, 3) := dk_180 0 48 (dk_at dksX6_feed_2 0 rfl rfl)
theorem dX6_feed_48 : decode cX6_feed 48 = .ok (.iconst 4, 1) := dk_7 (dk_at dksX6_feed_2 3 rfl rfl)
theorem dX6_feed_49 : decode cX6_feed 49 = .ok (.iload 5, 2) := dk_21 5 (dk_at dksX6_feed_2 4 rfl rfl)
theorem dX6_feed_51 : decode cX6_feed 51 = .ok (.iastore, 1) := dk_79 (dk_at dksX6_feed_2 6 rfl rfl)
theorem dX6_feed_52 : decode cX6_feed 52 = .ok (.iconst 0, 1) := dk_3 (dk_at dksX6_feed_2 7 rfl rfl)
theorem dX6_feed_53 : decode cX6_feed 53 = .ok (.istore 6, 2) := dk_54 6 (dk_at dksX6_feed_2 8 rfl rfl)
theorem dX6_feed_55 : decode cX6_feed 55 = .ok (.iload 6, 2) := dk_21 6 (dk_at dksX6_feed_2 10 rfl rfl)
theorem dX6_feed_57 : decode cX6_feed 57 = .ok (.bipush 20, 2) := dk_16 20 (dk_at dksX6_feed_2 12 rfl rfl)
theorem dX6_feed_59 : decode cX6_feed 59 = .ok (.if_icmp .ge 42, 3) := dk_162 0 42 (dk_at dksX6_feed_2 14 rfl rfl)
theorem dX6_feed_62 : decode cX6_feed 62 = .ok (.aload_n 0, 1) := dk_42 (dk_at dksX6_feed_2 17 rfl rfl)
theorem dX6_feed_63 : decode cX6_feed 63 = .ok (.getfield 45, 3) := dk_180 0 45 (dk_at dksX6_feed_2 18 rfl rfl)
theorem dX6_feed_66 : decode cX6_feed 66 = .ok (.aload_n 0, 1) := dk_42 (dk_at dksX6_feed_2 21 rfl rfl)
theorem dX6_feed_67 : decode cX6_feed 67 = .ok (.getfield 154, 3) := dk_180 0 154 (dk_at dksX6_feed_3 0 rfl rfl)
theorem dX6_feed_70 : decode cX6_feed 70 = .ok (.iload 6, 2) := dk_21 6 (dk_at dksX6_feed_3 3 rfl rfl)
theorem dX6_feed_72 : decode cX6_feed 72 = .ok (.iadd, 1) := dk_96 (dk_at dksX6_feed_3 5 rfl rfl)
theorem dX6_feed_73 : decode cX6_feed 73 = .ok (.aload_n 0, 1) := dk_42 (dk_at dksX6_feed_3 6 rfl rfl)
theorem dX6_feed_74 : decode cX6_feed 74 = .ok (.getfield 48, 3) := dk_180 0 48 (dk_at dksX6_feed_3 7 rfl rfl)
theorem dX6_feed_77 : decode cX6_feed 77 = .ok (.iload 6, 2) := dk_21 6 (dk_at dksX6_feed_3 10 rfl rfl)
theorem dX6_feed_79 : decode cX6_feed 79 = .ok (.iconst 4, 1) := dk_7 (dk_at dksX6_feed_3 12 rfl rfl)
theorem dX6_feed_80 : decode cX6_feed 80 = .ok (.idiv, 1) := dk_108 (dk_at dksX6_feed_3 13 rfl rfl)
theorem dX6_feed_81 : decode cX6_feed 81 = .ok (.iaload, 1) := dk_46 (dk_at dksX6_feed_3 14 rfl rfl)
theorem dX6_feed_82 : decode cX6_feed 82 = .ok (.bipush 24, 2) := dk_16 24 (dk_at dksX6_feed_3 15 rfl rfl)
theorem dX6_feed_84 : decode cX6_feed 84 = .ok (.bipush 8, 2) := dk_16 8 (dk_at dksX6_feed_3 17 rfl rfl)
theorem dX6_feed_86 : decode cX6_feed 86 = .ok (.iload 6, 2) := dk_21 6 (dk_at dksX6_feed_3 19 rfl rfl)
theorem dX6_feed_88 : decode cX6_feed 88 = .ok (.iconst 4, 1) := dk_7 (dk_at dksX6_feed_3 21 rfl rfl)
theorem dX6_feed_89 : decode cX6_feed 89 = .ok (.irem, 1) := dk_112 (dk_at dksX6_feed_3 22 rfl rfl)
theorem dX6_feed_90 : decode cX6_feed 90 = .ok (.imul, 1) := dk_104 (dk_at dksX6_feed_3 23 rfl rfl)
theorem dX6_feed_91 : decode cX6_feed 91 = .ok (.isub, 1) := dk_100 (dk_at dksX6_feed_4 0 rfl rfl)
theorem dX6_feed_92 : decode cX6_feed 92 = .ok (.ishr, 1) := dk_122 (dk_at dksX6_feed_4 1 rfl rfl)
theorem dX6_feed_93 : decode cX6_feed 93 = .ok (.i2b, 1) := dk_145 (dk_at dksX6_feed_4 2 rfl rfl)
theorem dX6_feed_94 : decode cX6_feed 94 = .ok (.bastore, 1) := dk_84 (dk_at dksX6_feed_4 3 rfl rfl)
theorem dX6_feed_95 : decode cX6_feed 95 = .ok (.iinc 6 1, 3) := dk_132 6 1 (dk_at dksX6_feed_4 4 rfl rfl)
theorem dX6_feed_98 : decode cX6_feed 98 = .ok (.goto (-43), 3) := dk_167 255 213 (dk_at dksX6_feed_4 7 rfl rfl)
theorem dX6_feed_101 : decode cX6_feed 101 = .ok (.aload_n 0, 1) := dk_42 (dk_at dksX6_feed_4 10 rfl rfl)
theorem dX6_feed_102 : decode cX6_feed 102 = .ok (.dup, 1) := dk_89 (dk_at dksX6_feed_4 11 rfl rfl)
theorem dX6_feed_103 : decode cX6_feed 103 = .ok (.getfield 154, 3) := dk_180 0 154 (dk_at dksX6_feed_4 12 rfl rfl)
theorem dX6_feed_106 : decode cX6_feed 106 = .ok (.bipush 20, 2) := dk_16 20 (dk_at dksX6_feed_4 15 rfl rfl)
theorem dX6_feed_108 : decode cX6_feed 108 = .ok (.iadd, 1) := dk_96 (dk_at dksX6_feed_4 17 rfl rfl)
theorem dX6_feed_109 : decode cX6_feed 109 = .ok (.putfield 154, 3) := dk_181 0 154 (dk_at dksX6_feed_4 18 rfl rfl)
theorem dX6_feed_112 : decode cX6_feed 112 = .ok (.aload_n 0, 1) := dk_42 (dk_at dksX6_feed_4 21 rfl rfl)
theorem dX6_feed_113 : decode cX6_feed 113 = .ok (.getfield 154, 3) := dk_180 0 154 (dk_at dksX6_feed_5 0 rfl rfl)
theorem dX6_feed_116 : decode cX6_feed 116 = .ok (.ireturn, 1) := dk_172 (dk_at dksX6_feed_5 3 rfl rfl)
abbrev cX6_end : ByteArray := prog_24_method_30_code
def yX6_end : MethodName := ⟨RX6, "end", "(I)I"⟩
def dkwX6_end_0 : List UInt8 := [27, 3, 42, 180, 0, 154, 184, 0, 18, 154, 0, 5, 2, 172, 42, 27, 181, 0, 154, 27, 172]
abbrev dktX6_end_0 : List UInt8 := dkwX6_end_0 ++ []
theorem dksX6_end_0 : cX6_end.data.toList.drop 0 = dktX6_end_0 := by decide +kernel
theorem dX6_end_0 : decode cX6_end 0 = .ok (.iload_n 1, 1) := dk_27 (dk_at dksX6_end_0 0 rfl rfl)
theorem dX6_end_1 : decode cX6_end 1 = .ok (.iconst 0, 1) := dk_3 (dk_at dksX6_end_0 1 rfl rfl)
theorem dX6_end_2 : decode cX6_end 2 = .ok (.aload_n 0, 1) := dk_42 (dk_at dksX6_end_0 2 rfl rfl)
theorem dX6_end_3 : decode cX6_end 3 = .ok (.getfield 154, 3) := dk_180 0 154 (dk_at dksX6_end_0 3 rfl rfl)
theorem dX6_end_6 : decode cX6_end 6 = .ok (.invokestatic 18, 3) := dk_184 0 18 (dk_at dksX6_end_0 6 rfl rfl)
theorem dX6_end_9 : decode cX6_end 9 = .ok (.ifCond .ne 5, 3) := dk_154 0 5 (dk_at dksX6_end_0 9 rfl rfl)
theorem dX6_end_12 : decode cX6_end 12 = .ok (.iconst (-1), 1) := dk_2 (dk_at dksX6_end_0 12 rfl rfl)
theorem dX6_end_13 : decode cX6_end 13 = .ok (.ireturn, 1) := dk_172 (dk_at dksX6_end_0 13 rfl rfl)
theorem dX6_end_14 : decode cX6_end 14 = .ok (.aload_n 0, 1) := dk_42 (dk_at dksX6_end_0 14 rfl rfl)
theorem dX6_end_15 : decode cX6_end 15 = .ok (.iload_n 1, 1) := dk_27 (dk_at dksX6_end_0 15 rfl rfl)
theorem dX6_end_16 : decode cX6_end 16 = .ok (.putfield 154, 3) := dk_181 0 154 (dk_at dksX6_end_0 16 rfl rfl)
theorem dX6_end_19 : decode cX6_end 19 = .ok (.iload_n 1, 1) := dk_27 (dk_at dksX6_end_0 19 rfl rfl)
theorem dX6_end_20 : decode cX6_end 20 = .ok (.ireturn, 1) := dk_172 (dk_at dksX6_end_0 20 rfl rfl)
abbrev cX6_law : ByteArray := prog_24_method_54_code
def yX6_law : MethodName := ⟨RX6, "law", "()I"⟩
def dkwX6_law_3 : List UInt8 := [182, 0, 14, 172]
abbrev dktX6_law_3 : List UInt8 := dkwX6_law_3 ++ []
def dkwX6_law_2 : List UInt8 := [182, 0, 252, 42, 180, 0, 28, 16, 43, 92, 46, 4, 96, 79, 42, 42, 180, 0, 28, 16, 43, 46, 4, 100]
abbrev dktX6_law_2 : List UInt8 := dkwX6_law_2 ++ dktX6_law_3
def dkwX6_law_1 : List UInt8 := [42, 3, 182, 0, 248, 154, 0, 10, 42, 16, 250, 182, 0, 106, 172, 42, 42, 180, 0, 28, 16, 43, 46]
abbrev dktX6_law_1 : List UInt8 := dkwX6_law_1 ++ dktX6_law_2
def dkwX6_law_0 : List UInt8 := [42, 180, 0, 28, 16, 43, 46, 16, 6, 160, 0, 15, 42, 3, 181, 0, 154, 42, 16, 251, 182, 0, 106, 172]
abbrev dktX6_law_0 : List UInt8 := dkwX6_law_0 ++ dktX6_law_1
theorem dksX6_law_0 : cX6_law.data.toList.drop 0 = dktX6_law_0 := by decide +kernel
theorem dksX6_law_1 : cX6_law.data.toList.drop 24 = dktX6_law_1 := dk_seg dksX6_law_0 24 rfl rfl
theorem dksX6_law_2 : cX6_law.data.toList.drop 47 = dktX6_law_2 := dk_seg dksX6_law_1 23 rfl rfl
theorem dksX6_law_3 : cX6_law.data.toList.drop 71 = dktX6_law_3 := dk_seg dksX6_law_2 24 rfl rfl
theorem dX6_law_0 : decode cX6_law 0 = .ok (.aload_n 0, 1) := dk_42 (dk_at dksX6_law_0 0 rfl rfl)
theorem dX6_law_1 : decode cX6_law 1 = .ok (.getfield 28, 3) := dk_180 0 28 (dk_at dksX6_law_0 1 rfl rfl)
theorem dX6_law_4 : decode cX6_law 4 = .ok (.bipush 43, 2) := dk_16 43 (dk_at dksX6_law_0 4 rfl rfl)
theorem dX6_law_6 : decode cX6_law 6 = .ok (.iaload, 1) := dk_46 (dk_at dksX6_law_0 6 rfl rfl)
theorem dX6_law_7 : decode cX6_law 7 = .ok (.bipush 6, 2) := dk_16 6 (dk_at dksX6_law_0 7 rfl rfl)
theorem dX6_law_9 : decode cX6_law 9 = .ok (.if_icmp .ne 15, 3) := dk_160 0 15 (dk_at dksX6_law_0 9 rfl rfl)
theorem dX6_law_12 : decode cX6_law 12 = .ok (.aload_n 0, 1) := dk_42 (dk_at dksX6_law_0 12 rfl rfl)
theorem dX6_law_13 : decode cX6_law 13 = .ok (.iconst 0, 1) := dk_3 (dk_at dksX6_law_0 13 rfl rfl)
theorem dX6_law_14 : decode cX6_law 14 = .ok (.putfield 154, 3) := dk_181 0 154 (dk_at dksX6_law_0 14 rfl rfl)
theorem dX6_law_17 : decode cX6_law 17 = .ok (.aload_n 0, 1) := dk_42 (dk_at dksX6_law_0 17 rfl rfl)
theorem dX6_law_18 : decode cX6_law 18 = .ok (.bipush (-5), 2) := dk_16 251 (dk_at dksX6_law_0 18 rfl rfl)
theorem dX6_law_20 : decode cX6_law 20 = .ok (.invokevirtual 106, 3) := dk_182 0 106 (dk_at dksX6_law_0 20 rfl rfl)
theorem dX6_law_23 : decode cX6_law 23 = .ok (.ireturn, 1) := dk_172 (dk_at dksX6_law_0 23 rfl rfl)
theorem dX6_law_24 : decode cX6_law 24 = .ok (.aload_n 0, 1) := dk_42 (dk_at dksX6_law_1 0 rfl rfl)
theorem dX6_law_25 : decode cX6_law 25 = .ok (.iconst 0, 1) := dk_3 (dk_at dksX6_law_1 1 rfl rfl)
theorem dX6_law_26 : decode cX6_law 26 = .ok (.invokevirtual 248, 3) := dk_182 0 248 (dk_at dksX6_law_1 2 rfl rfl)
theorem dX6_law_29 : decode cX6_law 29 = .ok (.ifCond .ne 10, 3) := dk_154 0 10 (dk_at dksX6_law_1 5 rfl rfl)
theorem dX6_law_32 : decode cX6_law 32 = .ok (.aload_n 0, 1) := dk_42 (dk_at dksX6_law_1 8 rfl rfl)
theorem dX6_law_33 : decode cX6_law 33 = .ok (.bipush (-6), 2) := dk_16 250 (dk_at dksX6_law_1 9 rfl rfl)
theorem dX6_law_35 : decode cX6_law 35 = .ok (.invokevirtual 106, 3) := dk_182 0 106 (dk_at dksX6_law_1 11 rfl rfl)
theorem dX6_law_38 : decode cX6_law 38 = .ok (.ireturn, 1) := dk_172 (dk_at dksX6_law_1 14 rfl rfl)
theorem dX6_law_39 : decode cX6_law 39 = .ok (.aload_n 0, 1) := dk_42 (dk_at dksX6_law_1 15 rfl rfl)
theorem dX6_law_40 : decode cX6_law 40 = .ok (.aload_n 0, 1) := dk_42 (dk_at dksX6_law_1 16 rfl rfl)
theorem dX6_law_41 : decode cX6_law 41 = .ok (.getfield 28, 3) := dk_180 0 28 (dk_at dksX6_law_1 17 rfl rfl)
theorem dX6_law_44 : decode cX6_law 44 = .ok (.bipush 43, 2) := dk_16 43 (dk_at dksX6_law_1 20 rfl rfl)
theorem dX6_law_46 : decode cX6_law 46 = .ok (.iaload, 1) := dk_46 (dk_at dksX6_law_1 22 rfl rfl)
theorem dX6_law_47 : decode cX6_law 47 = .ok (.invokevirtual 252, 3) := dk_182 0 252 (dk_at dksX6_law_2 0 rfl rfl)
theorem dX6_law_50 : decode cX6_law 50 = .ok (.aload_n 0, 1) := dk_42 (dk_at dksX6_law_2 3 rfl rfl)
theorem dX6_law_51 : decode cX6_law 51 = .ok (.getfield 28, 3) := dk_180 0 28 (dk_at dksX6_law_2 4 rfl rfl)
theorem dX6_law_54 : decode cX6_law 54 = .ok (.bipush 43, 2) := dk_16 43 (dk_at dksX6_law_2 7 rfl rfl)
theorem dX6_law_56 : decode cX6_law 56 = .ok (.dup2, 1) := dk_92 (dk_at dksX6_law_2 9 rfl rfl)
theorem dX6_law_57 : decode cX6_law 57 = .ok (.iaload, 1) := dk_46 (dk_at dksX6_law_2 10 rfl rfl)
theorem dX6_law_58 : decode cX6_law 58 = .ok (.iconst 1, 1) := dk_4 (dk_at dksX6_law_2 11 rfl rfl)
theorem dX6_law_59 : decode cX6_law 59 = .ok (.iadd, 1) := dk_96 (dk_at dksX6_law_2 12 rfl rfl)
theorem dX6_law_60 : decode cX6_law 60 = .ok (.iastore, 1) := dk_79 (dk_at dksX6_law_2 13 rfl rfl)
theorem dX6_law_61 : decode cX6_law 61 = .ok (.aload_n 0, 1) := dk_42 (dk_at dksX6_law_2 14 rfl rfl)
theorem dX6_law_62 : decode cX6_law 62 = .ok (.aload_n 0, 1) := dk_42 (dk_at dksX6_law_2 15 rfl rfl)
theorem dX6_law_63 : decode cX6_law 63 = .ok (.getfield 28, 3) := dk_180 0 28 (dk_at dksX6_law_2 16 rfl rfl)
theorem dX6_law_66 : decode cX6_law 66 = .ok (.bipush 43, 2) := dk_16 43 (dk_at dksX6_law_2 19 rfl rfl)
theorem dX6_law_68 : decode cX6_law 68 = .ok (.iaload, 1) := dk_46 (dk_at dksX6_law_2 21 rfl rfl)
theorem dX6_law_69 : decode cX6_law 69 = .ok (.iconst 1, 1) := dk_4 (dk_at dksX6_law_2 22 rfl rfl)
theorem dX6_law_70 : decode cX6_law 70 = .ok (.isub, 1) := dk_100 (dk_at dksX6_law_2 23 rfl rfl)
theorem dX6_law_71 : decode cX6_law 71 = .ok (.invokevirtual 14, 3) := dk_182 0 14 (dk_at dksX6_law_3 0 rfl rfl)
theorem dX6_law_74 : decode cX6_law 74 = .ok (.ireturn, 1) := dk_172 (dk_at dksX6_law_3 3 rfl rfl)
abbrev cX6_readsAs : ByteArray := prog_24_method_52_code
def yX6_readsAs : MethodName := ⟨RX6, "readsAs", "(Z)Z"⟩
def dkwX6_readsAs_1 : List UInt8 := [153, 0, 8, 16, 21, 167, 0, 5, 16, 17, 181, 0, 233, 42, 182, 0, 245, 172]
abbrev dktX6_readsAs_1 : List UInt8 := dkwX6_readsAs_1 ++ []
def dkwX6_readsAs_0 : List UInt8 := [42, 27, 181, 0, 204, 42, 27, 153, 0, 8, 16, 15, 167, 0, 5, 16, 8, 181, 0, 230, 42, 27]
abbrev dktX6_readsAs_0 : List UInt8 := dkwX6_readsAs_0 ++ dktX6_readsAs_1
theorem dksX6_readsAs_0 : cX6_readsAs.data.toList.drop 0 = dktX6_readsAs_0 := by decide +kernel
theorem dksX6_readsAs_1 : cX6_readsAs.data.toList.drop 22 = dktX6_readsAs_1 := dk_seg dksX6_readsAs_0 22 rfl rfl
theorem dX6_readsAs_0 : decode cX6_readsAs 0 = .ok (.aload_n 0, 1) := dk_42 (dk_at dksX6_readsAs_0 0 rfl rfl)
theorem dX6_readsAs_1 : decode cX6_readsAs 1 = .ok (.iload_n 1, 1) := dk_27 (dk_at dksX6_readsAs_0 1 rfl rfl)
theorem dX6_readsAs_2 : decode cX6_readsAs 2 = .ok (.putfield 204, 3) := dk_181 0 204 (dk_at dksX6_readsAs_0 2 rfl rfl)
theorem dX6_readsAs_5 : decode cX6_readsAs 5 = .ok (.aload_n 0, 1) := dk_42 (dk_at dksX6_readsAs_0 5 rfl rfl)
theorem dX6_readsAs_6 : decode cX6_readsAs 6 = .ok (.iload_n 1, 1) := dk_27 (dk_at dksX6_readsAs_0 6 rfl rfl)
theorem dX6_readsAs_7 : decode cX6_readsAs 7 = .ok (.ifCond .eq 8, 3) := dk_153 0 8 (dk_at dksX6_readsAs_0 7 rfl rfl)
theorem dX6_readsAs_10 : decode cX6_readsAs 10 = .ok (.bipush 15, 2) := dk_16 15 (dk_at dksX6_readsAs_0 10 rfl rfl)
theorem dX6_readsAs_12 : decode cX6_readsAs 12 = .ok (.goto 5, 3) := dk_167 0 5 (dk_at dksX6_readsAs_0 12 rfl rfl)
theorem dX6_readsAs_15 : decode cX6_readsAs 15 = .ok (.bipush 8, 2) := dk_16 8 (dk_at dksX6_readsAs_0 15 rfl rfl)
theorem dX6_readsAs_17 : decode cX6_readsAs 17 = .ok (.putfield 230, 3) := dk_181 0 230 (dk_at dksX6_readsAs_0 17 rfl rfl)
theorem dX6_readsAs_20 : decode cX6_readsAs 20 = .ok (.aload_n 0, 1) := dk_42 (dk_at dksX6_readsAs_0 20 rfl rfl)
theorem dX6_readsAs_21 : decode cX6_readsAs 21 = .ok (.iload_n 1, 1) := dk_27 (dk_at dksX6_readsAs_0 21 rfl rfl)
theorem dX6_readsAs_22 : decode cX6_readsAs 22 = .ok (.ifCond .eq 8, 3) := dk_153 0 8 (dk_at dksX6_readsAs_1 0 rfl rfl)
theorem dX6_readsAs_25 : decode cX6_readsAs 25 = .ok (.bipush 21, 2) := dk_16 21 (dk_at dksX6_readsAs_1 3 rfl rfl)
theorem dX6_readsAs_27 : decode cX6_readsAs 27 = .ok (.goto 5, 3) := dk_167 0 5 (dk_at dksX6_readsAs_1 5 rfl rfl)
theorem dX6_readsAs_30 : decode cX6_readsAs 30 = .ok (.bipush 17, 2) := dk_16 17 (dk_at dksX6_readsAs_1 8 rfl rfl)
theorem dX6_readsAs_32 : decode cX6_readsAs 32 = .ok (.putfield 233, 3) := dk_181 0 233 (dk_at dksX6_readsAs_1 10 rfl rfl)
theorem dX6_readsAs_35 : decode cX6_readsAs 35 = .ok (.aload_n 0, 1) := dk_42 (dk_at dksX6_readsAs_1 13 rfl rfl)
theorem dX6_readsAs_36 : decode cX6_readsAs 36 = .ok (.invokevirtual 245, 3) := dk_182 0 245 (dk_at dksX6_readsAs_1 14 rfl rfl)
theorem dX6_readsAs_39 : decode cX6_readsAs 39 = .ok (.ireturn, 1) := dk_172 (dk_at dksX6_readsAs_1 17 rfl rfl)
abbrev cX6_reads : ByteArray := prog_24_method_51_code
def yX6_reads : MethodName := ⟨RX6, "reads", "()Z"⟩
def dkwX6_reads_4 : List UInt8 := [182, 0, 186, 42, 42, 180, 0, 174, 181, 0, 51, 42, 182, 0, 177, 172]
abbrev dktX6_reads_4 : List UInt8 := dkwX6_reads_4 ++ []
def dkwX6_reads_3 : List UInt8 := [167, 255, 220, 42, 182, 0, 177, 153, 0, 18, 42, 180, 0, 180, 42, 180, 0, 160, 162, 0, 7, 42]
abbrev dktX6_reads_3 : List UInt8 := dkwX6_reads_3 ++ dktX6_reads_4
def dkwX6_reads_2 : List UInt8 := [16, 12, 160, 0, 7, 42, 182, 0, 186, 42, 182, 0, 177, 153, 0, 7, 42, 182, 0, 242, 132, 1, 1]
abbrev dktX6_reads_2 : List UInt8 := dkwX6_reads_2 ++ dktX6_reads_3
def dkwX6_reads_1 : List UInt8 := [2, 181, 0, 174, 42, 182, 0, 242, 4, 60, 42, 16, 59, 184, 0, 220, 182, 0, 183, 153, 0, 30, 27]
abbrev dktX6_reads_1 : List UInt8 := dkwX6_reads_1 ++ dktX6_reads_2
def dkwX6_reads_0 : List UInt8 := [42, 42, 180, 0, 154, 182, 0, 239, 42, 3, 181, 0, 154, 42, 3, 181, 0, 180, 42, 3, 181, 0, 189, 42]
abbrev dktX6_reads_0 : List UInt8 := dkwX6_reads_0 ++ dktX6_reads_1
theorem dksX6_reads_0 : cX6_reads.data.toList.drop 0 = dktX6_reads_0 := by decide +kernel
theorem dksX6_reads_1 : cX6_reads.data.toList.drop 24 = dktX6_reads_1 := dk_seg dksX6_reads_0 24 rfl rfl
theorem dksX6_reads_2 : cX6_reads.data.toList.drop 47 = dktX6_reads_2 := dk_seg dksX6_reads_1 23 rfl rfl
theorem dksX6_reads_3 : cX6_reads.data.toList.drop 70 = dktX6_reads_3 := dk_seg dksX6_reads_2 23 rfl rfl
theorem dksX6_reads_4 : cX6_reads.data.toList.drop 92 = dktX6_reads_4 := dk_seg dksX6_reads_3 22 rfl rfl
theorem dX6_reads_0 : decode cX6_reads 0 = .ok (.aload_n 0, 1) := dk_42 (dk_at dksX6_reads_0 0 rfl rfl)
theorem dX6_reads_1 : decode cX6_reads 1 = .ok (.aload_n 0, 1) := dk_42 (dk_at dksX6_reads_0 1 rfl rfl)
theorem dX6_reads_2 : decode cX6_reads 2 = .ok (.getfield 154, 3) := dk_180 0 154 (dk_at dksX6_reads_0 2 rfl rfl)
theorem dX6_reads_5 : decode cX6_reads 5 = .ok (.invokevirtual 239, 3) := dk_182 0 239 (dk_at dksX6_reads_0 5 rfl rfl)
theorem dX6_reads_8 : decode cX6_reads 8 = .ok (.aload_n 0, 1) := dk_42 (dk_at dksX6_reads_0 8 rfl rfl)
theorem dX6_reads_9 : decode cX6_reads 9 = .ok (.iconst 0, 1) := dk_3 (dk_at dksX6_reads_0 9 rfl rfl)
theorem dX6_reads_10 : decode cX6_reads 10 = .ok (.putfield 154, 3) := dk_181 0 154 (dk_at dksX6_reads_0 10 rfl rfl)
theorem dX6_reads_13 : decode cX6_reads 13 = .ok (.aload_n 0, 1) := dk_42 (dk_at dksX6_reads_0 13 rfl rfl)
theorem dX6_reads_14 : decode cX6_reads 14 = .ok (.iconst 0, 1) := dk_3 (dk_at dksX6_reads_0 14 rfl rfl)
theorem dX6_reads_15 : decode cX6_reads 15 = .ok (.putfield 180, 3) := dk_181 0 180 (dk_at dksX6_reads_0 15 rfl rfl)
theorem dX6_reads_18 : decode cX6_reads 18 = .ok (.aload_n 0, 1) := dk_42 (dk_at dksX6_reads_0 18 rfl rfl)
theorem dX6_reads_19 : decode cX6_reads 19 = .ok (.iconst 0, 1) := dk_3 (dk_at dksX6_reads_0 19 rfl rfl)
theorem dX6_reads_20 : decode cX6_reads 20 = .ok (.putfield 189, 3) := dk_181 0 189 (dk_at dksX6_reads_0 20 rfl rfl)
theorem dX6_reads_23 : decode cX6_reads 23 = .ok (.aload_n 0, 1) := dk_42 (dk_at dksX6_reads_0 23 rfl rfl)
theorem dX6_reads_24 : decode cX6_reads 24 = .ok (.iconst (-1), 1) := dk_2 (dk_at dksX6_reads_1 0 rfl rfl)
theorem dX6_reads_25 : decode cX6_reads 25 = .ok (.putfield 174, 3) := dk_181 0 174 (dk_at dksX6_reads_1 1 rfl rfl)
theorem dX6_reads_28 : decode cX6_reads 28 = .ok (.aload_n 0, 1) := dk_42 (dk_at dksX6_reads_1 4 rfl rfl)
theorem dX6_reads_29 : decode cX6_reads 29 = .ok (.invokevirtual 242, 3) := dk_182 0 242 (dk_at dksX6_reads_1 5 rfl rfl)
theorem dX6_reads_32 : decode cX6_reads 32 = .ok (.iconst 1, 1) := dk_4 (dk_at dksX6_reads_1 8 rfl rfl)
theorem dX6_reads_33 : decode cX6_reads 33 = .ok (.istore_n 1, 1) := dk_60 (dk_at dksX6_reads_1 9 rfl rfl)
theorem dX6_reads_34 : decode cX6_reads 34 = .ok (.aload_n 0, 1) := dk_42 (dk_at dksX6_reads_1 10 rfl rfl)
theorem dX6_reads_35 : decode cX6_reads 35 = .ok (.bipush 59, 2) := dk_16 59 (dk_at dksX6_reads_1 11 rfl rfl)
theorem dX6_reads_37 : decode cX6_reads 37 = .ok (.invokestatic 220, 3) := dk_184 0 220 (dk_at dksX6_reads_1 13 rfl rfl)
theorem dX6_reads_40 : decode cX6_reads 40 = .ok (.invokevirtual 183, 3) := dk_182 0 183 (dk_at dksX6_reads_1 16 rfl rfl)
theorem dX6_reads_43 : decode cX6_reads 43 = .ok (.ifCond .eq 30, 3) := dk_153 0 30 (dk_at dksX6_reads_1 19 rfl rfl)
theorem dX6_reads_46 : decode cX6_reads 46 = .ok (.iload_n 1, 1) := dk_27 (dk_at dksX6_reads_1 22 rfl rfl)
theorem dX6_reads_47 : decode cX6_reads 47 = .ok (.bipush 12, 2) := dk_16 12 (dk_at dksX6_reads_2 0 rfl rfl)
theorem dX6_reads_49 : decode cX6_reads 49 = .ok (.if_icmp .ne 7, 3) := dk_160 0 7 (dk_at dksX6_reads_2 2 rfl rfl)
theorem dX6_reads_52 : decode cX6_reads 52 = .ok (.aload_n 0, 1) := dk_42 (dk_at dksX6_reads_2 5 rfl rfl)
theorem dX6_reads_53 : decode cX6_reads 53 = .ok (.invokevirtual 186, 3) := dk_182 0 186 (dk_at dksX6_reads_2 6 rfl rfl)
theorem dX6_reads_56 : decode cX6_reads 56 = .ok (.aload_n 0, 1) := dk_42 (dk_at dksX6_reads_2 9 rfl rfl)
theorem dX6_reads_57 : decode cX6_reads 57 = .ok (.invokevirtual 177, 3) := dk_182 0 177 (dk_at dksX6_reads_2 10 rfl rfl)
theorem dX6_reads_60 : decode cX6_reads 60 = .ok (.ifCond .eq 7, 3) := dk_153 0 7 (dk_at dksX6_reads_2 13 rfl rfl)
theorem dX6_reads_63 : decode cX6_reads 63 = .ok (.aload_n 0, 1) := dk_42 (dk_at dksX6_reads_2 16 rfl rfl)
theorem dX6_reads_64 : decode cX6_reads 64 = .ok (.invokevirtual 242, 3) := dk_182 0 242 (dk_at dksX6_reads_2 17 rfl rfl)
theorem dX6_reads_67 : decode cX6_reads 67 = .ok (.iinc 1 1, 3) := dk_132 1 1 (dk_at dksX6_reads_2 20 rfl rfl)
theorem dX6_reads_70 : decode cX6_reads 70 = .ok (.goto (-36), 3) := dk_167 255 220 (dk_at dksX6_reads_3 0 rfl rfl)
theorem dX6_reads_73 : decode cX6_reads 73 = .ok (.aload_n 0, 1) := dk_42 (dk_at dksX6_reads_3 3 rfl rfl)
theorem dX6_reads_74 : decode cX6_reads 74 = .ok (.invokevirtual 177, 3) := dk_182 0 177 (dk_at dksX6_reads_3 4 rfl rfl)
theorem dX6_reads_77 : decode cX6_reads 77 = .ok (.ifCond .eq 18, 3) := dk_153 0 18 (dk_at dksX6_reads_3 7 rfl rfl)
theorem dX6_reads_80 : decode cX6_reads 80 = .ok (.aload_n 0, 1) := dk_42 (dk_at dksX6_reads_3 10 rfl rfl)
theorem dX6_reads_81 : decode cX6_reads 81 = .ok (.getfield 180, 3) := dk_180 0 180 (dk_at dksX6_reads_3 11 rfl rfl)
theorem dX6_reads_84 : decode cX6_reads 84 = .ok (.aload_n 0, 1) := dk_42 (dk_at dksX6_reads_3 14 rfl rfl)
theorem dX6_reads_85 : decode cX6_reads 85 = .ok (.getfield 160, 3) := dk_180 0 160 (dk_at dksX6_reads_3 15 rfl rfl)
theorem dX6_reads_88 : decode cX6_reads 88 = .ok (.if_icmp .ge 7, 3) := dk_162 0 7 (dk_at dksX6_reads_3 18 rfl rfl)
theorem dX6_reads_91 : decode cX6_reads 91 = .ok (.aload_n 0, 1) := dk_42 (dk_at dksX6_reads_3 21 rfl rfl)
theorem dX6_reads_92 : decode cX6_reads 92 = .ok (.invokevirtual 186, 3) := dk_182 0 186 (dk_at dksX6_reads_4 0 rfl rfl)
theorem dX6_reads_95 : decode cX6_reads 95 = .ok (.aload_n 0, 1) := dk_42 (dk_at dksX6_reads_4 3 rfl rfl)
theorem dX6_reads_96 : decode cX6_reads 96 = .ok (.aload_n 0, 1) := dk_42 (dk_at dksX6_reads_4 4 rfl rfl)
theorem dX6_reads_97 : decode cX6_reads 97 = .ok (.getfield 174, 3) := dk_180 0 174 (dk_at dksX6_reads_4 5 rfl rfl)
theorem dX6_reads_100 : decode cX6_reads 100 = .ok (.putfield 51, 3) := dk_181 0 51 (dk_at dksX6_reads_4 8 rfl rfl)
theorem dX6_reads_103 : decode cX6_reads 103 = .ok (.aload_n 0, 1) := dk_42 (dk_at dksX6_reads_4 11 rfl rfl)
theorem dX6_reads_104 : decode cX6_reads 104 = .ok (.invokevirtual 177, 3) := dk_182 0 177 (dk_at dksX6_reads_4 12 rfl rfl)
theorem dX6_reads_107 : decode cX6_reads 107 = .ok (.ireturn, 1) := dk_172 (dk_at dksX6_reads_4 15 rfl rfl)
abbrev cX6_splits : ByteArray := prog_24_method_34_code
def yX6_splits : MethodName := ⟨RX6, "splits", "(I)V"⟩
def dkwX6_splits_12 : List UInt8 := [3, 79, 42, 180, 0, 57, 42, 180, 0, 160, 3, 79, 177]
abbrev dktX6_splits_12 : List UInt8 := dkwX6_splits_12 ++ []
def dkwX6_splits_11 : List UInt8 := [21, 4, 61, 167, 255, 3, 42, 180, 0, 60, 42, 180, 0, 160, 27, 79, 42, 180, 0, 54, 42, 180, 0, 160]
abbrev dktX6_splits_11 : List UInt8 := dkwX6_splits_11 ++ dktX6_splits_12
def dkwX6_splits_10 : List UInt8 := [21, 5, 51, 96, 16, 48, 100, 79, 132, 5, 1, 167, 255, 181, 42, 89, 180, 0, 160, 4, 96, 181, 0, 160]
abbrev dktX6_splits_10 : List UInt8 := dkwX6_splits_10 ++ dktX6_splits_11
def dkwX6_splits_9 : List UInt8 := [180, 0, 160, 46, 167, 0, 26, 16, 10, 42, 180, 0, 57, 42, 180, 0, 160, 46, 104, 42, 180, 0, 45]
abbrev dktX6_splits_9 : List UInt8 := dkwX6_splits_9 ++ dktX6_splits_10
def dkwX6_splits_8 : List UInt8 := [42, 180, 0, 160, 42, 180, 0, 57, 42, 180, 0, 160, 46, 18, 173, 164, 0, 15, 42, 180, 0, 57, 42]
abbrev dktX6_splits_8 : List UInt8 := dkwX6_splits_8 ++ dktX6_splits_9
def dkwX6_splits_7 : List UInt8 := [126, 96, 79, 28, 54, 5, 21, 5, 21, 4, 162, 0, 74, 29, 184, 0, 166, 153, 0, 67, 42, 180, 0, 57]
abbrev dktX6_splits_7 : List UInt8 := dkwX6_splits_7 ++ dktX6_splits_8
def dkwX6_splits_6 : List UInt8 := [182, 0, 169, 167, 0, 23, 29, 184, 0, 166, 153, 0, 8, 16, 50, 167, 0, 11, 16, 100, 29, 17, 0, 255]
abbrev dktX6_splits_6 : List UInt8 := dkwX6_splits_6 ++ dktX6_splits_7
def dkwX6_splits_5 : List UInt8 := [180, 0, 160, 3, 79, 42, 180, 0, 54, 42, 180, 0, 160, 29, 184, 0, 163, 153, 0, 13, 42, 28, 21, 4]
abbrev dktX6_splits_5 : List UInt8 := dkwX6_splits_5 ++ dktX6_splits_6
def dkwX6_splits_4 : List UInt8 := [153, 0, 9, 132, 4, 1, 167, 255, 234, 42, 180, 0, 60, 42, 180, 0, 160, 28, 79, 42, 180, 0, 57, 42]
abbrev dktX6_splits_4 : List UInt8 := dkwX6_splits_4 ++ dktX6_splits_5
def dkwX6_splits_3 : List UInt8 := [184, 0, 166, 153, 0, 28, 21, 4, 27, 162, 0, 22, 42, 180, 0, 45, 21, 4, 51, 184, 0, 166]
abbrev dktX6_splits_3 : List UInt8 := dkwX6_splits_3 ++ dktX6_splits_4
def dkwX6_splits_2 : List UInt8 := [162, 0, 22, 42, 180, 0, 45, 21, 4, 51, 184, 0, 163, 153, 0, 9, 132, 4, 1, 167, 255, 234, 29]
abbrev dktX6_splits_2 : List UInt8 := dkwX6_splits_2 ++ dktX6_splits_3
def dkwX6_splits_1 : List UInt8 := [160, 0, 9, 132, 2, 1, 167, 255, 235, 28, 4, 96, 54, 4, 29, 184, 0, 163, 153, 0, 28, 21, 4, 27]
abbrev dktX6_splits_1 : List UInt8 := dkwX6_splits_1 ++ dktX6_splits_2
def dkwX6_splits_0 : List UInt8 := [42, 3, 181, 0, 160, 3, 61, 28, 27, 162, 0, 254, 42, 180, 0, 45, 28, 51, 62, 29, 16, 32]
abbrev dktX6_splits_0 : List UInt8 := dkwX6_splits_0 ++ dktX6_splits_1
theorem dksX6_splits_0 : cX6_splits.data.toList.drop 0 = dktX6_splits_0 := by decide +kernel
theorem dksX6_splits_1 : cX6_splits.data.toList.drop 22 = dktX6_splits_1 := dk_seg dksX6_splits_0 22 rfl rfl
theorem dksX6_splits_2 : cX6_splits.data.toList.drop 46 = dktX6_splits_2 := dk_seg dksX6_splits_1 24 rfl rfl
theorem dksX6_splits_3 : cX6_splits.data.toList.drop 69 = dktX6_splits_3 := dk_seg dksX6_splits_2 23 rfl rfl
theorem dksX6_splits_4 : cX6_splits.data.toList.drop 91 = dktX6_splits_4 := dk_seg dksX6_splits_3 22 rfl rfl
theorem dksX6_splits_5 : cX6_splits.data.toList.drop 115 = dktX6_splits_5 := dk_seg dksX6_splits_4 24 rfl rfl
theorem dksX6_splits_6 : cX6_splits.data.toList.drop 139 = dktX6_splits_6 := dk_seg dksX6_splits_5 24 rfl rfl
theorem dksX6_splits_7 : cX6_splits.data.toList.drop 163 = dktX6_splits_7 := dk_seg dksX6_splits_6 24 rfl rfl
theorem dksX6_splits_8 : cX6_splits.data.toList.drop 187 = dktX6_splits_8 := dk_seg dksX6_splits_7 24 rfl rfl
theorem dksX6_splits_9 : cX6_splits.data.toList.drop 210 = dktX6_splits_9 := dk_seg dksX6_splits_8 23 rfl rfl
theorem dksX6_splits_10 : cX6_splits.data.toList.drop 233 = dktX6_splits_10 := dk_seg dksX6_splits_9 23 rfl rfl
theorem dksX6_splits_11 : cX6_splits.data.toList.drop 257 = dktX6_splits_11 := dk_seg dksX6_splits_10 24 rfl rfl
theorem dksX6_splits_12 : cX6_splits.data.toList.drop 281 = dktX6_splits_12 := dk_seg dksX6_splits_11 24 rfl rfl
theorem dX6_splits_0 : decode cX6_splits 0 = .ok (.aload_n 0, 1) := dk_42 (dk_at dksX6_splits_0 0 rfl rfl)
theorem dX6_splits_1 : decode cX6_splits 1 = .ok (.iconst 0, 1) := dk_3 (dk_at dksX6_splits_0 1 rfl rfl)
theorem dX6_splits_2 : decode cX6_splits 2 = .ok (.putfield 160, 3) := dk_181 0 160 (dk_at dksX6_splits_0 2 rfl rfl)
theorem dX6_splits_5 : decode cX6_splits 5 = .ok (.iconst 0, 1) := dk_3 (dk_at dksX6_splits_0 5 rfl rfl)
theorem dX6_splits_6 : decode cX6_splits 6 = .ok (.istore_n 2, 1) := dk_61 (dk_at dksX6_splits_0 6 rfl rfl)
theorem dX6_splits_7 : decode cX6_splits 7 = .ok (.iload_n 2, 1) := dk_28 (dk_at dksX6_splits_0 7 rfl rfl)
theorem dX6_splits_8 : decode cX6_splits 8 = .ok (.iload_n 1, 1) := dk_27 (dk_at dksX6_splits_0 8 rfl rfl)
theorem dX6_splits_9 : decode cX6_splits 9 = .ok (.if_icmp .ge 254, 3) := dk_162 0 254 (dk_at dksX6_splits_0 9 rfl rfl)
theorem dX6_splits_12 : decode cX6_splits 12 = .ok (.aload_n 0, 1) := dk_42 (dk_at dksX6_splits_0 12 rfl rfl)
theorem dX6_splits_13 : decode cX6_splits 13 = .ok (.getfield 45, 3) := dk_180 0 45 (dk_at dksX6_splits_0 13 rfl rfl)
theorem dX6_splits_16 : decode cX6_splits 16 = .ok (.iload_n 2, 1) := dk_28 (dk_at dksX6_splits_0 16 rfl rfl)
theorem dX6_splits_17 : decode cX6_splits 17 = .ok (.baload, 1) := dk_51 (dk_at dksX6_splits_0 17 rfl rfl)
theorem dX6_splits_18 : decode cX6_splits 18 = .ok (.istore_n 3, 1) := dk_62 (dk_at dksX6_splits_0 18 rfl rfl)
theorem dX6_splits_19 : decode cX6_splits 19 = .ok (.iload_n 3, 1) := dk_29 (dk_at dksX6_splits_0 19 rfl rfl)
theorem dX6_splits_20 : decode cX6_splits 20 = .ok (.bipush 32, 2) := dk_16 32 (dk_at dksX6_splits_0 20 rfl rfl)
theorem dX6_splits_22 : decode cX6_splits 22 = .ok (.if_icmp .ne 9, 3) := dk_160 0 9 (dk_at dksX6_splits_1 0 rfl rfl)
theorem dX6_splits_25 : decode cX6_splits 25 = .ok (.iinc 2 1, 3) := dk_132 2 1 (dk_at dksX6_splits_1 3 rfl rfl)
theorem dX6_splits_28 : decode cX6_splits 28 = .ok (.goto (-21), 3) := dk_167 255 235 (dk_at dksX6_splits_1 6 rfl rfl)
theorem dX6_splits_31 : decode cX6_splits 31 = .ok (.iload_n 2, 1) := dk_28 (dk_at dksX6_splits_1 9 rfl rfl)
theorem dX6_splits_32 : decode cX6_splits 32 = .ok (.iconst 1, 1) := dk_4 (dk_at dksX6_splits_1 10 rfl rfl)
theorem dX6_splits_33 : decode cX6_splits 33 = .ok (.iadd, 1) := dk_96 (dk_at dksX6_splits_1 11 rfl rfl)
theorem dX6_splits_34 : decode cX6_splits 34 = .ok (.istore 4, 2) := dk_54 4 (dk_at dksX6_splits_1 12 rfl rfl)
theorem dX6_splits_36 : decode cX6_splits 36 = .ok (.iload_n 3, 1) := dk_29 (dk_at dksX6_splits_1 14 rfl rfl)
theorem dX6_splits_37 : decode cX6_splits 37 = .ok (.invokestatic 163, 3) := dk_184 0 163 (dk_at dksX6_splits_1 15 rfl rfl)
theorem dX6_splits_40 : decode cX6_splits 40 = .ok (.ifCond .eq 28, 3) := dk_153 0 28 (dk_at dksX6_splits_1 18 rfl rfl)
theorem dX6_splits_43 : decode cX6_splits 43 = .ok (.iload 4, 2) := dk_21 4 (dk_at dksX6_splits_1 21 rfl rfl)
theorem dX6_splits_45 : decode cX6_splits 45 = .ok (.iload_n 1, 1) := dk_27 (dk_at dksX6_splits_1 23 rfl rfl)
theorem dX6_splits_46 : decode cX6_splits 46 = .ok (.if_icmp .ge 22, 3) := dk_162 0 22 (dk_at dksX6_splits_2 0 rfl rfl)
theorem dX6_splits_49 : decode cX6_splits 49 = .ok (.aload_n 0, 1) := dk_42 (dk_at dksX6_splits_2 3 rfl rfl)
theorem dX6_splits_50 : decode cX6_splits 50 = .ok (.getfield 45, 3) := dk_180 0 45 (dk_at dksX6_splits_2 4 rfl rfl)
theorem dX6_splits_53 : decode cX6_splits 53 = .ok (.iload 4, 2) := dk_21 4 (dk_at dksX6_splits_2 7 rfl rfl)
theorem dX6_splits_55 : decode cX6_splits 55 = .ok (.baload, 1) := dk_51 (dk_at dksX6_splits_2 9 rfl rfl)
theorem dX6_splits_56 : decode cX6_splits 56 = .ok (.invokestatic 163, 3) := dk_184 0 163 (dk_at dksX6_splits_2 10 rfl rfl)
theorem dX6_splits_59 : decode cX6_splits 59 = .ok (.ifCond .eq 9, 3) := dk_153 0 9 (dk_at dksX6_splits_2 13 rfl rfl)
theorem dX6_splits_62 : decode cX6_splits 62 = .ok (.iinc 4 1, 3) := dk_132 4 1 (dk_at dksX6_splits_2 16 rfl rfl)
theorem dX6_splits_65 : decode cX6_splits 65 = .ok (.goto (-22), 3) := dk_167 255 234 (dk_at dksX6_splits_2 19 rfl rfl)
theorem dX6_splits_68 : decode cX6_splits 68 = .ok (.iload_n 3, 1) := dk_29 (dk_at dksX6_splits_2 22 rfl rfl)
theorem dX6_splits_69 : decode cX6_splits 69 = .ok (.invokestatic 166, 3) := dk_184 0 166 (dk_at dksX6_splits_3 0 rfl rfl)
theorem dX6_splits_72 : decode cX6_splits 72 = .ok (.ifCond .eq 28, 3) := dk_153 0 28 (dk_at dksX6_splits_3 3 rfl rfl)
theorem dX6_splits_75 : decode cX6_splits 75 = .ok (.iload 4, 2) := dk_21 4 (dk_at dksX6_splits_3 6 rfl rfl)
theorem dX6_splits_77 : decode cX6_splits 77 = .ok (.iload_n 1, 1) := dk_27 (dk_at dksX6_splits_3 8 rfl rfl)
theorem dX6_splits_78 : decode cX6_splits 78 = .ok (.if_icmp .ge 22, 3) := dk_162 0 22 (dk_at dksX6_splits_3 9 rfl rfl)
theorem dX6_splits_81 : decode cX6_splits 81 = .ok (.aload_n 0, 1) := dk_42 (dk_at dksX6_splits_3 12 rfl rfl)
theorem dX6_splits_82 : decode cX6_splits 82 = .ok (.getfield 45, 3) := dk_180 0 45 (dk_at dksX6_splits_3 13 rfl rfl)
theorem dX6_splits_85 : decode cX6_splits 85 = .ok (.iload 4, 2) := dk_21 4 (dk_at dksX6_splits_3 16 rfl rfl)
theorem dX6_splits_87 : decode cX6_splits 87 = .ok (.baload, 1) := dk_51 (dk_at dksX6_splits_3 18 rfl rfl)
theorem dX6_splits_88 : decode cX6_splits 88 = .ok (.invokestatic 166, 3) := dk_184 0 166 (dk_at dksX6_splits_3 19 rfl rfl)
theorem dX6_splits_91 : decode cX6_splits 91 = .ok (.ifCond .eq 9, 3) := dk_153 0 9 (dk_at dksX6_splits_4 0 rfl rfl)
theorem dX6_splits_94 : decode cX6_splits 94 = .ok (.iinc 4 1, 3) := dk_132 4 1 (dk_at dksX6_splits_4 3 rfl rfl)
theorem dX6_splits_97 : decode cX6_splits 97 = .ok (.goto (-22), 3) := dk_167 255 234 (dk_at dksX6_splits_4 6 rfl rfl)
theorem dX6_splits_100 : decode cX6_splits 100 = .ok (.aload_n 0, 1) := dk_42 (dk_at dksX6_splits_4 9 rfl rfl)
theorem dX6_splits_101 : decode cX6_splits 101 = .ok (.getfield 60, 3) := dk_180 0 60 (dk_at dksX6_splits_4 10 rfl rfl)
theorem dX6_splits_104 : decode cX6_splits 104 = .ok (.aload_n 0, 1) := dk_42 (dk_at dksX6_splits_4 13 rfl rfl)
theorem dX6_splits_105 : decode cX6_splits 105 = .ok (.getfield 160, 3) := dk_180 0 160 (dk_at dksX6_splits_4 14 rfl rfl)
theorem dX6_splits_108 : decode cX6_splits 108 = .ok (.iload_n 2, 1) := dk_28 (dk_at dksX6_splits_4 17 rfl rfl)
theorem dX6_splits_109 : decode cX6_splits 109 = .ok (.iastore, 1) := dk_79 (dk_at dksX6_splits_4 18 rfl rfl)
theorem dX6_splits_110 : decode cX6_splits 110 = .ok (.aload_n 0, 1) := dk_42 (dk_at dksX6_splits_4 19 rfl rfl)
theorem dX6_splits_111 : decode cX6_splits 111 = .ok (.getfield 57, 3) := dk_180 0 57 (dk_at dksX6_splits_4 20 rfl rfl)
theorem dX6_splits_114 : decode cX6_splits 114 = .ok (.aload_n 0, 1) := dk_42 (dk_at dksX6_splits_4 23 rfl rfl)
theorem dX6_splits_115 : decode cX6_splits 115 = .ok (.getfield 160, 3) := dk_180 0 160 (dk_at dksX6_splits_5 0 rfl rfl)
theorem dX6_splits_118 : decode cX6_splits 118 = .ok (.iconst 0, 1) := dk_3 (dk_at dksX6_splits_5 3 rfl rfl)
theorem dX6_splits_119 : decode cX6_splits 119 = .ok (.iastore, 1) := dk_79 (dk_at dksX6_splits_5 4 rfl rfl)
theorem dX6_splits_120 : decode cX6_splits 120 = .ok (.aload_n 0, 1) := dk_42 (dk_at dksX6_splits_5 5 rfl rfl)
theorem dX6_splits_121 : decode cX6_splits 121 = .ok (.getfield 54, 3) := dk_180 0 54 (dk_at dksX6_splits_5 6 rfl rfl)
theorem dX6_splits_124 : decode cX6_splits 124 = .ok (.aload_n 0, 1) := dk_42 (dk_at dksX6_splits_5 9 rfl rfl)
theorem dX6_splits_125 : decode cX6_splits 125 = .ok (.getfield 160, 3) := dk_180 0 160 (dk_at dksX6_splits_5 10 rfl rfl)
theorem dX6_splits_128 : decode cX6_splits 128 = .ok (.iload_n 3, 1) := dk_29 (dk_at dksX6_splits_5 13 rfl rfl)
theorem dX6_splits_129 : decode cX6_splits 129 = .ok (.invokestatic 163, 3) := dk_184 0 163 (dk_at dksX6_splits_5 14 rfl rfl)
theorem dX6_splits_132 : decode cX6_splits 132 = .ok (.ifCond .eq 13, 3) := dk_153 0 13 (dk_at dksX6_splits_5 17 rfl rfl)
theorem dX6_splits_135 : decode cX6_splits 135 = .ok (.aload_n 0, 1) := dk_42 (dk_at dksX6_splits_5 20 rfl rfl)
theorem dX6_splits_136 : decode cX6_splits 136 = .ok (.iload_n 2, 1) := dk_28 (dk_at dksX6_splits_5 21 rfl rfl)
theorem dX6_splits_137 : decode cX6_splits 137 = .ok (.iload 4, 2) := dk_21 4 (dk_at dksX6_splits_5 22 rfl rfl)
theorem dX6_splits_139 : decode cX6_splits 139 = .ok (.invokevirtual 169, 3) := dk_182 0 169 (dk_at dksX6_splits_6 0 rfl rfl)
theorem dX6_splits_142 : decode cX6_splits 142 = .ok (.goto 23, 3) := dk_167 0 23 (dk_at dksX6_splits_6 3 rfl rfl)
theorem dX6_splits_145 : decode cX6_splits 145 = .ok (.iload_n 3, 1) := dk_29 (dk_at dksX6_splits_6 6 rfl rfl)
theorem dX6_splits_146 : decode cX6_splits 146 = .ok (.invokestatic 166, 3) := dk_184 0 166 (dk_at dksX6_splits_6 7 rfl rfl)
theorem dX6_splits_149 : decode cX6_splits 149 = .ok (.ifCond .eq 8, 3) := dk_153 0 8 (dk_at dksX6_splits_6 10 rfl rfl)
theorem dX6_splits_152 : decode cX6_splits 152 = .ok (.bipush 50, 2) := dk_16 50 (dk_at dksX6_splits_6 13 rfl rfl)
theorem dX6_splits_154 : decode cX6_splits 154 = .ok (.goto 11, 3) := dk_167 0 11 (dk_at dksX6_splits_6 15 rfl rfl)
theorem dX6_splits_157 : decode cX6_splits 157 = .ok (.bipush 100, 2) := dk_16 100 (dk_at dksX6_splits_6 18 rfl rfl)
theorem dX6_splits_159 : decode cX6_splits 159 = .ok (.iload_n 3, 1) := dk_29 (dk_at dksX6_splits_6 20 rfl rfl)
theorem dX6_splits_160 : decode cX6_splits 160 = .ok (.sipush 255, 3) := dk_17 0 255 (dk_at dksX6_splits_6 21 rfl rfl)
theorem dX6_splits_163 : decode cX6_splits 163 = .ok (.iand, 1) := dk_126 (dk_at dksX6_splits_7 0 rfl rfl)
theorem dX6_splits_164 : decode cX6_splits 164 = .ok (.iadd, 1) := dk_96 (dk_at dksX6_splits_7 1 rfl rfl)
theorem dX6_splits_165 : decode cX6_splits 165 = .ok (.iastore, 1) := dk_79 (dk_at dksX6_splits_7 2 rfl rfl)
theorem dX6_splits_166 : decode cX6_splits 166 = .ok (.iload_n 2, 1) := dk_28 (dk_at dksX6_splits_7 3 rfl rfl)
theorem dX6_splits_167 : decode cX6_splits 167 = .ok (.istore 5, 2) := dk_54 5 (dk_at dksX6_splits_7 4 rfl rfl)
theorem dX6_splits_169 : decode cX6_splits 169 = .ok (.iload 5, 2) := dk_21 5 (dk_at dksX6_splits_7 6 rfl rfl)
theorem dX6_splits_171 : decode cX6_splits 171 = .ok (.iload 4, 2) := dk_21 4 (dk_at dksX6_splits_7 8 rfl rfl)
theorem dX6_splits_173 : decode cX6_splits 173 = .ok (.if_icmp .ge 74, 3) := dk_162 0 74 (dk_at dksX6_splits_7 10 rfl rfl)
theorem dX6_splits_176 : decode cX6_splits 176 = .ok (.iload_n 3, 1) := dk_29 (dk_at dksX6_splits_7 13 rfl rfl)
theorem dX6_splits_177 : decode cX6_splits 177 = .ok (.invokestatic 166, 3) := dk_184 0 166 (dk_at dksX6_splits_7 14 rfl rfl)
theorem dX6_splits_180 : decode cX6_splits 180 = .ok (.ifCond .eq 67, 3) := dk_153 0 67 (dk_at dksX6_splits_7 17 rfl rfl)
theorem dX6_splits_183 : decode cX6_splits 183 = .ok (.aload_n 0, 1) := dk_42 (dk_at dksX6_splits_7 20 rfl rfl)
theorem dX6_splits_184 : decode cX6_splits 184 = .ok (.getfield 57, 3) := dk_180 0 57 (dk_at dksX6_splits_7 21 rfl rfl)
theorem dX6_splits_187 : decode cX6_splits 187 = .ok (.aload_n 0, 1) := dk_42 (dk_at dksX6_splits_8 0 rfl rfl)
theorem dX6_splits_188 : decode cX6_splits 188 = .ok (.getfield 160, 3) := dk_180 0 160 (dk_at dksX6_splits_8 1 rfl rfl)
theorem dX6_splits_191 : decode cX6_splits 191 = .ok (.aload_n 0, 1) := dk_42 (dk_at dksX6_splits_8 4 rfl rfl)
theorem dX6_splits_192 : decode cX6_splits 192 = .ok (.getfield 57, 3) := dk_180 0 57 (dk_at dksX6_splits_8 5 rfl rfl)
theorem dX6_splits_195 : decode cX6_splits 195 = .ok (.aload_n 0, 1) := dk_42 (dk_at dksX6_splits_8 8 rfl rfl)
theorem dX6_splits_196 : decode cX6_splits 196 = .ok (.getfield 160, 3) := dk_180 0 160 (dk_at dksX6_splits_8 9 rfl rfl)
theorem dX6_splits_199 : decode cX6_splits 199 = .ok (.iaload, 1) := dk_46 (dk_at dksX6_splits_8 12 rfl rfl)
theorem dX6_splits_200 : decode cX6_splits 200 = .ok (.ldc 173, 2) := dk_18 173 (dk_at dksX6_splits_8 13 rfl rfl)
theorem dX6_splits_202 : decode cX6_splits 202 = .ok (.if_icmp .le 15, 3) := dk_164 0 15 (dk_at dksX6_splits_8 15 rfl rfl)
theorem dX6_splits_205 : decode cX6_splits 205 = .ok (.aload_n 0, 1) := dk_42 (dk_at dksX6_splits_8 18 rfl rfl)
theorem dX6_splits_206 : decode cX6_splits 206 = .ok (.getfield 57, 3) := dk_180 0 57 (dk_at dksX6_splits_8 19 rfl rfl)
theorem dX6_splits_209 : decode cX6_splits 209 = .ok (.aload_n 0, 1) := dk_42 (dk_at dksX6_splits_8 22 rfl rfl)
theorem dX6_splits_210 : decode cX6_splits 210 = .ok (.getfield 160, 3) := dk_180 0 160 (dk_at dksX6_splits_9 0 rfl rfl)
theorem dX6_splits_213 : decode cX6_splits 213 = .ok (.iaload, 1) := dk_46 (dk_at dksX6_splits_9 3 rfl rfl)
theorem dX6_splits_214 : decode cX6_splits 214 = .ok (.goto 26, 3) := dk_167 0 26 (dk_at dksX6_splits_9 4 rfl rfl)
theorem dX6_splits_217 : decode cX6_splits 217 = .ok (.bipush 10, 2) := dk_16 10 (dk_at dksX6_splits_9 7 rfl rfl)
theorem dX6_splits_219 : decode cX6_splits 219 = .ok (.aload_n 0, 1) := dk_42 (dk_at dksX6_splits_9 9 rfl rfl)
theorem dX6_splits_220 : decode cX6_splits 220 = .ok (.getfield 57, 3) := dk_180 0 57 (dk_at dksX6_splits_9 10 rfl rfl)
theorem dX6_splits_223 : decode cX6_splits 223 = .ok (.aload_n 0, 1) := dk_42 (dk_at dksX6_splits_9 13 rfl rfl)
theorem dX6_splits_224 : decode cX6_splits 224 = .ok (.getfield 160, 3) := dk_180 0 160 (dk_at dksX6_splits_9 14 rfl rfl)
theorem dX6_splits_227 : decode cX6_splits 227 = .ok (.iaload, 1) := dk_46 (dk_at dksX6_splits_9 17 rfl rfl)
theorem dX6_splits_228 : decode cX6_splits 228 = .ok (.imul, 1) := dk_104 (dk_at dksX6_splits_9 18 rfl rfl)
theorem dX6_splits_229 : decode cX6_splits 229 = .ok (.aload_n 0, 1) := dk_42 (dk_at dksX6_splits_9 19 rfl rfl)
theorem dX6_splits_230 : decode cX6_splits 230 = .ok (.getfield 45, 3) := dk_180 0 45 (dk_at dksX6_splits_9 20 rfl rfl)
theorem dX6_splits_233 : decode cX6_splits 233 = .ok (.iload 5, 2) := dk_21 5 (dk_at dksX6_splits_10 0 rfl rfl)
theorem dX6_splits_235 : decode cX6_splits 235 = .ok (.baload, 1) := dk_51 (dk_at dksX6_splits_10 2 rfl rfl)
theorem dX6_splits_236 : decode cX6_splits 236 = .ok (.iadd, 1) := dk_96 (dk_at dksX6_splits_10 3 rfl rfl)
theorem dX6_splits_237 : decode cX6_splits 237 = .ok (.bipush 48, 2) := dk_16 48 (dk_at dksX6_splits_10 4 rfl rfl)
theorem dX6_splits_239 : decode cX6_splits 239 = .ok (.isub, 1) := dk_100 (dk_at dksX6_splits_10 6 rfl rfl)
theorem dX6_splits_240 : decode cX6_splits 240 = .ok (.iastore, 1) := dk_79 (dk_at dksX6_splits_10 7 rfl rfl)
theorem dX6_splits_241 : decode cX6_splits 241 = .ok (.iinc 5 1, 3) := dk_132 5 1 (dk_at dksX6_splits_10 8 rfl rfl)
theorem dX6_splits_244 : decode cX6_splits 244 = .ok (.goto (-75), 3) := dk_167 255 181 (dk_at dksX6_splits_10 11 rfl rfl)
theorem dX6_splits_247 : decode cX6_splits 247 = .ok (.aload_n 0, 1) := dk_42 (dk_at dksX6_splits_10 14 rfl rfl)
theorem dX6_splits_248 : decode cX6_splits 248 = .ok (.dup, 1) := dk_89 (dk_at dksX6_splits_10 15 rfl rfl)
theorem dX6_splits_249 : decode cX6_splits 249 = .ok (.getfield 160, 3) := dk_180 0 160 (dk_at dksX6_splits_10 16 rfl rfl)
theorem dX6_splits_252 : decode cX6_splits 252 = .ok (.iconst 1, 1) := dk_4 (dk_at dksX6_splits_10 19 rfl rfl)
theorem dX6_splits_253 : decode cX6_splits 253 = .ok (.iadd, 1) := dk_96 (dk_at dksX6_splits_10 20 rfl rfl)
theorem dX6_splits_254 : decode cX6_splits 254 = .ok (.putfield 160, 3) := dk_181 0 160 (dk_at dksX6_splits_10 21 rfl rfl)
theorem dX6_splits_257 : decode cX6_splits 257 = .ok (.iload 4, 2) := dk_21 4 (dk_at dksX6_splits_11 0 rfl rfl)
theorem dX6_splits_259 : decode cX6_splits 259 = .ok (.istore_n 2, 1) := dk_61 (dk_at dksX6_splits_11 2 rfl rfl)
theorem dX6_splits_260 : decode cX6_splits 260 = .ok (.goto (-253), 3) := dk_167 255 3 (dk_at dksX6_splits_11 3 rfl rfl)
theorem dX6_splits_263 : decode cX6_splits 263 = .ok (.aload_n 0, 1) := dk_42 (dk_at dksX6_splits_11 6 rfl rfl)
theorem dX6_splits_264 : decode cX6_splits 264 = .ok (.getfield 60, 3) := dk_180 0 60 (dk_at dksX6_splits_11 7 rfl rfl)
theorem dX6_splits_267 : decode cX6_splits 267 = .ok (.aload_n 0, 1) := dk_42 (dk_at dksX6_splits_11 10 rfl rfl)
theorem dX6_splits_268 : decode cX6_splits 268 = .ok (.getfield 160, 3) := dk_180 0 160 (dk_at dksX6_splits_11 11 rfl rfl)
theorem dX6_splits_271 : decode cX6_splits 271 = .ok (.iload_n 1, 1) := dk_27 (dk_at dksX6_splits_11 14 rfl rfl)
theorem dX6_splits_272 : decode cX6_splits 272 = .ok (.iastore, 1) := dk_79 (dk_at dksX6_splits_11 15 rfl rfl)
theorem dX6_splits_273 : decode cX6_splits 273 = .ok (.aload_n 0, 1) := dk_42 (dk_at dksX6_splits_11 16 rfl rfl)
theorem dX6_splits_274 : decode cX6_splits 274 = .ok (.getfield 54, 3) := dk_180 0 54 (dk_at dksX6_splits_11 17 rfl rfl)
theorem dX6_splits_277 : decode cX6_splits 277 = .ok (.aload_n 0, 1) := dk_42 (dk_at dksX6_splits_11 20 rfl rfl)
theorem dX6_splits_278 : decode cX6_splits 278 = .ok (.getfield 160, 3) := dk_180 0 160 (dk_at dksX6_splits_11 21 rfl rfl)
theorem dX6_splits_281 : decode cX6_splits 281 = .ok (.iconst 0, 1) := dk_3 (dk_at dksX6_splits_12 0 rfl rfl)
theorem dX6_splits_282 : decode cX6_splits 282 = .ok (.iastore, 1) := dk_79 (dk_at dksX6_splits_12 1 rfl rfl)
theorem dX6_splits_283 : decode cX6_splits 283 = .ok (.aload_n 0, 1) := dk_42 (dk_at dksX6_splits_12 2 rfl rfl)
theorem dX6_splits_284 : decode cX6_splits 284 = .ok (.getfield 57, 3) := dk_180 0 57 (dk_at dksX6_splits_12 3 rfl rfl)
theorem dX6_splits_287 : decode cX6_splits 287 = .ok (.aload_n 0, 1) := dk_42 (dk_at dksX6_splits_12 6 rfl rfl)
theorem dX6_splits_288 : decode cX6_splits 288 = .ok (.getfield 160, 3) := dk_180 0 160 (dk_at dksX6_splits_12 7 rfl rfl)
theorem dX6_splits_291 : decode cX6_splits 291 = .ok (.iconst 0, 1) := dk_3 (dk_at dksX6_splits_12 10 rfl rfl)
theorem dX6_splits_292 : decode cX6_splits 292 = .ok (.iastore, 1) := dk_79 (dk_at dksX6_splits_12 11 rfl rfl)
theorem dX6_splits_293 : decode cX6_splits 293 = .ok (.return_, 1) := dk_177 (dk_at dksX6_splits_12 12 rfl rfl)
abbrev cX6_isSmall : ByteArray := prog_24_method_31_code
def yX6_isSmall : MethodName := ⟨RX6, "isSmall", "(I)Z"⟩
def dkwX6_isSmall_0 : List UInt8 := [26, 16, 97, 161, 0, 13, 26, 16, 122, 163, 0, 7, 4, 167, 0, 4, 3, 172]
abbrev dktX6_isSmall_0 : List UInt8 := dkwX6_isSmall_0 ++ []
theorem dksX6_isSmall_0 : cX6_isSmall.data.toList.drop 0 = dktX6_isSmall_0 := by decide +kernel
theorem dX6_isSmall_0 : decode cX6_isSmall 0 = .ok (.iload_n 0, 1) := dk_26 (dk_at dksX6_isSmall_0 0 rfl rfl)
theorem dX6_isSmall_1 : decode cX6_isSmall 1 = .ok (.bipush 97, 2) := dk_16 97 (dk_at dksX6_isSmall_0 1 rfl rfl)
theorem dX6_isSmall_3 : decode cX6_isSmall 3 = .ok (.if_icmp .lt 13, 3) := dk_161 0 13 (dk_at dksX6_isSmall_0 3 rfl rfl)
theorem dX6_isSmall_6 : decode cX6_isSmall 6 = .ok (.iload_n 0, 1) := dk_26 (dk_at dksX6_isSmall_0 6 rfl rfl)
theorem dX6_isSmall_7 : decode cX6_isSmall 7 = .ok (.bipush 122, 2) := dk_16 122 (dk_at dksX6_isSmall_0 7 rfl rfl)
theorem dX6_isSmall_9 : decode cX6_isSmall 9 = .ok (.if_icmp .gt 7, 3) := dk_163 0 7 (dk_at dksX6_isSmall_0 9 rfl rfl)
theorem dX6_isSmall_12 : decode cX6_isSmall 12 = .ok (.iconst 1, 1) := dk_4 (dk_at dksX6_isSmall_0 12 rfl rfl)
theorem dX6_isSmall_13 : decode cX6_isSmall 13 = .ok (.goto 4, 3) := dk_167 0 4 (dk_at dksX6_isSmall_0 13 rfl rfl)
theorem dX6_isSmall_16 : decode cX6_isSmall 16 = .ok (.iconst 0, 1) := dk_3 (dk_at dksX6_isSmall_0 16 rfl rfl)
theorem dX6_isSmall_17 : decode cX6_isSmall 17 = .ok (.ireturn, 1) := dk_172 (dk_at dksX6_isSmall_0 17 rfl rfl)
abbrev cX6_isDigit : ByteArray := prog_24_method_32_code
def yX6_isDigit : MethodName := ⟨RX6, "isDigit", "(I)Z"⟩
def dkwX6_isDigit_0 : List UInt8 := [26, 16, 48, 161, 0, 13, 26, 16, 57, 163, 0, 7, 4, 167, 0, 4, 3, 172]
abbrev dktX6_isDigit_0 : List UInt8 := dkwX6_isDigit_0 ++ []
theorem dksX6_isDigit_0 : cX6_isDigit.data.toList.drop 0 = dktX6_isDigit_0 := by decide +kernel
theorem dX6_isDigit_0 : decode cX6_isDigit 0 = .ok (.iload_n 0, 1) := dk_26 (dk_at dksX6_isDigit_0 0 rfl rfl)
theorem dX6_isDigit_1 : decode cX6_isDigit 1 = .ok (.bipush 48, 2) := dk_16 48 (dk_at dksX6_isDigit_0 1 rfl rfl)
theorem dX6_isDigit_3 : decode cX6_isDigit 3 = .ok (.if_icmp .lt 13, 3) := dk_161 0 13 (dk_at dksX6_isDigit_0 3 rfl rfl)
theorem dX6_isDigit_6 : decode cX6_isDigit 6 = .ok (.iload_n 0, 1) := dk_26 (dk_at dksX6_isDigit_0 6 rfl rfl)
theorem dX6_isDigit_7 : decode cX6_isDigit 7 = .ok (.bipush 57, 2) := dk_16 57 (dk_at dksX6_isDigit_0 7 rfl rfl)
theorem dX6_isDigit_9 : decode cX6_isDigit 9 = .ok (.if_icmp .gt 7, 3) := dk_163 0 7 (dk_at dksX6_isDigit_0 9 rfl rfl)
theorem dX6_isDigit_12 : decode cX6_isDigit 12 = .ok (.iconst 1, 1) := dk_4 (dk_at dksX6_isDigit_0 12 rfl rfl)
theorem dX6_isDigit_13 : decode cX6_isDigit 13 = .ok (.goto 4, 3) := dk_167 0 4 (dk_at dksX6_isDigit_0 13 rfl rfl)
theorem dX6_isDigit_16 : decode cX6_isDigit 16 = .ok (.iconst 0, 1) := dk_3 (dk_at dksX6_isDigit_0 16 rfl rfl)
theorem dX6_isDigit_17 : decode cX6_isDigit 17 = .ok (.ireturn, 1) := dk_172 (dk_at dksX6_isDigit_0 17 rfl rfl)
abbrev cX6_wordOf : ByteArray := prog_24_method_33_code
def yX6_wordOf : MethodName := ⟨RX6, "wordOf", "(II)I"⟩
def dkwX6_wordOf_5 : List UInt8 := [96, 96, 54, 4, 132, 3, 1, 167, 255, 138, 3, 172]
abbrev dktX6_wordOf_5 : List UInt8 := dkwX6_wordOf_5 ++ []
def dkwX6_wordOf_4 : List UInt8 := [167, 0, 4, 3, 54, 6, 132, 7, 1, 167, 255, 212, 21, 6, 153, 0, 5, 29, 172, 21, 4, 21, 5, 4]
abbrev dktX6_wordOf_4 : List UInt8 := dkwX6_wordOf_4 ++ dktX6_wordOf_5
def dkwX6_wordOf_3 : List UInt8 := [180, 0, 41, 21, 4, 21, 7, 96, 51, 42, 180, 0, 45, 27, 21, 7, 96, 51, 160, 0, 7, 4]
abbrev dktX6_wordOf_3 : List UInt8 := dkwX6_wordOf_3 ++ dktX6_wordOf_4
def dkwX6_wordOf_2 : List UInt8 := [167, 0, 4, 3, 54, 6, 3, 54, 7, 21, 7, 21, 5, 162, 0, 43, 21, 6, 153, 0, 38, 42]
abbrev dktX6_wordOf_2 : List UInt8 := dkwX6_wordOf_2 ++ dktX6_wordOf_3
def dkwX6_wordOf_1 : List UInt8 := [21, 5, 96, 51, 16, 32, 159, 0, 9, 132, 5, 1, 167, 255, 238, 21, 5, 28, 27, 100, 160, 0, 7, 4]
abbrev dktX6_wordOf_1 : List UInt8 := dkwX6_wordOf_1 ++ dktX6_wordOf_2
def dkwX6_wordOf_0 : List UInt8 := [4, 62, 3, 54, 4, 21, 4, 42, 180, 0, 41, 190, 162, 0, 114, 3, 54, 5, 42, 180, 0, 41, 21, 4]
abbrev dktX6_wordOf_0 : List UInt8 := dkwX6_wordOf_0 ++ dktX6_wordOf_1
theorem dksX6_wordOf_0 : cX6_wordOf.data.toList.drop 0 = dktX6_wordOf_0 := by decide +kernel
theorem dksX6_wordOf_1 : cX6_wordOf.data.toList.drop 24 = dktX6_wordOf_1 := dk_seg dksX6_wordOf_0 24 rfl rfl
theorem dksX6_wordOf_2 : cX6_wordOf.data.toList.drop 48 = dktX6_wordOf_2 := dk_seg dksX6_wordOf_1 24 rfl rfl
theorem dksX6_wordOf_3 : cX6_wordOf.data.toList.drop 70 = dktX6_wordOf_3 := dk_seg dksX6_wordOf_2 22 rfl rfl
theorem dksX6_wordOf_4 : cX6_wordOf.data.toList.drop 92 = dktX6_wordOf_4 := dk_seg dksX6_wordOf_3 22 rfl rfl
theorem dksX6_wordOf_5 : cX6_wordOf.data.toList.drop 116 = dktX6_wordOf_5 := dk_seg dksX6_wordOf_4 24 rfl rfl
theorem dX6_wordOf_0 : decode cX6_wordOf 0 = .ok (.iconst 1, 1) := dk_4 (dk_at dksX6_wordOf_0 0 rfl rfl)
theorem dX6_wordOf_1 : decode cX6_wordOf 1 = .ok (.istore_n 3, 1) := dk_62 (dk_at dksX6_wordOf_0 1 rfl rfl)
theorem dX6_wordOf_2 : decode cX6_wordOf 2 = .ok (.iconst 0, 1) := dk_3 (dk_at dksX6_wordOf_0 2 rfl rfl)
theorem dX6_wordOf_3 : decode cX6_wordOf 3 = .ok (.istore 4, 2) := dk_54 4 (dk_at dksX6_wordOf_0 3 rfl rfl)
theorem dX6_wordOf_5 : decode cX6_wordOf 5 = .ok (.iload 4, 2) := dk_21 4 (dk_at dksX6_wordOf_0 5 rfl rfl)
theorem dX6_wordOf_7 : decode cX6_wordOf 7 = .ok (.aload_n 0, 1) := dk_42 (dk_at dksX6_wordOf_0 7 rfl rfl)
theorem dX6_wordOf_8 : decode cX6_wordOf 8 = .ok (.getfield 41, 3) := dk_180 0 41 (dk_at dksX6_wordOf_0 8 rfl rfl)
theorem dX6_wordOf_11 : decode cX6_wordOf 11 = .ok (.arraylength, 1) := dk_190 (dk_at dksX6_wordOf_0 11 rfl rfl)
theorem dX6_wordOf_12 : decode cX6_wordOf 12 = .ok (.if_icmp .ge 114, 3) := dk_162 0 114 (dk_at dksX6_wordOf_0 12 rfl rfl)
theorem dX6_wordOf_15 : decode cX6_wordOf 15 = .ok (.iconst 0, 1) := dk_3 (dk_at dksX6_wordOf_0 15 rfl rfl)
theorem dX6_wordOf_16 : decode cX6_wordOf 16 = .ok (.istore 5, 2) := dk_54 5 (dk_at dksX6_wordOf_0 16 rfl rfl)
theorem dX6_wordOf_18 : decode cX6_wordOf 18 = .ok (.aload_n 0, 1) := dk_42 (dk_at dksX6_wordOf_0 18 rfl rfl)
theorem dX6_wordOf_19 : decode cX6_wordOf 19 = .ok (.getfield 41, 3) := dk_180 0 41 (dk_at dksX6_wordOf_0 19 rfl rfl)
theorem dX6_wordOf_22 : decode cX6_wordOf 22 = .ok (.iload 4, 2) := dk_21 4 (dk_at dksX6_wordOf_0 22 rfl rfl)
theorem dX6_wordOf_24 : decode cX6_wordOf 24 = .ok (.iload 5, 2) := dk_21 5 (dk_at dksX6_wordOf_1 0 rfl rfl)
theorem dX6_wordOf_26 : decode cX6_wordOf 26 = .ok (.iadd, 1) := dk_96 (dk_at dksX6_wordOf_1 2 rfl rfl)
theorem dX6_wordOf_27 : decode cX6_wordOf 27 = .ok (.baload, 1) := dk_51 (dk_at dksX6_wordOf_1 3 rfl rfl)
theorem dX6_wordOf_28 : decode cX6_wordOf 28 = .ok (.bipush 32, 2) := dk_16 32 (dk_at dksX6_wordOf_1 4 rfl rfl)
theorem dX6_wordOf_30 : decode cX6_wordOf 30 = .ok (.if_icmp .eq 9, 3) := dk_159 0 9 (dk_at dksX6_wordOf_1 6 rfl rfl)
theorem dX6_wordOf_33 : decode cX6_wordOf 33 = .ok (.iinc 5 1, 3) := dk_132 5 1 (dk_at dksX6_wordOf_1 9 rfl rfl)
theorem dX6_wordOf_36 : decode cX6_wordOf 36 = .ok (.goto (-18), 3) := dk_167 255 238 (dk_at dksX6_wordOf_1 12 rfl rfl)
theorem dX6_wordOf_39 : decode cX6_wordOf 39 = .ok (.iload 5, 2) := dk_21 5 (dk_at dksX6_wordOf_1 15 rfl rfl)
theorem dX6_wordOf_41 : decode cX6_wordOf 41 = .ok (.iload_n 2, 1) := dk_28 (dk_at dksX6_wordOf_1 17 rfl rfl)
theorem dX6_wordOf_42 : decode cX6_wordOf 42 = .ok (.iload_n 1, 1) := dk_27 (dk_at dksX6_wordOf_1 18 rfl rfl)
theorem dX6_wordOf_43 : decode cX6_wordOf 43 = .ok (.isub, 1) := dk_100 (dk_at dksX6_wordOf_1 19 rfl rfl)
theorem dX6_wordOf_44 : decode cX6_wordOf 44 = .ok (.if_icmp .ne 7, 3) := dk_160 0 7 (dk_at dksX6_wordOf_1 20 rfl rfl)
theorem dX6_wordOf_47 : decode cX6_wordOf 47 = .ok (.iconst 1, 1) := dk_4 (dk_at dksX6_wordOf_1 23 rfl rfl)
theorem dX6_wordOf_48 : decode cX6_wordOf 48 = .ok (.goto 4, 3) := dk_167 0 4 (dk_at dksX6_wordOf_2 0 rfl rfl)
theorem dX6_wordOf_51 : decode cX6_wordOf 51 = .ok (.iconst 0, 1) := dk_3 (dk_at dksX6_wordOf_2 3 rfl rfl)
theorem dX6_wordOf_52 : decode cX6_wordOf 52 = .ok (.istore 6, 2) := dk_54 6 (dk_at dksX6_wordOf_2 4 rfl rfl)
theorem dX6_wordOf_54 : decode cX6_wordOf 54 = .ok (.iconst 0, 1) := dk_3 (dk_at dksX6_wordOf_2 6 rfl rfl)
theorem dX6_wordOf_55 : decode cX6_wordOf 55 = .ok (.istore 7, 2) := dk_54 7 (dk_at dksX6_wordOf_2 7 rfl rfl)
theorem dX6_wordOf_57 : decode cX6_wordOf 57 = .ok (.iload 7, 2) := dk_21 7 (dk_at dksX6_wordOf_2 9 rfl rfl)
theorem dX6_wordOf_59 : decode cX6_wordOf 59 = .ok (.iload 5, 2) := dk_21 5 (dk_at dksX6_wordOf_2 11 rfl rfl)
theorem dX6_wordOf_61 : decode cX6_wordOf 61 = .ok (.if_icmp .ge 43, 3) := dk_162 0 43 (dk_at dksX6_wordOf_2 13 rfl rfl)
theorem dX6_wordOf_64 : decode cX6_wordOf 64 = .ok (.iload 6, 2) := dk_21 6 (dk_at dksX6_wordOf_2 16 rfl rfl)
theorem dX6_wordOf_66 : decode cX6_wordOf 66 = .ok (.ifCond .eq 38, 3) := dk_153 0 38 (dk_at dksX6_wordOf_2 18 rfl rfl)
theorem dX6_wordOf_69 : decode cX6_wordOf 69 = .ok (.aload_n 0, 1) := dk_42 (dk_at dksX6_wordOf_2 21 rfl rfl)
theorem dX6_wordOf_70 : decode cX6_wordOf 70 = .ok (.getfield 41, 3) := dk_180 0 41 (dk_at dksX6_wordOf_3 0 rfl rfl)
theorem dX6_wordOf_73 : decode cX6_wordOf 73 = .ok (.iload 4, 2) := dk_21 4 (dk_at dksX6_wordOf_3 3 rfl rfl)
theorem dX6_wordOf_75 : decode cX6_wordOf 75 = .ok (.iload 7, 2) := dk_21 7 (dk_at dksX6_wordOf_3 5 rfl rfl)
theorem dX6_wordOf_77 : decode cX6_wordOf 77 = .ok (.iadd, 1) := dk_96 (dk_at dksX6_wordOf_3 7 rfl rfl)
theorem dX6_wordOf_78 : decode cX6_wordOf 78 = .ok (.baload, 1) := dk_51 (dk_at dksX6_wordOf_3 8 rfl rfl)
theorem dX6_wordOf_79 : decode cX6_wordOf 79 = .ok (.aload_n 0, 1) := dk_42 (dk_at dksX6_wordOf_3 9 rfl rfl)
theorem dX6_wordOf_80 : decode cX6_wordOf 80 = .ok (.getfield 45, 3) := dk_180 0 45 (dk_at dksX6_wordOf_3 10 rfl rfl)
theorem dX6_wordOf_83 : decode cX6_wordOf 83 = .ok (.iload_n 1, 1) := dk_27 (dk_at dksX6_wordOf_3 13 rfl rfl)
theorem dX6_wordOf_84 : decode cX6_wordOf 84 = .ok (.iload 7, 2) := dk_21 7 (dk_at dksX6_wordOf_3 14 rfl rfl)
theorem dX6_wordOf_86 : decode cX6_wordOf 86 = .ok (.iadd, 1) := dk_96 (dk_at dksX6_wordOf_3 16 rfl rfl)
theorem dX6_wordOf_87 : decode cX6_wordOf 87 = .ok (.baload, 1) := dk_51 (dk_at dksX6_wordOf_3 17 rfl rfl)
theorem dX6_wordOf_88 : decode cX6_wordOf 88 = .ok (.if_icmp .ne 7, 3) := dk_160 0 7 (dk_at dksX6_wordOf_3 18 rfl rfl)
theorem dX6_wordOf_91 : decode cX6_wordOf 91 = .ok (.iconst 1, 1) := dk_4 (dk_at dksX6_wordOf_3 21 rfl rfl)
theorem dX6_wordOf_92 : decode cX6_wordOf 92 = .ok (.goto 4, 3) := dk_167 0 4 (dk_at dksX6_wordOf_4 0 rfl rfl)
theorem dX6_wordOf_95 : decode cX6_wordOf 95 = .ok (.iconst 0, 1) := dk_3 (dk_at dksX6_wordOf_4 3 rfl rfl)
theorem dX6_wordOf_96 : decode cX6_wordOf 96 = .ok (.istore 6, 2) := dk_54 6 (dk_at dksX6_wordOf_4 4 rfl rfl)
theorem dX6_wordOf_98 : decode cX6_wordOf 98 = .ok (.iinc 7 1, 3) := dk_132 7 1 (dk_at dksX6_wordOf_4 6 rfl rfl)
theorem dX6_wordOf_101 : decode cX6_wordOf 101 = .ok (.goto (-44), 3) := dk_167 255 212 (dk_at dksX6_wordOf_4 9 rfl rfl)
theorem dX6_wordOf_104 : decode cX6_wordOf 104 = .ok (.iload 6, 2) := dk_21 6 (dk_at dksX6_wordOf_4 12 rfl rfl)
theorem dX6_wordOf_106 : decode cX6_wordOf 106 = .ok (.ifCond .eq 5, 3) := dk_153 0 5 (dk_at dksX6_wordOf_4 14 rfl rfl)
theorem dX6_wordOf_109 : decode cX6_wordOf 109 = .ok (.iload_n 3, 1) := dk_29 (dk_at dksX6_wordOf_4 17 rfl rfl)
theorem dX6_wordOf_110 : decode cX6_wordOf 110 = .ok (.ireturn, 1) := dk_172 (dk_at dksX6_wordOf_4 18 rfl rfl)
theorem dX6_wordOf_111 : decode cX6_wordOf 111 = .ok (.iload 4, 2) := dk_21 4 (dk_at dksX6_wordOf_4 19 rfl rfl)
theorem dX6_wordOf_113 : decode cX6_wordOf 113 = .ok (.iload 5, 2) := dk_21 5 (dk_at dksX6_wordOf_4 21 rfl rfl)
theorem dX6_wordOf_115 : decode cX6_wordOf 115 = .ok (.iconst 1, 1) := dk_4 (dk_at dksX6_wordOf_4 23 rfl rfl)
theorem dX6_wordOf_116 : decode cX6_wordOf 116 = .ok (.iadd, 1) := dk_96 (dk_at dksX6_wordOf_5 0 rfl rfl)
theorem dX6_wordOf_117 : decode cX6_wordOf 117 = .ok (.iadd, 1) := dk_96 (dk_at dksX6_wordOf_5 1 rfl rfl)
theorem dX6_wordOf_118 : decode cX6_wordOf 118 = .ok (.istore 4, 2) := dk_54 4 (dk_at dksX6_wordOf_5 2 rfl rfl)
theorem dX6_wordOf_120 : decode cX6_wordOf 120 = .ok (.iinc 3 1, 3) := dk_132 3 1 (dk_at dksX6_wordOf_5 4 rfl rfl)
theorem dX6_wordOf_123 : decode cX6_wordOf 123 = .ok (.goto (-118), 3) := dk_167 255 138 (dk_at dksX6_wordOf_5 7 rfl rfl)
theorem dX6_wordOf_126 : decode cX6_wordOf 126 = .ok (.iconst 0, 1) := dk_3 (dk_at dksX6_wordOf_5 10 rfl rfl)
theorem dX6_wordOf_127 : decode cX6_wordOf 127 = .ok (.ireturn, 1) := dk_172 (dk_at dksX6_wordOf_5 11 rfl rfl)
abbrev cX6_readOne : ByteArray := prog_24_method_44_code
def yX6_readOne : MethodName := ⟨RX6, "readOne", "()V"⟩
def dkwX6_readOne_0 : List UInt8 := [42, 180, 0, 204, 153, 0, 10, 42, 182, 0, 208, 167, 0, 7, 42, 182, 0, 211, 177]
abbrev dktX6_readOne_0 : List UInt8 := dkwX6_readOne_0 ++ []
theorem dksX6_readOne_0 : cX6_readOne.data.toList.drop 0 = dktX6_readOne_0 := by decide +kernel
theorem dX6_readOne_0 : decode cX6_readOne 0 = .ok (.aload_n 0, 1) := dk_42 (dk_at dksX6_readOne_0 0 rfl rfl)
theorem dX6_readOne_1 : decode cX6_readOne 1 = .ok (.getfield 204, 3) := dk_180 0 204 (dk_at dksX6_readOne_0 1 rfl rfl)
theorem dX6_readOne_4 : decode cX6_readOne 4 = .ok (.ifCond .eq 10, 3) := dk_153 0 10 (dk_at dksX6_readOne_0 4 rfl rfl)
theorem dX6_readOne_7 : decode cX6_readOne 7 = .ok (.aload_n 0, 1) := dk_42 (dk_at dksX6_readOne_0 7 rfl rfl)
theorem dX6_readOne_8 : decode cX6_readOne 8 = .ok (.invokevirtual 208, 3) := dk_182 0 208 (dk_at dksX6_readOne_0 8 rfl rfl)
theorem dX6_readOne_11 : decode cX6_readOne 11 = .ok (.goto 7, 3) := dk_167 0 7 (dk_at dksX6_readOne_0 11 rfl rfl)
theorem dX6_readOne_14 : decode cX6_readOne 14 = .ok (.aload_n 0, 1) := dk_42 (dk_at dksX6_readOne_0 14 rfl rfl)
theorem dX6_readOne_15 : decode cX6_readOne 15 = .ok (.invokevirtual 211, 3) := dk_182 0 211 (dk_at dksX6_readOne_0 15 rfl rfl)
theorem dX6_readOne_18 : decode cX6_readOne 18 = .ok (.return_, 1) := dk_177 (dk_at dksX6_readOne_0 18 rfl rfl)
abbrev cX6_readOrder : ByteArray := prog_24_method_43_code
def yX6_readOrder : MethodName := ⟨RX6, "readOrder", "()V"⟩
def dkwX6_readOrder_3 : List UInt8 := [182, 0, 183, 153, 0, 8, 42, 3, 182, 0, 198, 177]
abbrev dktX6_readOrder_3 : List UInt8 := dkwX6_readOrder_3 ++ []
def dkwX6_readOrder_2 : List UInt8 := [16, 25, 182, 0, 195, 42, 16, 27, 182, 0, 183, 153, 0, 10, 42, 4, 16, 20, 182, 0, 201, 42, 7]
abbrev dktX6_readOrder_2 : List UInt8 := dkwX6_readOrder_2 ++ dktX6_readOrder_3
def dkwX6_readOrder_1 : List UInt8 := [16, 26, 182, 0, 195, 42, 3, 182, 0, 192, 167, 0, 18, 42, 16, 24, 182, 0, 183, 154, 0, 9, 42]
abbrev dktX6_readOrder_1 : List UInt8 := dkwX6_readOrder_1 ++ dktX6_readOrder_2
def dkwX6_readOrder_0 : List UInt8 := [42, 16, 22, 182, 0, 183, 154, 0, 12, 42, 16, 23, 182, 0, 183, 153, 0, 22, 42, 3, 182, 0, 192, 42]
abbrev dktX6_readOrder_0 : List UInt8 := dkwX6_readOrder_0 ++ dktX6_readOrder_1
theorem dksX6_readOrder_0 : cX6_readOrder.data.toList.drop 0 = dktX6_readOrder_0 := by decide +kernel
theorem dksX6_readOrder_1 : cX6_readOrder.data.toList.drop 24 = dktX6_readOrder_1 := dk_seg dksX6_readOrder_0 24 rfl rfl
theorem dksX6_readOrder_2 : cX6_readOrder.data.toList.drop 47 = dktX6_readOrder_2 := dk_seg dksX6_readOrder_1 23 rfl rfl
theorem dksX6_readOrder_3 : cX6_readOrder.data.toList.drop 70 = dktX6_readOrder_3 := dk_seg dksX6_readOrder_2 23 rfl rfl
theorem dX6_readOrder_0 : decode cX6_readOrder 0 = .ok (.aload_n 0, 1) := dk_42 (dk_at dksX6_readOrder_0 0 rfl rfl)
theorem dX6_readOrder_1 : decode cX6_readOrder 1 = .ok (.bipush 22, 2) := dk_16 22 (dk_at dksX6_readOrder_0 1 rfl rfl)
theorem dX6_readOrder_3 : decode cX6_readOrder 3 = .ok (.invokevirtual 183, 3) := dk_182 0 183 (dk_at dksX6_readOrder_0 3 rfl rfl)
theorem dX6_readOrder_6 : decode cX6_readOrder 6 = .ok (.ifCond .ne 12, 3) := dk_154 0 12 (dk_at dksX6_readOrder_0 6 rfl rfl)
theorem dX6_readOrder_9 : decode cX6_readOrder 9 = .ok (.aload_n 0, 1) := dk_42 (dk_at dksX6_readOrder_0 9 rfl rfl)
theorem dX6_readOrder_10 : decode cX6_readOrder 10 = .ok (.bipush 23, 2) := dk_16 23 (dk_at dksX6_readOrder_0 10 rfl rfl)
theorem dX6_readOrder_12 : decode cX6_readOrder 12 = .ok (.invokevirtual 183, 3) := dk_182 0 183 (dk_at dksX6_readOrder_0 12 rfl rfl)
theorem dX6_readOrder_15 : decode cX6_readOrder 15 = .ok (.ifCond .eq 22, 3) := dk_153 0 22 (dk_at dksX6_readOrder_0 15 rfl rfl)
theorem dX6_readOrder_18 : decode cX6_readOrder 18 = .ok (.aload_n 0, 1) := dk_42 (dk_at dksX6_readOrder_0 18 rfl rfl)
theorem dX6_readOrder_19 : decode cX6_readOrder 19 = .ok (.iconst 0, 1) := dk_3 (dk_at dksX6_readOrder_0 19 rfl rfl)
theorem dX6_readOrder_20 : decode cX6_readOrder 20 = .ok (.invokevirtual 192, 3) := dk_182 0 192 (dk_at dksX6_readOrder_0 20 rfl rfl)
theorem dX6_readOrder_23 : decode cX6_readOrder 23 = .ok (.aload_n 0, 1) := dk_42 (dk_at dksX6_readOrder_0 23 rfl rfl)
theorem dX6_readOrder_24 : decode cX6_readOrder 24 = .ok (.bipush 26, 2) := dk_16 26 (dk_at dksX6_readOrder_1 0 rfl rfl)
theorem dX6_readOrder_26 : decode cX6_readOrder 26 = .ok (.invokevirtual 195, 3) := dk_182 0 195 (dk_at dksX6_readOrder_1 2 rfl rfl)
theorem dX6_readOrder_29 : decode cX6_readOrder 29 = .ok (.aload_n 0, 1) := dk_42 (dk_at dksX6_readOrder_1 5 rfl rfl)
theorem dX6_readOrder_30 : decode cX6_readOrder 30 = .ok (.iconst 0, 1) := dk_3 (dk_at dksX6_readOrder_1 6 rfl rfl)
theorem dX6_readOrder_31 : decode cX6_readOrder 31 = .ok (.invokevirtual 192, 3) := dk_182 0 192 (dk_at dksX6_readOrder_1 7 rfl rfl)
theorem dX6_readOrder_34 : decode cX6_readOrder 34 = .ok (.goto 18, 3) := dk_167 0 18 (dk_at dksX6_readOrder_1 10 rfl rfl)
theorem dX6_readOrder_37 : decode cX6_readOrder 37 = .ok (.aload_n 0, 1) := dk_42 (dk_at dksX6_readOrder_1 13 rfl rfl)
theorem dX6_readOrder_38 : decode cX6_readOrder 38 = .ok (.bipush 24, 2) := dk_16 24 (dk_at dksX6_readOrder_1 14 rfl rfl)
theorem dX6_readOrder_40 : decode cX6_readOrder 40 = .ok (.invokevirtual 183, 3) := dk_182 0 183 (dk_at dksX6_readOrder_1 16 rfl rfl)
theorem dX6_readOrder_43 : decode cX6_readOrder 43 = .ok (.ifCond .ne 9, 3) := dk_154 0 9 (dk_at dksX6_readOrder_1 19 rfl rfl)
theorem dX6_readOrder_46 : decode cX6_readOrder 46 = .ok (.aload_n 0, 1) := dk_42 (dk_at dksX6_readOrder_1 22 rfl rfl)
theorem dX6_readOrder_47 : decode cX6_readOrder 47 = .ok (.bipush 25, 2) := dk_16 25 (dk_at dksX6_readOrder_2 0 rfl rfl)
theorem dX6_readOrder_49 : decode cX6_readOrder 49 = .ok (.invokevirtual 195, 3) := dk_182 0 195 (dk_at dksX6_readOrder_2 2 rfl rfl)
theorem dX6_readOrder_52 : decode cX6_readOrder 52 = .ok (.aload_n 0, 1) := dk_42 (dk_at dksX6_readOrder_2 5 rfl rfl)
theorem dX6_readOrder_53 : decode cX6_readOrder 53 = .ok (.bipush 27, 2) := dk_16 27 (dk_at dksX6_readOrder_2 6 rfl rfl)
theorem dX6_readOrder_55 : decode cX6_readOrder 55 = .ok (.invokevirtual 183, 3) := dk_182 0 183 (dk_at dksX6_readOrder_2 8 rfl rfl)
theorem dX6_readOrder_58 : decode cX6_readOrder 58 = .ok (.ifCond .eq 10, 3) := dk_153 0 10 (dk_at dksX6_readOrder_2 11 rfl rfl)
theorem dX6_readOrder_61 : decode cX6_readOrder 61 = .ok (.aload_n 0, 1) := dk_42 (dk_at dksX6_readOrder_2 14 rfl rfl)
theorem dX6_readOrder_62 : decode cX6_readOrder 62 = .ok (.iconst 1, 1) := dk_4 (dk_at dksX6_readOrder_2 15 rfl rfl)
theorem dX6_readOrder_63 : decode cX6_readOrder 63 = .ok (.bipush 20, 2) := dk_16 20 (dk_at dksX6_readOrder_2 16 rfl rfl)
theorem dX6_readOrder_65 : decode cX6_readOrder 65 = .ok (.invokevirtual 201, 3) := dk_182 0 201 (dk_at dksX6_readOrder_2 18 rfl rfl)
theorem dX6_readOrder_68 : decode cX6_readOrder 68 = .ok (.aload_n 0, 1) := dk_42 (dk_at dksX6_readOrder_2 21 rfl rfl)
theorem dX6_readOrder_69 : decode cX6_readOrder 69 = .ok (.iconst 4, 1) := dk_7 (dk_at dksX6_readOrder_2 22 rfl rfl)
theorem dX6_readOrder_70 : decode cX6_readOrder 70 = .ok (.invokevirtual 183, 3) := dk_182 0 183 (dk_at dksX6_readOrder_3 0 rfl rfl)
theorem dX6_readOrder_73 : decode cX6_readOrder 73 = .ok (.ifCond .eq 8, 3) := dk_153 0 8 (dk_at dksX6_readOrder_3 3 rfl rfl)
theorem dX6_readOrder_76 : decode cX6_readOrder 76 = .ok (.aload_n 0, 1) := dk_42 (dk_at dksX6_readOrder_3 6 rfl rfl)
theorem dX6_readOrder_77 : decode cX6_readOrder 77 = .ok (.iconst 0, 1) := dk_3 (dk_at dksX6_readOrder_3 7 rfl rfl)
theorem dX6_readOrder_78 : decode cX6_readOrder 78 = .ok (.invokevirtual 198, 3) := dk_182 0 198 (dk_at dksX6_readOrder_3 8 rfl rfl)
theorem dX6_readOrder_81 : decode cX6_readOrder 81 = .ok (.return_, 1) := dk_177 (dk_at dksX6_readOrder_3 11 rfl rfl)
abbrev cX6_takes0 : ByteArray := prog_24_method_37_code
def yX6_takes0 : MethodName := ⟨RX6, "takes0", "(I)Z"⟩
def dkwX6_takes0_1 : List UInt8 := [3, 61, 28, 153, 0, 13, 42, 89, 180, 0, 180, 4, 96, 181, 0, 180, 28, 172]
abbrev dktX6_takes0_1 : List UInt8 := dkwX6_takes0_1 ++ []
def dkwX6_takes0_0 : List UInt8 := [42, 182, 0, 177, 153, 0, 20, 42, 180, 0, 54, 42, 180, 0, 180, 46, 27, 160, 0, 7, 4, 167, 0, 4]
abbrev dktX6_takes0_0 : List UInt8 := dkwX6_takes0_0 ++ dktX6_takes0_1
theorem dksX6_takes0_0 : cX6_takes0.data.toList.drop 0 = dktX6_takes0_0 := by decide +kernel
theorem dksX6_takes0_1 : cX6_takes0.data.toList.drop 24 = dktX6_takes0_1 := dk_seg dksX6_takes0_0 24 rfl rfl
theorem dX6_takes0_0 : decode cX6_takes0 0 = .ok (.aload_n 0, 1) := dk_42 (dk_at dksX6_takes0_0 0 rfl rfl)
theorem dX6_takes0_1 : decode cX6_takes0 1 = .ok (.invokevirtual 177, 3) := dk_182 0 177 (dk_at dksX6_takes0_0 1 rfl rfl)
theorem dX6_takes0_4 : decode cX6_takes0 4 = .ok (.ifCond .eq 20, 3) := dk_153 0 20 (dk_at dksX6_takes0_0 4 rfl rfl)
theorem dX6_takes0_7 : decode cX6_takes0 7 = .ok (.aload_n 0, 1) := dk_42 (dk_at dksX6_takes0_0 7 rfl rfl)
theorem dX6_takes0_8 : decode cX6_takes0 8 = .ok (.getfield 54, 3) := dk_180 0 54 (dk_at dksX6_takes0_0 8 rfl rfl)
theorem dX6_takes0_11 : decode cX6_takes0 11 = .ok (.aload_n 0, 1) := dk_42 (dk_at dksX6_takes0_0 11 rfl rfl)
theorem dX6_takes0_12 : decode cX6_takes0 12 = .ok (.getfield 180, 3) := dk_180 0 180 (dk_at dksX6_takes0_0 12 rfl rfl)
theorem dX6_takes0_15 : decode cX6_takes0 15 = .ok (.iaload, 1) := dk_46 (dk_at dksX6_takes0_0 15 rfl rfl)
theorem dX6_takes0_16 : decode cX6_takes0 16 = .ok (.iload_n 1, 1) := dk_27 (dk_at dksX6_takes0_0 16 rfl rfl)
theorem dX6_takes0_17 : decode cX6_takes0 17 = .ok (.if_icmp .ne 7, 3) := dk_160 0 7 (dk_at dksX6_takes0_0 17 rfl rfl)
theorem dX6_takes0_20 : decode cX6_takes0 20 = .ok (.iconst 1, 1) := dk_4 (dk_at dksX6_takes0_0 20 rfl rfl)
theorem dX6_takes0_21 : decode cX6_takes0 21 = .ok (.goto 4, 3) := dk_167 0 4 (dk_at dksX6_takes0_0 21 rfl rfl)
theorem dX6_takes0_24 : decode cX6_takes0 24 = .ok (.iconst 0, 1) := dk_3 (dk_at dksX6_takes0_1 0 rfl rfl)
theorem dX6_takes0_25 : decode cX6_takes0 25 = .ok (.istore_n 2, 1) := dk_61 (dk_at dksX6_takes0_1 1 rfl rfl)
theorem dX6_takes0_26 : decode cX6_takes0 26 = .ok (.iload_n 2, 1) := dk_28 (dk_at dksX6_takes0_1 2 rfl rfl)
theorem dX6_takes0_27 : decode cX6_takes0 27 = .ok (.ifCond .eq 13, 3) := dk_153 0 13 (dk_at dksX6_takes0_1 3 rfl rfl)
theorem dX6_takes0_30 : decode cX6_takes0 30 = .ok (.aload_n 0, 1) := dk_42 (dk_at dksX6_takes0_1 6 rfl rfl)
theorem dX6_takes0_31 : decode cX6_takes0 31 = .ok (.dup, 1) := dk_89 (dk_at dksX6_takes0_1 7 rfl rfl)
theorem dX6_takes0_32 : decode cX6_takes0 32 = .ok (.getfield 180, 3) := dk_180 0 180 (dk_at dksX6_takes0_1 8 rfl rfl)
theorem dX6_takes0_35 : decode cX6_takes0 35 = .ok (.iconst 1, 1) := dk_4 (dk_at dksX6_takes0_1 11 rfl rfl)
theorem dX6_takes0_36 : decode cX6_takes0 36 = .ok (.iadd, 1) := dk_96 (dk_at dksX6_takes0_1 12 rfl rfl)
theorem dX6_takes0_37 : decode cX6_takes0 37 = .ok (.putfield 180, 3) := dk_181 0 180 (dk_at dksX6_takes0_1 13 rfl rfl)
theorem dX6_takes0_40 : decode cX6_takes0 40 = .ok (.iload_n 2, 1) := dk_28 (dk_at dksX6_takes0_1 16 rfl rfl)
theorem dX6_takes0_41 : decode cX6_takes0 41 = .ok (.ireturn, 1) := dk_172 (dk_at dksX6_takes0_1 17 rfl rfl)
abbrev cX6_fine : ByteArray := prog_24_method_35_code
def yX6_fine : MethodName := ⟨RX6, "fine", "()Z"⟩
def dkwX6_fine_0 : List UInt8 := [42, 180, 0, 174, 2, 160, 0, 7, 4, 167, 0, 4, 3, 172]
abbrev dktX6_fine_0 : List UInt8 := dkwX6_fine_0 ++ []
theorem dksX6_fine_0 : cX6_fine.data.toList.drop 0 = dktX6_fine_0 := by decide +kernel
theorem dX6_fine_0 : decode cX6_fine 0 = .ok (.aload_n 0, 1) := dk_42 (dk_at dksX6_fine_0 0 rfl rfl)
theorem dX6_fine_1 : decode cX6_fine 1 = .ok (.getfield 174, 3) := dk_180 0 174 (dk_at dksX6_fine_0 1 rfl rfl)
theorem dX6_fine_4 : decode cX6_fine 4 = .ok (.iconst (-1), 1) := dk_2 (dk_at dksX6_fine_0 4 rfl rfl)
theorem dX6_fine_5 : decode cX6_fine 5 = .ok (.if_icmp .ne 7, 3) := dk_160 0 7 (dk_at dksX6_fine_0 5 rfl rfl)
theorem dX6_fine_8 : decode cX6_fine 8 = .ok (.iconst 1, 1) := dk_4 (dk_at dksX6_fine_0 8 rfl rfl)
theorem dX6_fine_9 : decode cX6_fine 9 = .ok (.goto 4, 3) := dk_167 0 4 (dk_at dksX6_fine_0 9 rfl rfl)
theorem dX6_fine_12 : decode cX6_fine 12 = .ok (.iconst 0, 1) := dk_3 (dk_at dksX6_fine_0 12 rfl rfl)
theorem dX6_fine_13 : decode cX6_fine 13 = .ok (.ireturn, 1) := dk_172 (dk_at dksX6_fine_0 13 rfl rfl)
abbrev cX6_readSum : ByteArray := prog_24_method_48_code
def yX6_readSum : MethodName := ⟨RX6, "readSum", "(I)V"⟩
def dkwX6_readSum_1 : List UInt8 := [182, 0, 183, 153, 0, 11, 42, 27, 182, 0, 224, 167, 255, 227, 177]
abbrev dktX6_readSum_1 : List UInt8 := dkwX6_readSum_1 ++ []
def dkwX6_readSum_0 : List UInt8 := [42, 27, 182, 0, 224, 42, 16, 43, 184, 0, 220, 182, 0, 183, 154, 0, 15, 42, 16, 45, 184, 0, 220]
abbrev dktX6_readSum_0 : List UInt8 := dkwX6_readSum_0 ++ dktX6_readSum_1
theorem dksX6_readSum_0 : cX6_readSum.data.toList.drop 0 = dktX6_readSum_0 := by decide +kernel
theorem dksX6_readSum_1 : cX6_readSum.data.toList.drop 23 = dktX6_readSum_1 := dk_seg dksX6_readSum_0 23 rfl rfl
theorem dX6_readSum_0 : decode cX6_readSum 0 = .ok (.aload_n 0, 1) := dk_42 (dk_at dksX6_readSum_0 0 rfl rfl)
theorem dX6_readSum_1 : decode cX6_readSum 1 = .ok (.iload_n 1, 1) := dk_27 (dk_at dksX6_readSum_0 1 rfl rfl)
theorem dX6_readSum_2 : decode cX6_readSum 2 = .ok (.invokevirtual 224, 3) := dk_182 0 224 (dk_at dksX6_readSum_0 2 rfl rfl)
theorem dX6_readSum_5 : decode cX6_readSum 5 = .ok (.aload_n 0, 1) := dk_42 (dk_at dksX6_readSum_0 5 rfl rfl)
theorem dX6_readSum_6 : decode cX6_readSum 6 = .ok (.bipush 43, 2) := dk_16 43 (dk_at dksX6_readSum_0 6 rfl rfl)
theorem dX6_readSum_8 : decode cX6_readSum 8 = .ok (.invokestatic 220, 3) := dk_184 0 220 (dk_at dksX6_readSum_0 8 rfl rfl)
theorem dX6_readSum_11 : decode cX6_readSum 11 = .ok (.invokevirtual 183, 3) := dk_182 0 183 (dk_at dksX6_readSum_0 11 rfl rfl)
theorem dX6_readSum_14 : decode cX6_readSum 14 = .ok (.ifCond .ne 15, 3) := dk_154 0 15 (dk_at dksX6_readSum_0 14 rfl rfl)
theorem dX6_readSum_17 : decode cX6_readSum 17 = .ok (.aload_n 0, 1) := dk_42 (dk_at dksX6_readSum_0 17 rfl rfl)
theorem dX6_readSum_18 : decode cX6_readSum 18 = .ok (.bipush 45, 2) := dk_16 45 (dk_at dksX6_readSum_0 18 rfl rfl)
theorem dX6_readSum_20 : decode cX6_readSum 20 = .ok (.invokestatic 220, 3) := dk_184 0 220 (dk_at dksX6_readSum_0 20 rfl rfl)
theorem dX6_readSum_23 : decode cX6_readSum 23 = .ok (.invokevirtual 183, 3) := dk_182 0 183 (dk_at dksX6_readSum_1 0 rfl rfl)
theorem dX6_readSum_26 : decode cX6_readSum 26 = .ok (.ifCond .eq 11, 3) := dk_153 0 11 (dk_at dksX6_readSum_1 3 rfl rfl)
theorem dX6_readSum_29 : decode cX6_readSum 29 = .ok (.aload_n 0, 1) := dk_42 (dk_at dksX6_readSum_1 6 rfl rfl)
theorem dX6_readSum_30 : decode cX6_readSum 30 = .ok (.iload_n 1, 1) := dk_27 (dk_at dksX6_readSum_1 7 rfl rfl)
theorem dX6_readSum_31 : decode cX6_readSum 31 = .ok (.invokevirtual 224, 3) := dk_182 0 224 (dk_at dksX6_readSum_1 8 rfl rfl)
theorem dX6_readSum_34 : decode cX6_readSum 34 = .ok (.goto (-29), 3) := dk_167 255 227 (dk_at dksX6_readSum_1 11 rfl rfl)
theorem dX6_readSum_37 : decode cX6_readSum 37 = .ok (.return_, 1) := dk_177 (dk_at dksX6_readSum_1 14 rfl rfl)
abbrev cX6_readTerm : ByteArray := prog_24_method_49_code
def yX6_readTerm : MethodName := ⟨RX6, "readTerm", "(I)V"⟩
def dkwX6_readTerm_2 : List UInt8 := [167, 255, 215, 177]
abbrev dktX6_readTerm_2 : List UInt8 := dkwX6_readTerm_2 ++ []
def dkwX6_readTerm_1 : List UInt8 := [182, 0, 183, 154, 0, 15, 42, 16, 37, 184, 0, 220, 182, 0, 183, 153, 0, 11, 42, 27, 182, 0, 227]
abbrev dktX6_readTerm_1 : List UInt8 := dkwX6_readTerm_1 ++ dktX6_readTerm_2
def dkwX6_readTerm_0 : List UInt8 := [42, 27, 182, 0, 227, 42, 16, 42, 184, 0, 220, 182, 0, 183, 154, 0, 27, 42, 16, 47, 184, 0, 220]
abbrev dktX6_readTerm_0 : List UInt8 := dkwX6_readTerm_0 ++ dktX6_readTerm_1
theorem dksX6_readTerm_0 : cX6_readTerm.data.toList.drop 0 = dktX6_readTerm_0 := by decide +kernel
theorem dksX6_readTerm_1 : cX6_readTerm.data.toList.drop 23 = dktX6_readTerm_1 := dk_seg dksX6_readTerm_0 23 rfl rfl
theorem dksX6_readTerm_2 : cX6_readTerm.data.toList.drop 46 = dktX6_readTerm_2 := dk_seg dksX6_readTerm_1 23 rfl rfl
theorem dX6_readTerm_0 : decode cX6_readTerm 0 = .ok (.aload_n 0, 1) := dk_42 (dk_at dksX6_readTerm_0 0 rfl rfl)
theorem dX6_readTerm_1 : decode cX6_readTerm 1 = .ok (.iload_n 1, 1) := dk_27 (dk_at dksX6_readTerm_0 1 rfl rfl)
theorem dX6_readTerm_2 : decode cX6_readTerm 2 = .ok (.invokevirtual 227, 3) := dk_182 0 227 (dk_at dksX6_readTerm_0 2 rfl rfl)
theorem dX6_readTerm_5 : decode cX6_readTerm 5 = .ok (.aload_n 0, 1) := dk_42 (dk_at dksX6_readTerm_0 5 rfl rfl)
theorem dX6_readTerm_6 : decode cX6_readTerm 6 = .ok (.bipush 42, 2) := dk_16 42 (dk_at dksX6_readTerm_0 6 rfl rfl)
theorem dX6_readTerm_8 : decode cX6_readTerm 8 = .ok (.invokestatic 220, 3) := dk_184 0 220 (dk_at dksX6_readTerm_0 8 rfl rfl)
theorem dX6_readTerm_11 : decode cX6_readTerm 11 = .ok (.invokevirtual 183, 3) := dk_182 0 183 (dk_at dksX6_readTerm_0 11 rfl rfl)
theorem dX6_readTerm_14 : decode cX6_readTerm 14 = .ok (.ifCond .ne 27, 3) := dk_154 0 27 (dk_at dksX6_readTerm_0 14 rfl rfl)
theorem dX6_readTerm_17 : decode cX6_readTerm 17 = .ok (.aload_n 0, 1) := dk_42 (dk_at dksX6_readTerm_0 17 rfl rfl)
theorem dX6_readTerm_18 : decode cX6_readTerm 18 = .ok (.bipush 47, 2) := dk_16 47 (dk_at dksX6_readTerm_0 18 rfl rfl)
theorem dX6_readTerm_20 : decode cX6_readTerm 20 = .ok (.invokestatic 220, 3) := dk_184 0 220 (dk_at dksX6_readTerm_0 20 rfl rfl)
theorem dX6_readTerm_23 : decode cX6_readTerm 23 = .ok (.invokevirtual 183, 3) := dk_182 0 183 (dk_at dksX6_readTerm_1 0 rfl rfl)
theorem dX6_readTerm_26 : decode cX6_readTerm 26 = .ok (.ifCond .ne 15, 3) := dk_154 0 15 (dk_at dksX6_readTerm_1 3 rfl rfl)
theorem dX6_readTerm_29 : decode cX6_readTerm 29 = .ok (.aload_n 0, 1) := dk_42 (dk_at dksX6_readTerm_1 6 rfl rfl)
theorem dX6_readTerm_30 : decode cX6_readTerm 30 = .ok (.bipush 37, 2) := dk_16 37 (dk_at dksX6_readTerm_1 7 rfl rfl)
theorem dX6_readTerm_32 : decode cX6_readTerm 32 = .ok (.invokestatic 220, 3) := dk_184 0 220 (dk_at dksX6_readTerm_1 9 rfl rfl)
theorem dX6_readTerm_35 : decode cX6_readTerm 35 = .ok (.invokevirtual 183, 3) := dk_182 0 183 (dk_at dksX6_readTerm_1 12 rfl rfl)
theorem dX6_readTerm_38 : decode cX6_readTerm 38 = .ok (.ifCond .eq 11, 3) := dk_153 0 11 (dk_at dksX6_readTerm_1 15 rfl rfl)
theorem dX6_readTerm_41 : decode cX6_readTerm 41 = .ok (.aload_n 0, 1) := dk_42 (dk_at dksX6_readTerm_1 18 rfl rfl)
theorem dX6_readTerm_42 : decode cX6_readTerm 42 = .ok (.iload_n 1, 1) := dk_27 (dk_at dksX6_readTerm_1 19 rfl rfl)
theorem dX6_readTerm_43 : decode cX6_readTerm 43 = .ok (.invokevirtual 227, 3) := dk_182 0 227 (dk_at dksX6_readTerm_1 20 rfl rfl)
theorem dX6_readTerm_46 : decode cX6_readTerm 46 = .ok (.goto (-41), 3) := dk_167 255 215 (dk_at dksX6_readTerm_2 0 rfl rfl)
theorem dX6_readTerm_49 : decode cX6_readTerm 49 = .ok (.return_, 1) := dk_177 (dk_at dksX6_readTerm_2 3 rfl rfl)
abbrev cX6_readPart : ByteArray := prog_24_method_50_code
def yX6_readPart : MethodName := ⟨RX6, "readPart", "(I)V"⟩
def dkwX6_readPart_6 : List UInt8 := [167, 0, 7, 42, 182, 0, 186, 177]
abbrev dktX6_readPart_6 : List UInt8 := dkwX6_readPart_6 ++ []
def dkwX6_readPart_5 : List UInt8 := [153, 0, 29, 28, 16, 15, 159, 0, 9, 28, 16, 16, 160, 0, 17, 42, 3, 16, 11, 182, 0, 201]
abbrev dktX6_readPart_5 : List UInt8 := dkwX6_readPart_5 ++ dktX6_readPart_6
def dkwX6_readPart_4 : List UInt8 := [28, 42, 180, 0, 230, 161, 0, 44, 28, 42, 180, 0, 233, 163, 0, 36, 42, 182, 0, 236, 42, 180, 0, 204]
abbrev dktX6_readPart_4 : List UInt8 := dkwX6_readPart_4 ++ dktX6_readPart_5
def dkwX6_readPart_3 : List UInt8 := [167, 0, 77, 28, 16, 50, 160, 0, 18, 42, 180, 0, 57, 42, 180, 0, 180, 46, 17, 3, 232, 164, 0, 19]
abbrev dktX6_readPart_3 : List UInt8 := dkwX6_readPart_3 ++ dktX6_readPart_4
def dkwX6_readPart_2 : List UInt8 := [180, 0, 180, 4, 96, 181, 0, 180, 42, 27, 4, 96, 182, 0, 192, 42, 16, 93, 184, 0, 220, 182, 0, 195]
abbrev dktX6_readPart_2 : List UInt8 := dkwX6_readPart_2 ++ dktX6_readPart_3
def dkwX6_readPart_1 : List UInt8 := [160, 0, 50, 27, 16, 8, 160, 0, 7, 42, 182, 0, 186, 42, 182, 0, 177, 154, 0, 4, 177, 42, 89]
abbrev dktX6_readPart_1 : List UInt8 := dkwX6_readPart_1 ++ dktX6_readPart_2
def dkwX6_readPart_0 : List UInt8 := [42, 182, 0, 177, 154, 0, 4, 177, 42, 180, 0, 54, 42, 180, 0, 180, 46, 61, 28, 16, 91, 184, 0, 220]
abbrev dktX6_readPart_0 : List UInt8 := dkwX6_readPart_0 ++ dktX6_readPart_1
theorem dksX6_readPart_0 : cX6_readPart.data.toList.drop 0 = dktX6_readPart_0 := by decide +kernel
theorem dksX6_readPart_1 : cX6_readPart.data.toList.drop 24 = dktX6_readPart_1 := dk_seg dksX6_readPart_0 24 rfl rfl
theorem dksX6_readPart_2 : cX6_readPart.data.toList.drop 47 = dktX6_readPart_2 := dk_seg dksX6_readPart_1 23 rfl rfl
theorem dksX6_readPart_3 : cX6_readPart.data.toList.drop 71 = dktX6_readPart_3 := dk_seg dksX6_readPart_2 24 rfl rfl
theorem dksX6_readPart_4 : cX6_readPart.data.toList.drop 95 = dktX6_readPart_4 := dk_seg dksX6_readPart_3 24 rfl rfl
theorem dksX6_readPart_5 : cX6_readPart.data.toList.drop 119 = dktX6_readPart_5 := dk_seg dksX6_readPart_4 24 rfl rfl
theorem dksX6_readPart_6 : cX6_readPart.data.toList.drop 141 = dktX6_readPart_6 := dk_seg dksX6_readPart_5 22 rfl rfl
theorem dX6_readPart_0 : decode cX6_readPart 0 = .ok (.aload_n 0, 1) := dk_42 (dk_at dksX6_readPart_0 0 rfl rfl)
theorem dX6_readPart_1 : decode cX6_readPart 1 = .ok (.invokevirtual 177, 3) := dk_182 0 177 (dk_at dksX6_readPart_0 1 rfl rfl)
theorem dX6_readPart_4 : decode cX6_readPart 4 = .ok (.ifCond .ne 4, 3) := dk_154 0 4 (dk_at dksX6_readPart_0 4 rfl rfl)
theorem dX6_readPart_7 : decode cX6_readPart 7 = .ok (.return_, 1) := dk_177 (dk_at dksX6_readPart_0 7 rfl rfl)
theorem dX6_readPart_8 : decode cX6_readPart 8 = .ok (.aload_n 0, 1) := dk_42 (dk_at dksX6_readPart_0 8 rfl rfl)
theorem dX6_readPart_9 : decode cX6_readPart 9 = .ok (.getfield 54, 3) := dk_180 0 54 (dk_at dksX6_readPart_0 9 rfl rfl)
theorem dX6_readPart_12 : decode cX6_readPart 12 = .ok (.aload_n 0, 1) := dk_42 (dk_at dksX6_readPart_0 12 rfl rfl)
theorem dX6_readPart_13 : decode cX6_readPart 13 = .ok (.getfield 180, 3) := dk_180 0 180 (dk_at dksX6_readPart_0 13 rfl rfl)
theorem dX6_readPart_16 : decode cX6_readPart 16 = .ok (.iaload, 1) := dk_46 (dk_at dksX6_readPart_0 16 rfl rfl)
theorem dX6_readPart_17 : decode cX6_readPart 17 = .ok (.istore_n 2, 1) := dk_61 (dk_at dksX6_readPart_0 17 rfl rfl)
theorem dX6_readPart_18 : decode cX6_readPart 18 = .ok (.iload_n 2, 1) := dk_28 (dk_at dksX6_readPart_0 18 rfl rfl)
theorem dX6_readPart_19 : decode cX6_readPart 19 = .ok (.bipush 91, 2) := dk_16 91 (dk_at dksX6_readPart_0 19 rfl rfl)
theorem dX6_readPart_21 : decode cX6_readPart 21 = .ok (.invokestatic 220, 3) := dk_184 0 220 (dk_at dksX6_readPart_0 21 rfl rfl)
theorem dX6_readPart_24 : decode cX6_readPart 24 = .ok (.if_icmp .ne 50, 3) := dk_160 0 50 (dk_at dksX6_readPart_1 0 rfl rfl)
theorem dX6_readPart_27 : decode cX6_readPart 27 = .ok (.iload_n 1, 1) := dk_27 (dk_at dksX6_readPart_1 3 rfl rfl)
theorem dX6_readPart_28 : decode cX6_readPart 28 = .ok (.bipush 8, 2) := dk_16 8 (dk_at dksX6_readPart_1 4 rfl rfl)
theorem dX6_readPart_30 : decode cX6_readPart 30 = .ok (.if_icmp .ne 7, 3) := dk_160 0 7 (dk_at dksX6_readPart_1 6 rfl rfl)
theorem dX6_readPart_33 : decode cX6_readPart 33 = .ok (.aload_n 0, 1) := dk_42 (dk_at dksX6_readPart_1 9 rfl rfl)
theorem dX6_readPart_34 : decode cX6_readPart 34 = .ok (.invokevirtual 186, 3) := dk_182 0 186 (dk_at dksX6_readPart_1 10 rfl rfl)
theorem dX6_readPart_37 : decode cX6_readPart 37 = .ok (.aload_n 0, 1) := dk_42 (dk_at dksX6_readPart_1 13 rfl rfl)
theorem dX6_readPart_38 : decode cX6_readPart 38 = .ok (.invokevirtual 177, 3) := dk_182 0 177 (dk_at dksX6_readPart_1 14 rfl rfl)
theorem dX6_readPart_41 : decode cX6_readPart 41 = .ok (.ifCond .ne 4, 3) := dk_154 0 4 (dk_at dksX6_readPart_1 17 rfl rfl)
theorem dX6_readPart_44 : decode cX6_readPart 44 = .ok (.return_, 1) := dk_177 (dk_at dksX6_readPart_1 20 rfl rfl)
theorem dX6_readPart_45 : decode cX6_readPart 45 = .ok (.aload_n 0, 1) := dk_42 (dk_at dksX6_readPart_1 21 rfl rfl)
theorem dX6_readPart_46 : decode cX6_readPart 46 = .ok (.dup, 1) := dk_89 (dk_at dksX6_readPart_1 22 rfl rfl)
theorem dX6_readPart_47 : decode cX6_readPart 47 = .ok (.getfield 180, 3) := dk_180 0 180 (dk_at dksX6_readPart_2 0 rfl rfl)
theorem dX6_readPart_50 : decode cX6_readPart 50 = .ok (.iconst 1, 1) := dk_4 (dk_at dksX6_readPart_2 3 rfl rfl)
theorem dX6_readPart_51 : decode cX6_readPart 51 = .ok (.iadd, 1) := dk_96 (dk_at dksX6_readPart_2 4 rfl rfl)
theorem dX6_readPart_52 : decode cX6_readPart 52 = .ok (.putfield 180, 3) := dk_181 0 180 (dk_at dksX6_readPart_2 5 rfl rfl)
theorem dX6_readPart_55 : decode cX6_readPart 55 = .ok (.aload_n 0, 1) := dk_42 (dk_at dksX6_readPart_2 8 rfl rfl)
theorem dX6_readPart_56 : decode cX6_readPart 56 = .ok (.iload_n 1, 1) := dk_27 (dk_at dksX6_readPart_2 9 rfl rfl)
theorem dX6_readPart_57 : decode cX6_readPart 57 = .ok (.iconst 1, 1) := dk_4 (dk_at dksX6_readPart_2 10 rfl rfl)
theorem dX6_readPart_58 : decode cX6_readPart 58 = .ok (.iadd, 1) := dk_96 (dk_at dksX6_readPart_2 11 rfl rfl)
theorem dX6_readPart_59 : decode cX6_readPart 59 = .ok (.invokevirtual 192, 3) := dk_182 0 192 (dk_at dksX6_readPart_2 12 rfl rfl)
theorem dX6_readPart_62 : decode cX6_readPart 62 = .ok (.aload_n 0, 1) := dk_42 (dk_at dksX6_readPart_2 15 rfl rfl)
theorem dX6_readPart_63 : decode cX6_readPart 63 = .ok (.bipush 93, 2) := dk_16 93 (dk_at dksX6_readPart_2 16 rfl rfl)
theorem dX6_readPart_65 : decode cX6_readPart 65 = .ok (.invokestatic 220, 3) := dk_184 0 220 (dk_at dksX6_readPart_2 18 rfl rfl)
theorem dX6_readPart_68 : decode cX6_readPart 68 = .ok (.invokevirtual 195, 3) := dk_182 0 195 (dk_at dksX6_readPart_2 21 rfl rfl)
theorem dX6_readPart_71 : decode cX6_readPart 71 = .ok (.goto 77, 3) := dk_167 0 77 (dk_at dksX6_readPart_3 0 rfl rfl)
theorem dX6_readPart_74 : decode cX6_readPart 74 = .ok (.iload_n 2, 1) := dk_28 (dk_at dksX6_readPart_3 3 rfl rfl)
theorem dX6_readPart_75 : decode cX6_readPart 75 = .ok (.bipush 50, 2) := dk_16 50 (dk_at dksX6_readPart_3 4 rfl rfl)
theorem dX6_readPart_77 : decode cX6_readPart 77 = .ok (.if_icmp .ne 18, 3) := dk_160 0 18 (dk_at dksX6_readPart_3 6 rfl rfl)
theorem dX6_readPart_80 : decode cX6_readPart 80 = .ok (.aload_n 0, 1) := dk_42 (dk_at dksX6_readPart_3 9 rfl rfl)
theorem dX6_readPart_81 : decode cX6_readPart 81 = .ok (.getfield 57, 3) := dk_180 0 57 (dk_at dksX6_readPart_3 10 rfl rfl)
theorem dX6_readPart_84 : decode cX6_readPart 84 = .ok (.aload_n 0, 1) := dk_42 (dk_at dksX6_readPart_3 13 rfl rfl)
theorem dX6_readPart_85 : decode cX6_readPart 85 = .ok (.getfield 180, 3) := dk_180 0 180 (dk_at dksX6_readPart_3 14 rfl rfl)
theorem dX6_readPart_88 : decode cX6_readPart 88 = .ok (.iaload, 1) := dk_46 (dk_at dksX6_readPart_3 17 rfl rfl)
theorem dX6_readPart_89 : decode cX6_readPart 89 = .ok (.sipush 1000, 3) := dk_17 3 232 (dk_at dksX6_readPart_3 18 rfl rfl)
theorem dX6_readPart_92 : decode cX6_readPart 92 = .ok (.if_icmp .le 19, 3) := dk_164 0 19 (dk_at dksX6_readPart_3 21 rfl rfl)
theorem dX6_readPart_95 : decode cX6_readPart 95 = .ok (.iload_n 2, 1) := dk_28 (dk_at dksX6_readPart_4 0 rfl rfl)
theorem dX6_readPart_96 : decode cX6_readPart 96 = .ok (.aload_n 0, 1) := dk_42 (dk_at dksX6_readPart_4 1 rfl rfl)
theorem dX6_readPart_97 : decode cX6_readPart 97 = .ok (.getfield 230, 3) := dk_180 0 230 (dk_at dksX6_readPart_4 2 rfl rfl)
theorem dX6_readPart_100 : decode cX6_readPart 100 = .ok (.if_icmp .lt 44, 3) := dk_161 0 44 (dk_at dksX6_readPart_4 5 rfl rfl)
theorem dX6_readPart_103 : decode cX6_readPart 103 = .ok (.iload_n 2, 1) := dk_28 (dk_at dksX6_readPart_4 8 rfl rfl)
theorem dX6_readPart_104 : decode cX6_readPart 104 = .ok (.aload_n 0, 1) := dk_42 (dk_at dksX6_readPart_4 9 rfl rfl)
theorem dX6_readPart_105 : decode cX6_readPart 105 = .ok (.getfield 233, 3) := dk_180 0 233 (dk_at dksX6_readPart_4 10 rfl rfl)
theorem dX6_readPart_108 : decode cX6_readPart 108 = .ok (.if_icmp .gt 36, 3) := dk_163 0 36 (dk_at dksX6_readPart_4 13 rfl rfl)
theorem dX6_readPart_111 : decode cX6_readPart 111 = .ok (.aload_n 0, 1) := dk_42 (dk_at dksX6_readPart_4 16 rfl rfl)
theorem dX6_readPart_112 : decode cX6_readPart 112 = .ok (.invokevirtual 236, 3) := dk_182 0 236 (dk_at dksX6_readPart_4 17 rfl rfl)
theorem dX6_readPart_115 : decode cX6_readPart 115 = .ok (.aload_n 0, 1) := dk_42 (dk_at dksX6_readPart_4 20 rfl rfl)
theorem dX6_readPart_116 : decode cX6_readPart 116 = .ok (.getfield 204, 3) := dk_180 0 204 (dk_at dksX6_readPart_4 21 rfl rfl)
theorem dX6_readPart_119 : decode cX6_readPart 119 = .ok (.ifCond .eq 29, 3) := dk_153 0 29 (dk_at dksX6_readPart_5 0 rfl rfl)
theorem dX6_readPart_122 : decode cX6_readPart 122 = .ok (.iload_n 2, 1) := dk_28 (dk_at dksX6_readPart_5 3 rfl rfl)
theorem dX6_readPart_123 : decode cX6_readPart 123 = .ok (.bipush 15, 2) := dk_16 15 (dk_at dksX6_readPart_5 4 rfl rfl)
theorem dX6_readPart_125 : decode cX6_readPart 125 = .ok (.if_icmp .eq 9, 3) := dk_159 0 9 (dk_at dksX6_readPart_5 6 rfl rfl)
theorem dX6_readPart_128 : decode cX6_readPart 128 = .ok (.iload_n 2, 1) := dk_28 (dk_at dksX6_readPart_5 9 rfl rfl)
theorem dX6_readPart_129 : decode cX6_readPart 129 = .ok (.bipush 16, 2) := dk_16 16 (dk_at dksX6_readPart_5 10 rfl rfl)
theorem dX6_readPart_131 : decode cX6_readPart 131 = .ok (.if_icmp .ne 17, 3) := dk_160 0 17 (dk_at dksX6_readPart_5 12 rfl rfl)
theorem dX6_readPart_134 : decode cX6_readPart 134 = .ok (.aload_n 0, 1) := dk_42 (dk_at dksX6_readPart_5 15 rfl rfl)
theorem dX6_readPart_135 : decode cX6_readPart 135 = .ok (.iconst 0, 1) := dk_3 (dk_at dksX6_readPart_5 16 rfl rfl)
theorem dX6_readPart_136 : decode cX6_readPart 136 = .ok (.bipush 11, 2) := dk_16 11 (dk_at dksX6_readPart_5 17 rfl rfl)
theorem dX6_readPart_138 : decode cX6_readPart 138 = .ok (.invokevirtual 201, 3) := dk_182 0 201 (dk_at dksX6_readPart_5 19 rfl rfl)
theorem dX6_readPart_141 : decode cX6_readPart 141 = .ok (.goto 7, 3) := dk_167 0 7 (dk_at dksX6_readPart_6 0 rfl rfl)
theorem dX6_readPart_144 : decode cX6_readPart 144 = .ok (.aload_n 0, 1) := dk_42 (dk_at dksX6_readPart_6 3 rfl rfl)
theorem dX6_readPart_145 : decode cX6_readPart 145 = .ok (.invokevirtual 186, 3) := dk_182 0 186 (dk_at dksX6_readPart_6 4 rfl rfl)
theorem dX6_readPart_148 : decode cX6_readPart 148 = .ok (.return_, 1) := dk_177 (dk_at dksX6_readPart_6 7 rfl rfl)
abbrev cX6_faults : ByteArray := prog_24_method_36_code
def yX6_faults : MethodName := ⟨RX6, "faults", "()V"⟩
def dkwX6_faults_0 : List UInt8 := [42, 182, 0, 177, 153, 0, 16, 42, 42, 180, 0, 60, 42, 180, 0, 180, 46, 181, 0, 174, 177]
abbrev dktX6_faults_0 : List UInt8 := dkwX6_faults_0 ++ []
theorem dksX6_faults_0 : cX6_faults.data.toList.drop 0 = dktX6_faults_0 := by decide +kernel
theorem dX6_faults_0 : decode cX6_faults 0 = .ok (.aload_n 0, 1) := dk_42 (dk_at dksX6_faults_0 0 rfl rfl)
theorem dX6_faults_1 : decode cX6_faults 1 = .ok (.invokevirtual 177, 3) := dk_182 0 177 (dk_at dksX6_faults_0 1 rfl rfl)
theorem dX6_faults_4 : decode cX6_faults 4 = .ok (.ifCond .eq 16, 3) := dk_153 0 16 (dk_at dksX6_faults_0 4 rfl rfl)
theorem dX6_faults_7 : decode cX6_faults 7 = .ok (.aload_n 0, 1) := dk_42 (dk_at dksX6_faults_0 7 rfl rfl)
theorem dX6_faults_8 : decode cX6_faults 8 = .ok (.aload_n 0, 1) := dk_42 (dk_at dksX6_faults_0 8 rfl rfl)
theorem dX6_faults_9 : decode cX6_faults 9 = .ok (.getfield 60, 3) := dk_180 0 60 (dk_at dksX6_faults_0 9 rfl rfl)
theorem dX6_faults_12 : decode cX6_faults 12 = .ok (.aload_n 0, 1) := dk_42 (dk_at dksX6_faults_0 12 rfl rfl)
theorem dX6_faults_13 : decode cX6_faults 13 = .ok (.getfield 180, 3) := dk_180 0 180 (dk_at dksX6_faults_0 13 rfl rfl)
theorem dX6_faults_16 : decode cX6_faults 16 = .ok (.iaload, 1) := dk_46 (dk_at dksX6_faults_0 16 rfl rfl)
theorem dX6_faults_17 : decode cX6_faults 17 = .ok (.putfield 174, 3) := dk_181 0 174 (dk_at dksX6_faults_0 17 rfl rfl)
theorem dX6_faults_20 : decode cX6_faults 20 = .ok (.return_, 1) := dk_177 (dk_at dksX6_faults_0 20 rfl rfl)
abbrev cX6_must : ByteArray := prog_24_method_38_code
def yX6_must : MethodName := ⟨RX6, "must", "(I)V"⟩
def dkwX6_must_0 : List UInt8 := [42, 27, 182, 0, 183, 154, 0, 7, 42, 182, 0, 186, 177]
abbrev dktX6_must_0 : List UInt8 := dkwX6_must_0 ++ []
theorem dksX6_must_0 : cX6_must.data.toList.drop 0 = dktX6_must_0 := by decide +kernel
theorem dX6_must_0 : decode cX6_must 0 = .ok (.aload_n 0, 1) := dk_42 (dk_at dksX6_must_0 0 rfl rfl)
theorem dX6_must_1 : decode cX6_must 1 = .ok (.iload_n 1, 1) := dk_27 (dk_at dksX6_must_0 1 rfl rfl)
theorem dX6_must_2 : decode cX6_must 2 = .ok (.invokevirtual 183, 3) := dk_182 0 183 (dk_at dksX6_must_0 2 rfl rfl)
theorem dX6_must_5 : decode cX6_must 5 = .ok (.ifCond .ne 7, 3) := dk_154 0 7 (dk_at dksX6_must_0 5 rfl rfl)
theorem dX6_must_8 : decode cX6_must 8 = .ok (.aload_n 0, 1) := dk_42 (dk_at dksX6_must_0 8 rfl rfl)
theorem dX6_must_9 : decode cX6_must 9 = .ok (.invokevirtual 186, 3) := dk_182 0 186 (dk_at dksX6_must_0 9 rfl rfl)
theorem dX6_must_12 : decode cX6_must 12 = .ok (.return_, 1) := dk_177 (dk_at dksX6_must_0 12 rfl rfl)
abbrev cX6_leaf : ByteArray := prog_24_method_39_code
def yX6_leaf : MethodName := ⟨RX6, "leaf", "()V"⟩
def dkwX6_leaf_1 : List UInt8 := [182, 0, 177, 153, 0, 13, 42, 89, 180, 0, 180, 4, 96, 181, 0, 180, 177]
abbrev dktX6_leaf_1 : List UInt8 := dkwX6_leaf_1 ++ []
def dkwX6_leaf_0 : List UInt8 := [42, 180, 0, 189, 16, 50, 160, 0, 7, 42, 182, 0, 186, 42, 89, 180, 0, 189, 4, 96, 181, 0, 189, 42]
abbrev dktX6_leaf_0 : List UInt8 := dkwX6_leaf_0 ++ dktX6_leaf_1
theorem dksX6_leaf_0 : cX6_leaf.data.toList.drop 0 = dktX6_leaf_0 := by decide +kernel
theorem dksX6_leaf_1 : cX6_leaf.data.toList.drop 24 = dktX6_leaf_1 := dk_seg dksX6_leaf_0 24 rfl rfl
theorem dX6_leaf_0 : decode cX6_leaf 0 = .ok (.aload_n 0, 1) := dk_42 (dk_at dksX6_leaf_0 0 rfl rfl)
theorem dX6_leaf_1 : decode cX6_leaf 1 = .ok (.getfield 189, 3) := dk_180 0 189 (dk_at dksX6_leaf_0 1 rfl rfl)
theorem dX6_leaf_4 : decode cX6_leaf 4 = .ok (.bipush 50, 2) := dk_16 50 (dk_at dksX6_leaf_0 4 rfl rfl)
theorem dX6_leaf_6 : decode cX6_leaf 6 = .ok (.if_icmp .ne 7, 3) := dk_160 0 7 (dk_at dksX6_leaf_0 6 rfl rfl)
theorem dX6_leaf_9 : decode cX6_leaf 9 = .ok (.aload_n 0, 1) := dk_42 (dk_at dksX6_leaf_0 9 rfl rfl)
theorem dX6_leaf_10 : decode cX6_leaf 10 = .ok (.invokevirtual 186, 3) := dk_182 0 186 (dk_at dksX6_leaf_0 10 rfl rfl)
theorem dX6_leaf_13 : decode cX6_leaf 13 = .ok (.aload_n 0, 1) := dk_42 (dk_at dksX6_leaf_0 13 rfl rfl)
theorem dX6_leaf_14 : decode cX6_leaf 14 = .ok (.dup, 1) := dk_89 (dk_at dksX6_leaf_0 14 rfl rfl)
theorem dX6_leaf_15 : decode cX6_leaf 15 = .ok (.getfield 189, 3) := dk_180 0 189 (dk_at dksX6_leaf_0 15 rfl rfl)
theorem dX6_leaf_18 : decode cX6_leaf 18 = .ok (.iconst 1, 1) := dk_4 (dk_at dksX6_leaf_0 18 rfl rfl)
theorem dX6_leaf_19 : decode cX6_leaf 19 = .ok (.iadd, 1) := dk_96 (dk_at dksX6_leaf_0 19 rfl rfl)
theorem dX6_leaf_20 : decode cX6_leaf 20 = .ok (.putfield 189, 3) := dk_181 0 189 (dk_at dksX6_leaf_0 20 rfl rfl)
theorem dX6_leaf_23 : decode cX6_leaf 23 = .ok (.aload_n 0, 1) := dk_42 (dk_at dksX6_leaf_0 23 rfl rfl)
theorem dX6_leaf_24 : decode cX6_leaf 24 = .ok (.invokevirtual 177, 3) := dk_182 0 177 (dk_at dksX6_leaf_1 0 rfl rfl)
theorem dX6_leaf_27 : decode cX6_leaf 27 = .ok (.ifCond .eq 13, 3) := dk_153 0 13 (dk_at dksX6_leaf_1 3 rfl rfl)
theorem dX6_leaf_30 : decode cX6_leaf 30 = .ok (.aload_n 0, 1) := dk_42 (dk_at dksX6_leaf_1 6 rfl rfl)
theorem dX6_leaf_31 : decode cX6_leaf 31 = .ok (.dup, 1) := dk_89 (dk_at dksX6_leaf_1 7 rfl rfl)
theorem dX6_leaf_32 : decode cX6_leaf 32 = .ok (.getfield 180, 3) := dk_180 0 180 (dk_at dksX6_leaf_1 8 rfl rfl)
theorem dX6_leaf_35 : decode cX6_leaf 35 = .ok (.iconst 1, 1) := dk_4 (dk_at dksX6_leaf_1 11 rfl rfl)
theorem dX6_leaf_36 : decode cX6_leaf 36 = .ok (.iadd, 1) := dk_96 (dk_at dksX6_leaf_1 12 rfl rfl)
theorem dX6_leaf_37 : decode cX6_leaf 37 = .ok (.putfield 180, 3) := dk_181 0 180 (dk_at dksX6_leaf_1 13 rfl rfl)
theorem dX6_leaf_40 : decode cX6_leaf 40 = .ok (.return_, 1) := dk_177 (dk_at dksX6_leaf_1 16 rfl rfl)
abbrev cX6_mustNumber : ByteArray := prog_24_method_41_code
def yX6_mustNumber : MethodName := ⟨RX6, "mustNumber", "(II)V"⟩
def dkwX6_mustNumber_2 : List UInt8 := [153, 0, 13, 42, 89, 180, 0, 180, 4, 96, 181, 0, 180, 177]
abbrev dktX6_mustNumber_2 : List UInt8 := dkwX6_mustNumber_2 ++ []
def dkwX6_mustNumber_1 : List UInt8 := [180, 0, 57, 42, 180, 0, 180, 46, 27, 28, 184, 0, 18, 154, 0, 7, 42, 182, 0, 186, 42, 182, 0, 177]
abbrev dktX6_mustNumber_1 : List UInt8 := dkwX6_mustNumber_1 ++ dktX6_mustNumber_2
def dkwX6_mustNumber_0 : List UInt8 := [42, 182, 0, 177, 153, 0, 38, 42, 180, 0, 54, 42, 180, 0, 180, 46, 16, 50, 160, 0, 20, 42]
abbrev dktX6_mustNumber_0 : List UInt8 := dkwX6_mustNumber_0 ++ dktX6_mustNumber_1
theorem dksX6_mustNumber_0 : cX6_mustNumber.data.toList.drop 0 = dktX6_mustNumber_0 := by decide +kernel
theorem dksX6_mustNumber_1 : cX6_mustNumber.data.toList.drop 22 = dktX6_mustNumber_1 := dk_seg dksX6_mustNumber_0 22 rfl rfl
theorem dksX6_mustNumber_2 : cX6_mustNumber.data.toList.drop 46 = dktX6_mustNumber_2 := dk_seg dksX6_mustNumber_1 24 rfl rfl
theorem dX6_mustNumber_0 : decode cX6_mustNumber 0 = .ok (.aload_n 0, 1) := dk_42 (dk_at dksX6_mustNumber_0 0 rfl rfl)
theorem dX6_mustNumber_1 : decode cX6_mustNumber 1 = .ok (.invokevirtual 177, 3) := dk_182 0 177 (dk_at dksX6_mustNumber_0 1 rfl rfl)
theorem dX6_mustNumber_4 : decode cX6_mustNumber 4 = .ok (.ifCond .eq 38, 3) := dk_153 0 38 (dk_at dksX6_mustNumber_0 4 rfl rfl)
theorem dX6_mustNumber_7 : decode cX6_mustNumber 7 = .ok (.aload_n 0, 1) := dk_42 (dk_at dksX6_mustNumber_0 7 rfl rfl)
theorem dX6_mustNumber_8 : decode cX6_mustNumber 8 = .ok (.getfield 54, 3) := dk_180 0 54 (dk_at dksX6_mustNumber_0 8 rfl rfl)
theorem dX6_mustNumber_11 : decode cX6_mustNumber 11 = .ok (.aload_n 0, 1) := dk_42 (dk_at dksX6_mustNumber_0 11 rfl rfl)
theorem dX6_mustNumber_12 : decode cX6_mustNumber 12 = .ok (.getfield 180, 3) := dk_180 0 180 (dk_at dksX6_mustNumber_0 12 rfl rfl)
theorem dX6_mustNumber_15 : decode cX6_mustNumber 15 = .ok (.iaload, 1) := dk_46 (dk_at dksX6_mustNumber_0 15 rfl rfl)
theorem dX6_mustNumber_16 : decode cX6_mustNumber 16 = .ok (.bipush 50, 2) := dk_16 50 (dk_at dksX6_mustNumber_0 16 rfl rfl)
theorem dX6_mustNumber_18 : decode cX6_mustNumber 18 = .ok (.if_icmp .ne 20, 3) := dk_160 0 20 (dk_at dksX6_mustNumber_0 18 rfl rfl)
theorem dX6_mustNumber_21 : decode cX6_mustNumber 21 = .ok (.aload_n 0, 1) := dk_42 (dk_at dksX6_mustNumber_0 21 rfl rfl)
theorem dX6_mustNumber_22 : decode cX6_mustNumber 22 = .ok (.getfield 57, 3) := dk_180 0 57 (dk_at dksX6_mustNumber_1 0 rfl rfl)
theorem dX6_mustNumber_25 : decode cX6_mustNumber 25 = .ok (.aload_n 0, 1) := dk_42 (dk_at dksX6_mustNumber_1 3 rfl rfl)
theorem dX6_mustNumber_26 : decode cX6_mustNumber 26 = .ok (.getfield 180, 3) := dk_180 0 180 (dk_at dksX6_mustNumber_1 4 rfl rfl)
theorem dX6_mustNumber_29 : decode cX6_mustNumber 29 = .ok (.iaload, 1) := dk_46 (dk_at dksX6_mustNumber_1 7 rfl rfl)
theorem dX6_mustNumber_30 : decode cX6_mustNumber 30 = .ok (.iload_n 1, 1) := dk_27 (dk_at dksX6_mustNumber_1 8 rfl rfl)
theorem dX6_mustNumber_31 : decode cX6_mustNumber 31 = .ok (.iload_n 2, 1) := dk_28 (dk_at dksX6_mustNumber_1 9 rfl rfl)
theorem dX6_mustNumber_32 : decode cX6_mustNumber 32 = .ok (.invokestatic 18, 3) := dk_184 0 18 (dk_at dksX6_mustNumber_1 10 rfl rfl)
theorem dX6_mustNumber_35 : decode cX6_mustNumber 35 = .ok (.ifCond .ne 7, 3) := dk_154 0 7 (dk_at dksX6_mustNumber_1 13 rfl rfl)
theorem dX6_mustNumber_38 : decode cX6_mustNumber 38 = .ok (.aload_n 0, 1) := dk_42 (dk_at dksX6_mustNumber_1 16 rfl rfl)
theorem dX6_mustNumber_39 : decode cX6_mustNumber 39 = .ok (.invokevirtual 186, 3) := dk_182 0 186 (dk_at dksX6_mustNumber_1 17 rfl rfl)
theorem dX6_mustNumber_42 : decode cX6_mustNumber 42 = .ok (.aload_n 0, 1) := dk_42 (dk_at dksX6_mustNumber_1 20 rfl rfl)
theorem dX6_mustNumber_43 : decode cX6_mustNumber 43 = .ok (.invokevirtual 177, 3) := dk_182 0 177 (dk_at dksX6_mustNumber_1 21 rfl rfl)
theorem dX6_mustNumber_46 : decode cX6_mustNumber 46 = .ok (.ifCond .eq 13, 3) := dk_153 0 13 (dk_at dksX6_mustNumber_2 0 rfl rfl)
theorem dX6_mustNumber_49 : decode cX6_mustNumber 49 = .ok (.aload_n 0, 1) := dk_42 (dk_at dksX6_mustNumber_2 3 rfl rfl)
theorem dX6_mustNumber_50 : decode cX6_mustNumber 50 = .ok (.dup, 1) := dk_89 (dk_at dksX6_mustNumber_2 4 rfl rfl)
theorem dX6_mustNumber_51 : decode cX6_mustNumber 51 = .ok (.getfield 180, 3) := dk_180 0 180 (dk_at dksX6_mustNumber_2 5 rfl rfl)
theorem dX6_mustNumber_54 : decode cX6_mustNumber 54 = .ok (.iconst 1, 1) := dk_4 (dk_at dksX6_mustNumber_2 8 rfl rfl)
theorem dX6_mustNumber_55 : decode cX6_mustNumber 55 = .ok (.iadd, 1) := dk_96 (dk_at dksX6_mustNumber_2 9 rfl rfl)
theorem dX6_mustNumber_56 : decode cX6_mustNumber 56 = .ok (.putfield 180, 3) := dk_181 0 180 (dk_at dksX6_mustNumber_2 10 rfl rfl)
theorem dX6_mustNumber_59 : decode cX6_mustNumber 59 = .ok (.return_, 1) := dk_177 (dk_at dksX6_mustNumber_2 13 rfl rfl)
abbrev cX6_readTest : ByteArray := prog_24_method_45_code
def yX6_readTest : MethodName := ⟨RX6, "readTest", "(I)V"⟩
def dkwX6_readTest_0 : List UInt8 := [42, 27, 182, 0, 214, 42, 8, 182, 0, 183, 153, 0, 11, 42, 27, 182, 0, 214, 167, 255, 243, 177]
abbrev dktX6_readTest_0 : List UInt8 := dkwX6_readTest_0 ++ []
theorem dksX6_readTest_0 : cX6_readTest.data.toList.drop 0 = dktX6_readTest_0 := by decide +kernel
theorem dX6_readTest_0 : decode cX6_readTest 0 = .ok (.aload_n 0, 1) := dk_42 (dk_at dksX6_readTest_0 0 rfl rfl)
theorem dX6_readTest_1 : decode cX6_readTest 1 = .ok (.iload_n 1, 1) := dk_27 (dk_at dksX6_readTest_0 1 rfl rfl)
theorem dX6_readTest_2 : decode cX6_readTest 2 = .ok (.invokevirtual 214, 3) := dk_182 0 214 (dk_at dksX6_readTest_0 2 rfl rfl)
theorem dX6_readTest_5 : decode cX6_readTest 5 = .ok (.aload_n 0, 1) := dk_42 (dk_at dksX6_readTest_0 5 rfl rfl)
theorem dX6_readTest_6 : decode cX6_readTest 6 = .ok (.iconst 5, 1) := dk_8 (dk_at dksX6_readTest_0 6 rfl rfl)
theorem dX6_readTest_7 : decode cX6_readTest 7 = .ok (.invokevirtual 183, 3) := dk_182 0 183 (dk_at dksX6_readTest_0 7 rfl rfl)
theorem dX6_readTest_10 : decode cX6_readTest 10 = .ok (.ifCond .eq 11, 3) := dk_153 0 11 (dk_at dksX6_readTest_0 10 rfl rfl)
theorem dX6_readTest_13 : decode cX6_readTest 13 = .ok (.aload_n 0, 1) := dk_42 (dk_at dksX6_readTest_0 13 rfl rfl)
theorem dX6_readTest_14 : decode cX6_readTest 14 = .ok (.iload_n 1, 1) := dk_27 (dk_at dksX6_readTest_0 14 rfl rfl)
theorem dX6_readTest_15 : decode cX6_readTest 15 = .ok (.invokevirtual 214, 3) := dk_182 0 214 (dk_at dksX6_readTest_0 15 rfl rfl)
theorem dX6_readTest_18 : decode cX6_readTest 18 = .ok (.goto (-13), 3) := dk_167 255 243 (dk_at dksX6_readTest_0 18 rfl rfl)
theorem dX6_readTest_21 : decode cX6_readTest 21 = .ok (.return_, 1) := dk_177 (dk_at dksX6_readTest_0 21 rfl rfl)
abbrev cX6_readBoth : ByteArray := prog_24_method_46_code
def yX6_readBoth : MethodName := ⟨RX6, "readBoth", "(I)V"⟩
def dkwX6_readBoth_0 : List UInt8 := [42, 27, 182, 0, 217, 42, 16, 6, 182, 0, 183, 153, 0, 11, 42, 27, 182, 0, 217, 167, 255, 242, 177]
abbrev dktX6_readBoth_0 : List UInt8 := dkwX6_readBoth_0 ++ []
theorem dksX6_readBoth_0 : cX6_readBoth.data.toList.drop 0 = dktX6_readBoth_0 := by decide +kernel
theorem dX6_readBoth_0 : decode cX6_readBoth 0 = .ok (.aload_n 0, 1) := dk_42 (dk_at dksX6_readBoth_0 0 rfl rfl)
theorem dX6_readBoth_1 : decode cX6_readBoth 1 = .ok (.iload_n 1, 1) := dk_27 (dk_at dksX6_readBoth_0 1 rfl rfl)
theorem dX6_readBoth_2 : decode cX6_readBoth 2 = .ok (.invokevirtual 217, 3) := dk_182 0 217 (dk_at dksX6_readBoth_0 2 rfl rfl)
theorem dX6_readBoth_5 : decode cX6_readBoth 5 = .ok (.aload_n 0, 1) := dk_42 (dk_at dksX6_readBoth_0 5 rfl rfl)
theorem dX6_readBoth_6 : decode cX6_readBoth 6 = .ok (.bipush 6, 2) := dk_16 6 (dk_at dksX6_readBoth_0 6 rfl rfl)
theorem dX6_readBoth_8 : decode cX6_readBoth 8 = .ok (.invokevirtual 183, 3) := dk_182 0 183 (dk_at dksX6_readBoth_0 8 rfl rfl)
theorem dX6_readBoth_11 : decode cX6_readBoth 11 = .ok (.ifCond .eq 11, 3) := dk_153 0 11 (dk_at dksX6_readBoth_0 11 rfl rfl)
theorem dX6_readBoth_14 : decode cX6_readBoth 14 = .ok (.aload_n 0, 1) := dk_42 (dk_at dksX6_readBoth_0 14 rfl rfl)
theorem dX6_readBoth_15 : decode cX6_readBoth 15 = .ok (.iload_n 1, 1) := dk_27 (dk_at dksX6_readBoth_0 15 rfl rfl)
theorem dX6_readBoth_16 : decode cX6_readBoth 16 = .ok (.invokevirtual 217, 3) := dk_182 0 217 (dk_at dksX6_readBoth_0 16 rfl rfl)
theorem dX6_readBoth_19 : decode cX6_readBoth 19 = .ok (.goto (-14), 3) := dk_167 255 242 (dk_at dksX6_readBoth_0 19 rfl rfl)
theorem dX6_readBoth_22 : decode cX6_readBoth 22 = .ok (.return_, 1) := dk_177 (dk_at dksX6_readBoth_0 22 rfl rfl)
abbrev cX6_readPlain : ByteArray := prog_24_method_47_code
def yX6_readPlain : MethodName := ⟨RX6, "readPlain", "(I)V"⟩
def dkwX6_readPlain_5 : List UInt8 := [154, 0, 12, 42, 16, 61, 184, 0, 220, 182, 0, 195, 42, 27, 182, 0, 192, 177]
abbrev dktX6_readPlain_5 : List UInt8 := dkwX6_readPlain_5 ++ []
def dkwX6_readPlain_4 : List UInt8 := [182, 0, 192, 42, 16, 60, 184, 0, 220, 182, 0, 183, 154, 0, 24, 42, 16, 62, 184, 0, 220, 182, 0, 183]
abbrev dktX6_readPlain_4 : List UInt8 := dkwX6_readPlain_4 ++ dktX6_readPlain_5
def dkwX6_readPlain_3 : List UInt8 := [181, 0, 180, 42, 27, 4, 96, 182, 0, 198, 42, 16, 41, 184, 0, 220, 182, 0, 195, 167, 0, 46, 42, 27]
abbrev dktX6_readPlain_3 : List UInt8 := dkwX6_readPlain_3 ++ dktX6_readPlain_4
def dkwX6_readPlain_2 : List UInt8 := [160, 0, 7, 42, 182, 0, 186, 42, 182, 0, 177, 154, 0, 4, 177, 42, 89, 180, 0, 180, 4, 96]
abbrev dktX6_readPlain_2 : List UInt8 := dkwX6_readPlain_2 ++ dktX6_readPlain_3
def dkwX6_readPlain_1 : List UInt8 := [42, 180, 0, 54, 42, 180, 0, 180, 46, 62, 29, 16, 40, 184, 0, 220, 160, 0, 50, 27, 16, 8]
abbrev dktX6_readPlain_1 : List UInt8 := dkwX6_readPlain_1 ++ dktX6_readPlain_2
def dkwX6_readPlain_0 : List UInt8 := [4, 61, 28, 153, 0, 13, 42, 16, 7, 182, 0, 183, 61, 167, 255, 245, 42, 182, 0, 177, 154, 0, 4, 177]
abbrev dktX6_readPlain_0 : List UInt8 := dkwX6_readPlain_0 ++ dktX6_readPlain_1
theorem dksX6_readPlain_0 : cX6_readPlain.data.toList.drop 0 = dktX6_readPlain_0 := by decide +kernel
theorem dksX6_readPlain_1 : cX6_readPlain.data.toList.drop 24 = dktX6_readPlain_1 := dk_seg dksX6_readPlain_0 24 rfl rfl
theorem dksX6_readPlain_2 : cX6_readPlain.data.toList.drop 46 = dktX6_readPlain_2 := dk_seg dksX6_readPlain_1 22 rfl rfl
theorem dksX6_readPlain_3 : cX6_readPlain.data.toList.drop 68 = dktX6_readPlain_3 := dk_seg dksX6_readPlain_2 22 rfl rfl
theorem dksX6_readPlain_4 : cX6_readPlain.data.toList.drop 92 = dktX6_readPlain_4 := dk_seg dksX6_readPlain_3 24 rfl rfl
theorem dksX6_readPlain_5 : cX6_readPlain.data.toList.drop 116 = dktX6_readPlain_5 := dk_seg dksX6_readPlain_4 24 rfl rfl
theorem dX6_readPlain_0 : decode cX6_readPlain 0 = .ok (.iconst 1, 1) := dk_4 (dk_at dksX6_readPlain_0 0 rfl rfl)
theorem dX6_readPlain_1 : decode cX6_readPlain 1 = .ok (.istore_n 2, 1) := dk_61 (dk_at dksX6_readPlain_0 1 rfl rfl)
theorem dX6_readPlain_2 : decode cX6_readPlain 2 = .ok (.iload_n 2, 1) := dk_28 (dk_at dksX6_readPlain_0 2 rfl rfl)
theorem dX6_readPlain_3 : decode cX6_readPlain 3 = .ok (.ifCond .eq 13, 3) := dk_153 0 13 (dk_at dksX6_readPlain_0 3 rfl rfl)
theorem dX6_readPlain_6 : decode cX6_readPlain 6 = .ok (.aload_n 0, 1) := dk_42 (dk_at dksX6_readPlain_0 6 rfl rfl)
theorem dX6_readPlain_7 : decode cX6_readPlain 7 = .ok (.bipush 7, 2) := dk_16 7 (dk_at dksX6_readPlain_0 7 rfl rfl)
theorem dX6_readPlain_9 : decode cX6_readPlain 9 = .ok (.invokevirtual 183, 3) := dk_182 0 183 (dk_at dksX6_readPlain_0 9 rfl rfl)
theorem dX6_readPlain_12 : decode cX6_readPlain 12 = .ok (.istore_n 2, 1) := dk_61 (dk_at dksX6_readPlain_0 12 rfl rfl)
theorem dX6_readPlain_13 : decode cX6_readPlain 13 = .ok (.goto (-11), 3) := dk_167 255 245 (dk_at dksX6_readPlain_0 13 rfl rfl)
theorem dX6_readPlain_16 : decode cX6_readPlain 16 = .ok (.aload_n 0, 1) := dk_42 (dk_at dksX6_readPlain_0 16 rfl rfl)
theorem dX6_readPlain_17 : decode cX6_readPlain 17 = .ok (.invokevirtual 177, 3) := dk_182 0 177 (dk_at dksX6_readPlain_0 17 rfl rfl)
theorem dX6_readPlain_20 : decode cX6_readPlain 20 = .ok (.ifCond .ne 4, 3) := dk_154 0 4 (dk_at dksX6_readPlain_0 20 rfl rfl)
theorem dX6_readPlain_23 : decode cX6_readPlain 23 = .ok (.return_, 1) := dk_177 (dk_at dksX6_readPlain_0 23 rfl rfl)
theorem dX6_readPlain_24 : decode cX6_readPlain 24 = .ok (.aload_n 0, 1) := dk_42 (dk_at dksX6_readPlain_1 0 rfl rfl)
theorem dX6_readPlain_25 : decode cX6_readPlain 25 = .ok (.getfield 54, 3) := dk_180 0 54 (dk_at dksX6_readPlain_1 1 rfl rfl)
theorem dX6_readPlain_28 : decode cX6_readPlain 28 = .ok (.aload_n 0, 1) := dk_42 (dk_at dksX6_readPlain_1 4 rfl rfl)
theorem dX6_readPlain_29 : decode cX6_readPlain 29 = .ok (.getfield 180, 3) := dk_180 0 180 (dk_at dksX6_readPlain_1 5 rfl rfl)
theorem dX6_readPlain_32 : decode cX6_readPlain 32 = .ok (.iaload, 1) := dk_46 (dk_at dksX6_readPlain_1 8 rfl rfl)
theorem dX6_readPlain_33 : decode cX6_readPlain 33 = .ok (.istore_n 3, 1) := dk_62 (dk_at dksX6_readPlain_1 9 rfl rfl)
theorem dX6_readPlain_34 : decode cX6_readPlain 34 = .ok (.iload_n 3, 1) := dk_29 (dk_at dksX6_readPlain_1 10 rfl rfl)
theorem dX6_readPlain_35 : decode cX6_readPlain 35 = .ok (.bipush 40, 2) := dk_16 40 (dk_at dksX6_readPlain_1 11 rfl rfl)
theorem dX6_readPlain_37 : decode cX6_readPlain 37 = .ok (.invokestatic 220, 3) := dk_184 0 220 (dk_at dksX6_readPlain_1 13 rfl rfl)
theorem dX6_readPlain_40 : decode cX6_readPlain 40 = .ok (.if_icmp .ne 50, 3) := dk_160 0 50 (dk_at dksX6_readPlain_1 16 rfl rfl)
theorem dX6_readPlain_43 : decode cX6_readPlain 43 = .ok (.iload_n 1, 1) := dk_27 (dk_at dksX6_readPlain_1 19 rfl rfl)
theorem dX6_readPlain_44 : decode cX6_readPlain 44 = .ok (.bipush 8, 2) := dk_16 8 (dk_at dksX6_readPlain_1 20 rfl rfl)
theorem dX6_readPlain_46 : decode cX6_readPlain 46 = .ok (.if_icmp .ne 7, 3) := dk_160 0 7 (dk_at dksX6_readPlain_2 0 rfl rfl)
theorem dX6_readPlain_49 : decode cX6_readPlain 49 = .ok (.aload_n 0, 1) := dk_42 (dk_at dksX6_readPlain_2 3 rfl rfl)
theorem dX6_readPlain_50 : decode cX6_readPlain 50 = .ok (.invokevirtual 186, 3) := dk_182 0 186 (dk_at dksX6_readPlain_2 4 rfl rfl)
theorem dX6_readPlain_53 : decode cX6_readPlain 53 = .ok (.aload_n 0, 1) := dk_42 (dk_at dksX6_readPlain_2 7 rfl rfl)
theorem dX6_readPlain_54 : decode cX6_readPlain 54 = .ok (.invokevirtual 177, 3) := dk_182 0 177 (dk_at dksX6_readPlain_2 8 rfl rfl)
theorem dX6_readPlain_57 : decode cX6_readPlain 57 = .ok (.ifCond .ne 4, 3) := dk_154 0 4 (dk_at dksX6_readPlain_2 11 rfl rfl)
theorem dX6_readPlain_60 : decode cX6_readPlain 60 = .ok (.return_, 1) := dk_177 (dk_at dksX6_readPlain_2 14 rfl rfl)
theorem dX6_readPlain_61 : decode cX6_readPlain 61 = .ok (.aload_n 0, 1) := dk_42 (dk_at dksX6_readPlain_2 15 rfl rfl)
theorem dX6_readPlain_62 : decode cX6_readPlain 62 = .ok (.dup, 1) := dk_89 (dk_at dksX6_readPlain_2 16 rfl rfl)
theorem dX6_readPlain_63 : decode cX6_readPlain 63 = .ok (.getfield 180, 3) := dk_180 0 180 (dk_at dksX6_readPlain_2 17 rfl rfl)
theorem dX6_readPlain_66 : decode cX6_readPlain 66 = .ok (.iconst 1, 1) := dk_4 (dk_at dksX6_readPlain_2 20 rfl rfl)
theorem dX6_readPlain_67 : decode cX6_readPlain 67 = .ok (.iadd, 1) := dk_96 (dk_at dksX6_readPlain_2 21 rfl rfl)
theorem dX6_readPlain_68 : decode cX6_readPlain 68 = .ok (.putfield 180, 3) := dk_181 0 180 (dk_at dksX6_readPlain_3 0 rfl rfl)
theorem dX6_readPlain_71 : decode cX6_readPlain 71 = .ok (.aload_n 0, 1) := dk_42 (dk_at dksX6_readPlain_3 3 rfl rfl)
theorem dX6_readPlain_72 : decode cX6_readPlain 72 = .ok (.iload_n 1, 1) := dk_27 (dk_at dksX6_readPlain_3 4 rfl rfl)
theorem dX6_readPlain_73 : decode cX6_readPlain 73 = .ok (.iconst 1, 1) := dk_4 (dk_at dksX6_readPlain_3 5 rfl rfl)
theorem dX6_readPlain_74 : decode cX6_readPlain 74 = .ok (.iadd, 1) := dk_96 (dk_at dksX6_readPlain_3 6 rfl rfl)
theorem dX6_readPlain_75 : decode cX6_readPlain 75 = .ok (.invokevirtual 198, 3) := dk_182 0 198 (dk_at dksX6_readPlain_3 7 rfl rfl)
theorem dX6_readPlain_78 : decode cX6_readPlain 78 = .ok (.aload_n 0, 1) := dk_42 (dk_at dksX6_readPlain_3 10 rfl rfl)
theorem dX6_readPlain_79 : decode cX6_readPlain 79 = .ok (.bipush 41, 2) := dk_16 41 (dk_at dksX6_readPlain_3 11 rfl rfl)
theorem dX6_readPlain_81 : decode cX6_readPlain 81 = .ok (.invokestatic 220, 3) := dk_184 0 220 (dk_at dksX6_readPlain_3 13 rfl rfl)
theorem dX6_readPlain_84 : decode cX6_readPlain 84 = .ok (.invokevirtual 195, 3) := dk_182 0 195 (dk_at dksX6_readPlain_3 16 rfl rfl)
theorem dX6_readPlain_87 : decode cX6_readPlain 87 = .ok (.goto 46, 3) := dk_167 0 46 (dk_at dksX6_readPlain_3 19 rfl rfl)
theorem dX6_readPlain_90 : decode cX6_readPlain 90 = .ok (.aload_n 0, 1) := dk_42 (dk_at dksX6_readPlain_3 22 rfl rfl)
theorem dX6_readPlain_91 : decode cX6_readPlain 91 = .ok (.iload_n 1, 1) := dk_27 (dk_at dksX6_readPlain_3 23 rfl rfl)
theorem dX6_readPlain_92 : decode cX6_readPlain 92 = .ok (.invokevirtual 192, 3) := dk_182 0 192 (dk_at dksX6_readPlain_4 0 rfl rfl)
theorem dX6_readPlain_95 : decode cX6_readPlain 95 = .ok (.aload_n 0, 1) := dk_42 (dk_at dksX6_readPlain_4 3 rfl rfl)
theorem dX6_readPlain_96 : decode cX6_readPlain 96 = .ok (.bipush 60, 2) := dk_16 60 (dk_at dksX6_readPlain_4 4 rfl rfl)
theorem dX6_readPlain_98 : decode cX6_readPlain 98 = .ok (.invokestatic 220, 3) := dk_184 0 220 (dk_at dksX6_readPlain_4 6 rfl rfl)
theorem dX6_readPlain_101 : decode cX6_readPlain 101 = .ok (.invokevirtual 183, 3) := dk_182 0 183 (dk_at dksX6_readPlain_4 9 rfl rfl)
theorem dX6_readPlain_104 : decode cX6_readPlain 104 = .ok (.ifCond .ne 24, 3) := dk_154 0 24 (dk_at dksX6_readPlain_4 12 rfl rfl)
theorem dX6_readPlain_107 : decode cX6_readPlain 107 = .ok (.aload_n 0, 1) := dk_42 (dk_at dksX6_readPlain_4 15 rfl rfl)
theorem dX6_readPlain_108 : decode cX6_readPlain 108 = .ok (.bipush 62, 2) := dk_16 62 (dk_at dksX6_readPlain_4 16 rfl rfl)
theorem dX6_readPlain_110 : decode cX6_readPlain 110 = .ok (.invokestatic 220, 3) := dk_184 0 220 (dk_at dksX6_readPlain_4 18 rfl rfl)
theorem dX6_readPlain_113 : decode cX6_readPlain 113 = .ok (.invokevirtual 183, 3) := dk_182 0 183 (dk_at dksX6_readPlain_4 21 rfl rfl)
theorem dX6_readPlain_116 : decode cX6_readPlain 116 = .ok (.ifCond .ne 12, 3) := dk_154 0 12 (dk_at dksX6_readPlain_5 0 rfl rfl)
theorem dX6_readPlain_119 : decode cX6_readPlain 119 = .ok (.aload_n 0, 1) := dk_42 (dk_at dksX6_readPlain_5 3 rfl rfl)
theorem dX6_readPlain_120 : decode cX6_readPlain 120 = .ok (.bipush 61, 2) := dk_16 61 (dk_at dksX6_readPlain_5 4 rfl rfl)
theorem dX6_readPlain_122 : decode cX6_readPlain 122 = .ok (.invokestatic 220, 3) := dk_184 0 220 (dk_at dksX6_readPlain_5 6 rfl rfl)
theorem dX6_readPlain_125 : decode cX6_readPlain 125 = .ok (.invokevirtual 195, 3) := dk_182 0 195 (dk_at dksX6_readPlain_5 9 rfl rfl)
theorem dX6_readPlain_128 : decode cX6_readPlain 128 = .ok (.aload_n 0, 1) := dk_42 (dk_at dksX6_readPlain_5 12 rfl rfl)
theorem dX6_readPlain_129 : decode cX6_readPlain 129 = .ok (.iload_n 1, 1) := dk_27 (dk_at dksX6_readPlain_5 13 rfl rfl)
theorem dX6_readPlain_130 : decode cX6_readPlain 130 = .ok (.invokevirtual 192, 3) := dk_182 0 192 (dk_at dksX6_readPlain_5 14 rfl rfl)
theorem dX6_readPlain_133 : decode cX6_readPlain 133 = .ok (.return_, 1) := dk_177 (dk_at dksX6_readPlain_5 17 rfl rfl)
abbrev cX6_readClause : ByteArray := prog_24_method_42_code
def yX6_readClause : MethodName := ⟨RX6, "readClause", "()V"⟩
def dkwX6_readClause_1 : List UInt8 := [42, 6, 182, 0, 195, 42, 7, 182, 0, 183, 153, 0, 8, 42, 3, 182, 0, 198, 177]
abbrev dktX6_readClause_1 : List UInt8 := dkwX6_readClause_1 ++ []
def dkwX6_readClause_0 : List UInt8 := [42, 4, 182, 0, 183, 154, 0, 11, 42, 5, 182, 0, 183, 153, 0, 11, 42, 3, 182, 0, 192, 167, 0, 8]
abbrev dktX6_readClause_0 : List UInt8 := dkwX6_readClause_0 ++ dktX6_readClause_1
theorem dksX6_readClause_0 : cX6_readClause.data.toList.drop 0 = dktX6_readClause_0 := by decide +kernel
theorem dksX6_readClause_1 : cX6_readClause.data.toList.drop 24 = dktX6_readClause_1 := dk_seg dksX6_readClause_0 24 rfl rfl
theorem dX6_readClause_0 : decode cX6_readClause 0 = .ok (.aload_n 0, 1) := dk_42 (dk_at dksX6_readClause_0 0 rfl rfl)
theorem dX6_readClause_1 : decode cX6_readClause 1 = .ok (.iconst 1, 1) := dk_4 (dk_at dksX6_readClause_0 1 rfl rfl)
theorem dX6_readClause_2 : decode cX6_readClause 2 = .ok (.invokevirtual 183, 3) := dk_182 0 183 (dk_at dksX6_readClause_0 2 rfl rfl)
theorem dX6_readClause_5 : decode cX6_readClause 5 = .ok (.ifCond .ne 11, 3) := dk_154 0 11 (dk_at dksX6_readClause_0 5 rfl rfl)
theorem dX6_readClause_8 : decode cX6_readClause 8 = .ok (.aload_n 0, 1) := dk_42 (dk_at dksX6_readClause_0 8 rfl rfl)
theorem dX6_readClause_9 : decode cX6_readClause 9 = .ok (.iconst 2, 1) := dk_5 (dk_at dksX6_readClause_0 9 rfl rfl)
theorem dX6_readClause_10 : decode cX6_readClause 10 = .ok (.invokevirtual 183, 3) := dk_182 0 183 (dk_at dksX6_readClause_0 10 rfl rfl)
theorem dX6_readClause_13 : decode cX6_readClause 13 = .ok (.ifCond .eq 11, 3) := dk_153 0 11 (dk_at dksX6_readClause_0 13 rfl rfl)
theorem dX6_readClause_16 : decode cX6_readClause 16 = .ok (.aload_n 0, 1) := dk_42 (dk_at dksX6_readClause_0 16 rfl rfl)
theorem dX6_readClause_17 : decode cX6_readClause 17 = .ok (.iconst 0, 1) := dk_3 (dk_at dksX6_readClause_0 17 rfl rfl)
theorem dX6_readClause_18 : decode cX6_readClause 18 = .ok (.invokevirtual 192, 3) := dk_182 0 192 (dk_at dksX6_readClause_0 18 rfl rfl)
theorem dX6_readClause_21 : decode cX6_readClause 21 = .ok (.goto 8, 3) := dk_167 0 8 (dk_at dksX6_readClause_0 21 rfl rfl)
theorem dX6_readClause_24 : decode cX6_readClause 24 = .ok (.aload_n 0, 1) := dk_42 (dk_at dksX6_readClause_1 0 rfl rfl)
theorem dX6_readClause_25 : decode cX6_readClause 25 = .ok (.iconst 3, 1) := dk_6 (dk_at dksX6_readClause_1 1 rfl rfl)
theorem dX6_readClause_26 : decode cX6_readClause 26 = .ok (.invokevirtual 195, 3) := dk_182 0 195 (dk_at dksX6_readClause_1 2 rfl rfl)
theorem dX6_readClause_29 : decode cX6_readClause 29 = .ok (.aload_n 0, 1) := dk_42 (dk_at dksX6_readClause_1 5 rfl rfl)
theorem dX6_readClause_30 : decode cX6_readClause 30 = .ok (.iconst 4, 1) := dk_7 (dk_at dksX6_readClause_1 6 rfl rfl)
theorem dX6_readClause_31 : decode cX6_readClause 31 = .ok (.invokevirtual 183, 3) := dk_182 0 183 (dk_at dksX6_readClause_1 7 rfl rfl)
theorem dX6_readClause_34 : decode cX6_readClause 34 = .ok (.ifCond .eq 8, 3) := dk_153 0 8 (dk_at dksX6_readClause_1 10 rfl rfl)
theorem dX6_readClause_37 : decode cX6_readClause 37 = .ok (.aload_n 0, 1) := dk_42 (dk_at dksX6_readClause_1 13 rfl rfl)
theorem dX6_readClause_38 : decode cX6_readClause 38 = .ok (.iconst 0, 1) := dk_3 (dk_at dksX6_readClause_1 14 rfl rfl)
theorem dX6_readClause_39 : decode cX6_readClause 39 = .ok (.invokevirtual 198, 3) := dk_182 0 198 (dk_at dksX6_readClause_1 15 rfl rfl)
theorem dX6_readClause_42 : decode cX6_readClause 42 = .ok (.return_, 1) := dk_177 (dk_at dksX6_readClause_1 18 rfl rfl)
abbrev cX6_lays : ByteArray := prog_24_method_53_code
def yX6_lays : MethodName := ⟨RX6, "lays", "(I)V"⟩
def dkwX6_lays_3 : List UInt8 := [177]
abbrev dktX6_lays_3 : List UInt8 := dkwX6_lays_3 ++ []
def dkwX6_lays_2 : List UInt8 := [17, 11, 36, 17, 1, 144, 27, 104, 96, 28, 96, 42, 180, 0, 57, 28, 46, 79, 132, 2, 1, 167, 255, 202]
abbrev dktX6_lays_2 : List UInt8 := dkwX6_lays_2 ++ dktX6_lays_3
def dkwX6_lays_1 : List UInt8 := [180, 0, 28, 16, 52, 17, 1, 144, 27, 104, 96, 28, 96, 42, 180, 0, 54, 28, 46, 79, 42, 180, 0, 28]
abbrev dktX6_lays_1 : List UInt8 := dkwX6_lays_1 ++ dktX6_lays_2
def dkwX6_lays_0 : List UInt8 := [42, 180, 0, 28, 16, 45, 27, 96, 42, 180, 0, 160, 79, 3, 61, 28, 42, 180, 0, 160, 162, 0, 52, 42]
abbrev dktX6_lays_0 : List UInt8 := dkwX6_lays_0 ++ dktX6_lays_1
theorem dksX6_lays_0 : cX6_lays.data.toList.drop 0 = dktX6_lays_0 := by decide +kernel
theorem dksX6_lays_1 : cX6_lays.data.toList.drop 24 = dktX6_lays_1 := dk_seg dksX6_lays_0 24 rfl rfl
theorem dksX6_lays_2 : cX6_lays.data.toList.drop 48 = dktX6_lays_2 := dk_seg dksX6_lays_1 24 rfl rfl
theorem dksX6_lays_3 : cX6_lays.data.toList.drop 72 = dktX6_lays_3 := dk_seg dksX6_lays_2 24 rfl rfl
theorem dX6_lays_0 : decode cX6_lays 0 = .ok (.aload_n 0, 1) := dk_42 (dk_at dksX6_lays_0 0 rfl rfl)
theorem dX6_lays_1 : decode cX6_lays 1 = .ok (.getfield 28, 3) := dk_180 0 28 (dk_at dksX6_lays_0 1 rfl rfl)
theorem dX6_lays_4 : decode cX6_lays 4 = .ok (.bipush 45, 2) := dk_16 45 (dk_at dksX6_lays_0 4 rfl rfl)
theorem dX6_lays_6 : decode cX6_lays 6 = .ok (.iload_n 1, 1) := dk_27 (dk_at dksX6_lays_0 6 rfl rfl)
theorem dX6_lays_7 : decode cX6_lays 7 = .ok (.iadd, 1) := dk_96 (dk_at dksX6_lays_0 7 rfl rfl)
theorem dX6_lays_8 : decode cX6_lays 8 = .ok (.aload_n 0, 1) := dk_42 (dk_at dksX6_lays_0 8 rfl rfl)
theorem dX6_lays_9 : decode cX6_lays 9 = .ok (.getfield 160, 3) := dk_180 0 160 (dk_at dksX6_lays_0 9 rfl rfl)
theorem dX6_lays_12 : decode cX6_lays 12 = .ok (.iastore, 1) := dk_79 (dk_at dksX6_lays_0 12 rfl rfl)
theorem dX6_lays_13 : decode cX6_lays 13 = .ok (.iconst 0, 1) := dk_3 (dk_at dksX6_lays_0 13 rfl rfl)
theorem dX6_lays_14 : decode cX6_lays 14 = .ok (.istore_n 2, 1) := dk_61 (dk_at dksX6_lays_0 14 rfl rfl)
theorem dX6_lays_15 : decode cX6_lays 15 = .ok (.iload_n 2, 1) := dk_28 (dk_at dksX6_lays_0 15 rfl rfl)
theorem dX6_lays_16 : decode cX6_lays 16 = .ok (.aload_n 0, 1) := dk_42 (dk_at dksX6_lays_0 16 rfl rfl)
theorem dX6_lays_17 : decode cX6_lays 17 = .ok (.getfield 160, 3) := dk_180 0 160 (dk_at dksX6_lays_0 17 rfl rfl)
theorem dX6_lays_20 : decode cX6_lays 20 = .ok (.if_icmp .ge 52, 3) := dk_162 0 52 (dk_at dksX6_lays_0 20 rfl rfl)
theorem dX6_lays_23 : decode cX6_lays 23 = .ok (.aload_n 0, 1) := dk_42 (dk_at dksX6_lays_0 23 rfl rfl)
theorem dX6_lays_24 : decode cX6_lays 24 = .ok (.getfield 28, 3) := dk_180 0 28 (dk_at dksX6_lays_1 0 rfl rfl)
theorem dX6_lays_27 : decode cX6_lays 27 = .ok (.bipush 52, 2) := dk_16 52 (dk_at dksX6_lays_1 3 rfl rfl)
theorem dX6_lays_29 : decode cX6_lays 29 = .ok (.sipush 400, 3) := dk_17 1 144 (dk_at dksX6_lays_1 5 rfl rfl)
theorem dX6_lays_32 : decode cX6_lays 32 = .ok (.iload_n 1, 1) := dk_27 (dk_at dksX6_lays_1 8 rfl rfl)
theorem dX6_lays_33 : decode cX6_lays 33 = .ok (.imul, 1) := dk_104 (dk_at dksX6_lays_1 9 rfl rfl)
theorem dX6_lays_34 : decode cX6_lays 34 = .ok (.iadd, 1) := dk_96 (dk_at dksX6_lays_1 10 rfl rfl)
theorem dX6_lays_35 : decode cX6_lays 35 = .ok (.iload_n 2, 1) := dk_28 (dk_at dksX6_lays_1 11 rfl rfl)
theorem dX6_lays_36 : decode cX6_lays 36 = .ok (.iadd, 1) := dk_96 (dk_at dksX6_lays_1 12 rfl rfl)
theorem dX6_lays_37 : decode cX6_lays 37 = .ok (.aload_n 0, 1) := dk_42 (dk_at dksX6_lays_1 13 rfl rfl)
theorem dX6_lays_38 : decode cX6_lays 38 = .ok (.getfield 54, 3) := dk_180 0 54 (dk_at dksX6_lays_1 14 rfl rfl)
theorem dX6_lays_41 : decode cX6_lays 41 = .ok (.iload_n 2, 1) := dk_28 (dk_at dksX6_lays_1 17 rfl rfl)
theorem dX6_lays_42 : decode cX6_lays 42 = .ok (.iaload, 1) := dk_46 (dk_at dksX6_lays_1 18 rfl rfl)
theorem dX6_lays_43 : decode cX6_lays 43 = .ok (.iastore, 1) := dk_79 (dk_at dksX6_lays_1 19 rfl rfl)
theorem dX6_lays_44 : decode cX6_lays 44 = .ok (.aload_n 0, 1) := dk_42 (dk_at dksX6_lays_1 20 rfl rfl)
theorem dX6_lays_45 : decode cX6_lays 45 = .ok (.getfield 28, 3) := dk_180 0 28 (dk_at dksX6_lays_1 21 rfl rfl)
theorem dX6_lays_48 : decode cX6_lays 48 = .ok (.sipush 2852, 3) := dk_17 11 36 (dk_at dksX6_lays_2 0 rfl rfl)
theorem dX6_lays_51 : decode cX6_lays 51 = .ok (.sipush 400, 3) := dk_17 1 144 (dk_at dksX6_lays_2 3 rfl rfl)
theorem dX6_lays_54 : decode cX6_lays 54 = .ok (.iload_n 1, 1) := dk_27 (dk_at dksX6_lays_2 6 rfl rfl)
theorem dX6_lays_55 : decode cX6_lays 55 = .ok (.imul, 1) := dk_104 (dk_at dksX6_lays_2 7 rfl rfl)
theorem dX6_lays_56 : decode cX6_lays 56 = .ok (.iadd, 1) := dk_96 (dk_at dksX6_lays_2 8 rfl rfl)
theorem dX6_lays_57 : decode cX6_lays 57 = .ok (.iload_n 2, 1) := dk_28 (dk_at dksX6_lays_2 9 rfl rfl)
theorem dX6_lays_58 : decode cX6_lays 58 = .ok (.iadd, 1) := dk_96 (dk_at dksX6_lays_2 10 rfl rfl)
theorem dX6_lays_59 : decode cX6_lays 59 = .ok (.aload_n 0, 1) := dk_42 (dk_at dksX6_lays_2 11 rfl rfl)
theorem dX6_lays_60 : decode cX6_lays 60 = .ok (.getfield 57, 3) := dk_180 0 57 (dk_at dksX6_lays_2 12 rfl rfl)
theorem dX6_lays_63 : decode cX6_lays 63 = .ok (.iload_n 2, 1) := dk_28 (dk_at dksX6_lays_2 15 rfl rfl)
theorem dX6_lays_64 : decode cX6_lays 64 = .ok (.iaload, 1) := dk_46 (dk_at dksX6_lays_2 16 rfl rfl)
theorem dX6_lays_65 : decode cX6_lays 65 = .ok (.iastore, 1) := dk_79 (dk_at dksX6_lays_2 17 rfl rfl)
theorem dX6_lays_66 : decode cX6_lays 66 = .ok (.iinc 2 1, 3) := dk_132 2 1 (dk_at dksX6_lays_2 18 rfl rfl)
theorem dX6_lays_69 : decode cX6_lays 69 = .ok (.goto (-54), 3) := dk_167 255 202 (dk_at dksX6_lays_2 21 rfl rfl)
theorem dX6_lays_72 : decode cX6_lays 72 = .ok (.return_, 1) := dk_177 (dk_at dksX6_lays_3 0 rfl rfl)
abbrev cX6_fault : ByteArray := prog_24_method_55_code
def yX6_fault : MethodName := ⟨RX6, "fault", "()I"⟩
theorem dX6_fault_0 : decode cX6_fault 0 = .ok (.aload_n 0, 1) := by decide +kernel
theorem dX6_fault_1 : decode cX6_fault 1 = .ok (.getfield 51, 3) := by decide +kernel
theorem dX6_fault_4 : decode cX6_fault 4 = .ok (.ireturn, 1) := by decide +kernel
abbrev cX6_force : ByteArray := prog_24_method_57_code
def yX6_force : MethodName := ⟨RX6, "force", "(I)I"⟩
def dkwX6_force_1 : List UInt8 := [180, 0, 28, 16, 44, 27, 79, 42, 28, 182, 0, 14, 172]
abbrev dktX6_force_1 : List UInt8 := dkwX6_force_1 ++ []
def dkwX6_force_0 : List UInt8 := [42, 27, 182, 0, 255, 154, 0, 10, 42, 16, 254, 182, 0, 106, 172, 42, 180, 0, 28, 16, 44, 46, 61, 42]
abbrev dktX6_force_0 : List UInt8 := dkwX6_force_0 ++ dktX6_force_1
theorem dksX6_force_0 : cX6_force.data.toList.drop 0 = dktX6_force_0 := by decide +kernel
theorem dksX6_force_1 : cX6_force.data.toList.drop 24 = dktX6_force_1 := dk_seg dksX6_force_0 24 rfl rfl
theorem dX6_force_0 : decode cX6_force 0 = .ok (.aload_n 0, 1) := dk_42 (dk_at dksX6_force_0 0 rfl rfl)
theorem dX6_force_1 : decode cX6_force 1 = .ok (.iload_n 1, 1) := dk_27 (dk_at dksX6_force_0 1 rfl rfl)
theorem dX6_force_2 : decode cX6_force 2 = .ok (.invokevirtual 255, 3) := dk_182 0 255 (dk_at dksX6_force_0 2 rfl rfl)
theorem dX6_force_5 : decode cX6_force 5 = .ok (.ifCond .ne 10, 3) := dk_154 0 10 (dk_at dksX6_force_0 5 rfl rfl)
theorem dX6_force_8 : decode cX6_force 8 = .ok (.aload_n 0, 1) := dk_42 (dk_at dksX6_force_0 8 rfl rfl)
theorem dX6_force_9 : decode cX6_force 9 = .ok (.bipush (-2), 2) := dk_16 254 (dk_at dksX6_force_0 9 rfl rfl)
theorem dX6_force_11 : decode cX6_force 11 = .ok (.invokevirtual 106, 3) := dk_182 0 106 (dk_at dksX6_force_0 11 rfl rfl)
theorem dX6_force_14 : decode cX6_force 14 = .ok (.ireturn, 1) := dk_172 (dk_at dksX6_force_0 14 rfl rfl)
theorem dX6_force_15 : decode cX6_force 15 = .ok (.aload_n 0, 1) := dk_42 (dk_at dksX6_force_0 15 rfl rfl)
theorem dX6_force_16 : decode cX6_force 16 = .ok (.getfield 28, 3) := dk_180 0 28 (dk_at dksX6_force_0 16 rfl rfl)
theorem dX6_force_19 : decode cX6_force 19 = .ok (.bipush 44, 2) := dk_16 44 (dk_at dksX6_force_0 19 rfl rfl)
theorem dX6_force_21 : decode cX6_force 21 = .ok (.iaload, 1) := dk_46 (dk_at dksX6_force_0 21 rfl rfl)
theorem dX6_force_22 : decode cX6_force 22 = .ok (.istore_n 2, 1) := dk_61 (dk_at dksX6_force_0 22 rfl rfl)
theorem dX6_force_23 : decode cX6_force 23 = .ok (.aload_n 0, 1) := dk_42 (dk_at dksX6_force_0 23 rfl rfl)
theorem dX6_force_24 : decode cX6_force 24 = .ok (.getfield 28, 3) := dk_180 0 28 (dk_at dksX6_force_1 0 rfl rfl)
theorem dX6_force_27 : decode cX6_force 27 = .ok (.bipush 44, 2) := dk_16 44 (dk_at dksX6_force_1 3 rfl rfl)
theorem dX6_force_29 : decode cX6_force 29 = .ok (.iload_n 1, 1) := dk_27 (dk_at dksX6_force_1 5 rfl rfl)
theorem dX6_force_30 : decode cX6_force 30 = .ok (.iastore, 1) := dk_79 (dk_at dksX6_force_1 6 rfl rfl)
theorem dX6_force_31 : decode cX6_force 31 = .ok (.aload_n 0, 1) := dk_42 (dk_at dksX6_force_1 7 rfl rfl)
theorem dX6_force_32 : decode cX6_force 32 = .ok (.iload_n 2, 1) := dk_28 (dk_at dksX6_force_1 8 rfl rfl)
theorem dX6_force_33 : decode cX6_force 33 = .ok (.invokevirtual 14, 3) := dk_182 0 14 (dk_at dksX6_force_1 9 rfl rfl)
theorem dX6_force_36 : decode cX6_force 36 = .ok (.ireturn, 1) := dk_172 (dk_at dksX6_force_1 12 rfl rfl)
abbrev cX6_isLaw : ByteArray := prog_24_method_56_code
def yX6_isLaw : MethodName := ⟨RX6, "isLaw", "(I)Z"⟩
def dkwX6_isLaw_0 : List UInt8 := [27, 2, 42, 180, 0, 28, 16, 43, 46, 4, 100, 184, 0, 18, 172]
abbrev dktX6_isLaw_0 : List UInt8 := dkwX6_isLaw_0 ++ []
theorem dksX6_isLaw_0 : cX6_isLaw.data.toList.drop 0 = dktX6_isLaw_0 := by decide +kernel
theorem dX6_isLaw_0 : decode cX6_isLaw 0 = .ok (.iload_n 1, 1) := dk_27 (dk_at dksX6_isLaw_0 0 rfl rfl)
theorem dX6_isLaw_1 : decode cX6_isLaw 1 = .ok (.iconst (-1), 1) := dk_2 (dk_at dksX6_isLaw_0 1 rfl rfl)
theorem dX6_isLaw_2 : decode cX6_isLaw 2 = .ok (.aload_n 0, 1) := dk_42 (dk_at dksX6_isLaw_0 2 rfl rfl)
theorem dX6_isLaw_3 : decode cX6_isLaw 3 = .ok (.getfield 28, 3) := dk_180 0 28 (dk_at dksX6_isLaw_0 3 rfl rfl)
theorem dX6_isLaw_6 : decode cX6_isLaw 6 = .ok (.bipush 43, 2) := dk_16 43 (dk_at dksX6_isLaw_0 6 rfl rfl)
theorem dX6_isLaw_8 : decode cX6_isLaw 8 = .ok (.iaload, 1) := dk_46 (dk_at dksX6_isLaw_0 8 rfl rfl)
theorem dX6_isLaw_9 : decode cX6_isLaw 9 = .ok (.iconst 1, 1) := dk_4 (dk_at dksX6_isLaw_0 9 rfl rfl)
theorem dX6_isLaw_10 : decode cX6_isLaw 10 = .ok (.isub, 1) := dk_100 (dk_at dksX6_isLaw_0 10 rfl rfl)
theorem dX6_isLaw_11 : decode cX6_isLaw 11 = .ok (.invokestatic 18, 3) := dk_184 0 18 (dk_at dksX6_isLaw_0 11 rfl rfl)
theorem dX6_isLaw_14 : decode cX6_isLaw 14 = .ok (.ireturn, 1) := dk_172 (dk_at dksX6_isLaw_0 14 rfl rfl)
abbrev cX6_all : ByteArray := prog_24_method_76_code
def yX6_all : MethodName := ⟨RX6, "all", "(I)I"⟩
def dkwX6_all_0 : List UInt8 := [27, 3, 5, 184, 0, 18, 153, 0, 11, 42, 27, 182, 1, 76, 167, 0, 4, 2, 172]
abbrev dktX6_all_0 : List UInt8 := dkwX6_all_0 ++ []
theorem dksX6_all_0 : cX6_all.data.toList.drop 0 = dktX6_all_0 := by decide +kernel
theorem dX6_all_0 : decode cX6_all 0 = .ok (.iload_n 1, 1) := dk_27 (dk_at dksX6_all_0 0 rfl rfl)
theorem dX6_all_1 : decode cX6_all 1 = .ok (.iconst 0, 1) := dk_3 (dk_at dksX6_all_0 1 rfl rfl)
theorem dX6_all_2 : decode cX6_all 2 = .ok (.iconst 2, 1) := dk_5 (dk_at dksX6_all_0 2 rfl rfl)
theorem dX6_all_3 : decode cX6_all 3 = .ok (.invokestatic 18, 3) := dk_184 0 18 (dk_at dksX6_all_0 3 rfl rfl)
theorem dX6_all_6 : decode cX6_all 6 = .ok (.ifCond .eq 11, 3) := dk_153 0 11 (dk_at dksX6_all_0 6 rfl rfl)
theorem dX6_all_9 : decode cX6_all 9 = .ok (.aload_n 0, 1) := dk_42 (dk_at dksX6_all_0 9 rfl rfl)
theorem dX6_all_10 : decode cX6_all 10 = .ok (.iload_n 1, 1) := dk_27 (dk_at dksX6_all_0 10 rfl rfl)
theorem dX6_all_11 : decode cX6_all 11 = .ok (.invokevirtual 332, 3) := dk_182 1 76 (dk_at dksX6_all_0 11 rfl rfl)
theorem dX6_all_14 : decode cX6_all 14 = .ok (.goto 4, 3) := dk_167 0 4 (dk_at dksX6_all_0 14 rfl rfl)
theorem dX6_all_17 : decode cX6_all 17 = .ok (.iconst (-1), 1) := dk_2 (dk_at dksX6_all_0 17 rfl rfl)
theorem dX6_all_18 : decode cX6_all 18 = .ok (.ireturn, 1) := dk_172 (dk_at dksX6_all_0 18 rfl rfl)
abbrev cX6_allOf : ByteArray := prog_24_method_75_code
def yX6_allOf : MethodName := ⟨RX6, "allOf", "(I)I"⟩
def dkwX6_allOf_2 : List UInt8 := [153, 0, 7, 4, 167, 0, 4, 3, 96, 61, 132, 3, 1, 167, 255, 202, 28, 172]
abbrev dktX6_allOf_2 : List UInt8 := dkwX6_allOf_2 ++ []
def dkwX6_allOf_1 : List UInt8 := [182, 0, 131, 167, 0, 27, 27, 4, 160, 0, 10, 42, 182, 0, 134, 167, 0, 15, 42, 182, 0, 137]
abbrev dktX6_allOf_1 : List UInt8 := dkwX6_allOf_1 ++ dktX6_allOf_2
def dkwX6_allOf_0 : List UInt8 := [3, 61, 3, 62, 29, 42, 182, 0, 112, 162, 0, 52, 42, 29, 182, 0, 127, 28, 27, 154, 0, 10, 42]
abbrev dktX6_allOf_0 : List UInt8 := dkwX6_allOf_0 ++ dktX6_allOf_1
theorem dksX6_allOf_0 : cX6_allOf.data.toList.drop 0 = dktX6_allOf_0 := by decide +kernel
theorem dksX6_allOf_1 : cX6_allOf.data.toList.drop 23 = dktX6_allOf_1 := dk_seg dksX6_allOf_0 23 rfl rfl
theorem dksX6_allOf_2 : cX6_allOf.data.toList.drop 45 = dktX6_allOf_2 := dk_seg dksX6_allOf_1 22 rfl rfl
theorem dX6_allOf_0 : decode cX6_allOf 0 = .ok (.iconst 0, 1) := dk_3 (dk_at dksX6_allOf_0 0 rfl rfl)
theorem dX6_allOf_1 : decode cX6_allOf 1 = .ok (.istore_n 2, 1) := dk_61 (dk_at dksX6_allOf_0 1 rfl rfl)
theorem dX6_allOf_2 : decode cX6_allOf 2 = .ok (.iconst 0, 1) := dk_3 (dk_at dksX6_allOf_0 2 rfl rfl)
theorem dX6_allOf_3 : decode cX6_allOf 3 = .ok (.istore_n 3, 1) := dk_62 (dk_at dksX6_allOf_0 3 rfl rfl)
theorem dX6_allOf_4 : decode cX6_allOf 4 = .ok (.iload_n 3, 1) := dk_29 (dk_at dksX6_allOf_0 4 rfl rfl)
theorem dX6_allOf_5 : decode cX6_allOf 5 = .ok (.aload_n 0, 1) := dk_42 (dk_at dksX6_allOf_0 5 rfl rfl)
theorem dX6_allOf_6 : decode cX6_allOf 6 = .ok (.invokevirtual 112, 3) := dk_182 0 112 (dk_at dksX6_allOf_0 6 rfl rfl)
theorem dX6_allOf_9 : decode cX6_allOf 9 = .ok (.if_icmp .ge 52, 3) := dk_162 0 52 (dk_at dksX6_allOf_0 9 rfl rfl)
theorem dX6_allOf_12 : decode cX6_allOf 12 = .ok (.aload_n 0, 1) := dk_42 (dk_at dksX6_allOf_0 12 rfl rfl)
theorem dX6_allOf_13 : decode cX6_allOf 13 = .ok (.iload_n 3, 1) := dk_29 (dk_at dksX6_allOf_0 13 rfl rfl)
theorem dX6_allOf_14 : decode cX6_allOf 14 = .ok (.invokevirtual 127, 3) := dk_182 0 127 (dk_at dksX6_allOf_0 14 rfl rfl)
theorem dX6_allOf_17 : decode cX6_allOf 17 = .ok (.iload_n 2, 1) := dk_28 (dk_at dksX6_allOf_0 17 rfl rfl)
theorem dX6_allOf_18 : decode cX6_allOf 18 = .ok (.iload_n 1, 1) := dk_27 (dk_at dksX6_allOf_0 18 rfl rfl)
theorem dX6_allOf_19 : decode cX6_allOf 19 = .ok (.ifCond .ne 10, 3) := dk_154 0 10 (dk_at dksX6_allOf_0 19 rfl rfl)
theorem dX6_allOf_22 : decode cX6_allOf 22 = .ok (.aload_n 0, 1) := dk_42 (dk_at dksX6_allOf_0 22 rfl rfl)
theorem dX6_allOf_23 : decode cX6_allOf 23 = .ok (.invokevirtual 131, 3) := dk_182 0 131 (dk_at dksX6_allOf_1 0 rfl rfl)
theorem dX6_allOf_26 : decode cX6_allOf 26 = .ok (.goto 27, 3) := dk_167 0 27 (dk_at dksX6_allOf_1 3 rfl rfl)
theorem dX6_allOf_29 : decode cX6_allOf 29 = .ok (.iload_n 1, 1) := dk_27 (dk_at dksX6_allOf_1 6 rfl rfl)
theorem dX6_allOf_30 : decode cX6_allOf 30 = .ok (.iconst 1, 1) := dk_4 (dk_at dksX6_allOf_1 7 rfl rfl)
theorem dX6_allOf_31 : decode cX6_allOf 31 = .ok (.if_icmp .ne 10, 3) := dk_160 0 10 (dk_at dksX6_allOf_1 8 rfl rfl)
theorem dX6_allOf_34 : decode cX6_allOf 34 = .ok (.aload_n 0, 1) := dk_42 (dk_at dksX6_allOf_1 11 rfl rfl)
theorem dX6_allOf_35 : decode cX6_allOf 35 = .ok (.invokevirtual 134, 3) := dk_182 0 134 (dk_at dksX6_allOf_1 12 rfl rfl)
theorem dX6_allOf_38 : decode cX6_allOf 38 = .ok (.goto 15, 3) := dk_167 0 15 (dk_at dksX6_allOf_1 15 rfl rfl)
theorem dX6_allOf_41 : decode cX6_allOf 41 = .ok (.aload_n 0, 1) := dk_42 (dk_at dksX6_allOf_1 18 rfl rfl)
theorem dX6_allOf_42 : decode cX6_allOf 42 = .ok (.invokevirtual 137, 3) := dk_182 0 137 (dk_at dksX6_allOf_1 19 rfl rfl)
theorem dX6_allOf_45 : decode cX6_allOf 45 = .ok (.ifCond .eq 7, 3) := dk_153 0 7 (dk_at dksX6_allOf_2 0 rfl rfl)
theorem dX6_allOf_48 : decode cX6_allOf 48 = .ok (.iconst 1, 1) := dk_4 (dk_at dksX6_allOf_2 3 rfl rfl)
theorem dX6_allOf_49 : decode cX6_allOf 49 = .ok (.goto 4, 3) := dk_167 0 4 (dk_at dksX6_allOf_2 4 rfl rfl)
theorem dX6_allOf_52 : decode cX6_allOf 52 = .ok (.iconst 0, 1) := dk_3 (dk_at dksX6_allOf_2 7 rfl rfl)
theorem dX6_allOf_53 : decode cX6_allOf 53 = .ok (.iadd, 1) := dk_96 (dk_at dksX6_allOf_2 8 rfl rfl)
theorem dX6_allOf_54 : decode cX6_allOf 54 = .ok (.istore_n 2, 1) := dk_61 (dk_at dksX6_allOf_2 9 rfl rfl)
theorem dX6_allOf_55 : decode cX6_allOf 55 = .ok (.iinc 3 1, 3) := dk_132 3 1 (dk_at dksX6_allOf_2 10 rfl rfl)
theorem dX6_allOf_58 : decode cX6_allOf 58 = .ok (.goto (-54), 3) := dk_167 255 202 (dk_at dksX6_allOf_2 13 rfl rfl)
theorem dX6_allOf_61 : decode cX6_allOf 61 = .ok (.iload_n 2, 1) := dk_28 (dk_at dksX6_allOf_2 16 rfl rfl)
theorem dX6_allOf_62 : decode cX6_allOf 62 = .ok (.ireturn, 1) := dk_172 (dk_at dksX6_allOf_2 17 rfl rfl)
abbrev cX6_undo : ByteArray := prog_24_method_78_code
def yX6_undo : MethodName := ⟨RX6, "undo", "()I"⟩
def dkwX6_undo_3 : List UInt8 := [182, 0, 14, 172]
abbrev dktX6_undo_3 : List UInt8 := dkwX6_undo_3 ++ []
def dkwX6_undo_2 : List UInt8 := [180, 0, 66, 27, 28, 96, 46, 79, 132, 2, 1, 167, 255, 233, 42, 42, 180, 0, 66, 27, 16, 25, 96, 46]
abbrev dktX6_undo_2 : List UInt8 := dkwX6_undo_2 ++ dktX6_undo_3
def dkwX6_undo_1 : List UInt8 := [16, 26, 42, 180, 0, 11, 104, 60, 3, 61, 28, 16, 25, 162, 0, 23, 42, 180, 0, 28, 28, 42]
abbrev dktX6_undo_1 : List UInt8 := dkwX6_undo_1 ++ dktX6_undo_2
def dkwX6_undo_0 : List UInt8 := [42, 180, 0, 11, 154, 0, 10, 42, 16, 253, 182, 0, 106, 172, 42, 89, 180, 0, 11, 4, 100, 181, 0, 11]
abbrev dktX6_undo_0 : List UInt8 := dkwX6_undo_0 ++ dktX6_undo_1
theorem dksX6_undo_0 : cX6_undo.data.toList.drop 0 = dktX6_undo_0 := by decide +kernel
theorem dksX6_undo_1 : cX6_undo.data.toList.drop 24 = dktX6_undo_1 := dk_seg dksX6_undo_0 24 rfl rfl
theorem dksX6_undo_2 : cX6_undo.data.toList.drop 46 = dktX6_undo_2 := dk_seg dksX6_undo_1 22 rfl rfl
theorem dksX6_undo_3 : cX6_undo.data.toList.drop 70 = dktX6_undo_3 := dk_seg dksX6_undo_2 24 rfl rfl
theorem dX6_undo_0 : decode cX6_undo 0 = .ok (.aload_n 0, 1) := dk_42 (dk_at dksX6_undo_0 0 rfl rfl)
theorem dX6_undo_1 : decode cX6_undo 1 = .ok (.getfield 11, 3) := dk_180 0 11 (dk_at dksX6_undo_0 1 rfl rfl)
theorem dX6_undo_4 : decode cX6_undo 4 = .ok (.ifCond .ne 10, 3) := dk_154 0 10 (dk_at dksX6_undo_0 4 rfl rfl)
theorem dX6_undo_7 : decode cX6_undo 7 = .ok (.aload_n 0, 1) := dk_42 (dk_at dksX6_undo_0 7 rfl rfl)
theorem dX6_undo_8 : decode cX6_undo 8 = .ok (.bipush (-3), 2) := dk_16 253 (dk_at dksX6_undo_0 8 rfl rfl)
theorem dX6_undo_10 : decode cX6_undo 10 = .ok (.invokevirtual 106, 3) := dk_182 0 106 (dk_at dksX6_undo_0 10 rfl rfl)
theorem dX6_undo_13 : decode cX6_undo 13 = .ok (.ireturn, 1) := dk_172 (dk_at dksX6_undo_0 13 rfl rfl)
theorem dX6_undo_14 : decode cX6_undo 14 = .ok (.aload_n 0, 1) := dk_42 (dk_at dksX6_undo_0 14 rfl rfl)
theorem dX6_undo_15 : decode cX6_undo 15 = .ok (.dup, 1) := dk_89 (dk_at dksX6_undo_0 15 rfl rfl)
theorem dX6_undo_16 : decode cX6_undo 16 = .ok (.getfield 11, 3) := dk_180 0 11 (dk_at dksX6_undo_0 16 rfl rfl)
theorem dX6_undo_19 : decode cX6_undo 19 = .ok (.iconst 1, 1) := dk_4 (dk_at dksX6_undo_0 19 rfl rfl)
theorem dX6_undo_20 : decode cX6_undo 20 = .ok (.isub, 1) := dk_100 (dk_at dksX6_undo_0 20 rfl rfl)
theorem dX6_undo_21 : decode cX6_undo 21 = .ok (.putfield 11, 3) := dk_181 0 11 (dk_at dksX6_undo_0 21 rfl rfl)
theorem dX6_undo_24 : decode cX6_undo 24 = .ok (.bipush 26, 2) := dk_16 26 (dk_at dksX6_undo_1 0 rfl rfl)
theorem dX6_undo_26 : decode cX6_undo 26 = .ok (.aload_n 0, 1) := dk_42 (dk_at dksX6_undo_1 2 rfl rfl)
theorem dX6_undo_27 : decode cX6_undo 27 = .ok (.getfield 11, 3) := dk_180 0 11 (dk_at dksX6_undo_1 3 rfl rfl)
theorem dX6_undo_30 : decode cX6_undo 30 = .ok (.imul, 1) := dk_104 (dk_at dksX6_undo_1 6 rfl rfl)
theorem dX6_undo_31 : decode cX6_undo 31 = .ok (.istore_n 1, 1) := dk_60 (dk_at dksX6_undo_1 7 rfl rfl)
theorem dX6_undo_32 : decode cX6_undo 32 = .ok (.iconst 0, 1) := dk_3 (dk_at dksX6_undo_1 8 rfl rfl)
theorem dX6_undo_33 : decode cX6_undo 33 = .ok (.istore_n 2, 1) := dk_61 (dk_at dksX6_undo_1 9 rfl rfl)
theorem dX6_undo_34 : decode cX6_undo 34 = .ok (.iload_n 2, 1) := dk_28 (dk_at dksX6_undo_1 10 rfl rfl)
theorem dX6_undo_35 : decode cX6_undo 35 = .ok (.bipush 25, 2) := dk_16 25 (dk_at dksX6_undo_1 11 rfl rfl)
theorem dX6_undo_37 : decode cX6_undo 37 = .ok (.if_icmp .ge 23, 3) := dk_162 0 23 (dk_at dksX6_undo_1 13 rfl rfl)
theorem dX6_undo_40 : decode cX6_undo 40 = .ok (.aload_n 0, 1) := dk_42 (dk_at dksX6_undo_1 16 rfl rfl)
theorem dX6_undo_41 : decode cX6_undo 41 = .ok (.getfield 28, 3) := dk_180 0 28 (dk_at dksX6_undo_1 17 rfl rfl)
theorem dX6_undo_44 : decode cX6_undo 44 = .ok (.iload_n 2, 1) := dk_28 (dk_at dksX6_undo_1 20 rfl rfl)
theorem dX6_undo_45 : decode cX6_undo 45 = .ok (.aload_n 0, 1) := dk_42 (dk_at dksX6_undo_1 21 rfl rfl)
theorem dX6_undo_46 : decode cX6_undo 46 = .ok (.getfield 66, 3) := dk_180 0 66 (dk_at dksX6_undo_2 0 rfl rfl)
theorem dX6_undo_49 : decode cX6_undo 49 = .ok (.iload_n 1, 1) := dk_27 (dk_at dksX6_undo_2 3 rfl rfl)
theorem dX6_undo_50 : decode cX6_undo 50 = .ok (.iload_n 2, 1) := dk_28 (dk_at dksX6_undo_2 4 rfl rfl)
theorem dX6_undo_51 : decode cX6_undo 51 = .ok (.iadd, 1) := dk_96 (dk_at dksX6_undo_2 5 rfl rfl)
theorem dX6_undo_52 : decode cX6_undo 52 = .ok (.iaload, 1) := dk_46 (dk_at dksX6_undo_2 6 rfl rfl)
theorem dX6_undo_53 : decode cX6_undo 53 = .ok (.iastore, 1) := dk_79 (dk_at dksX6_undo_2 7 rfl rfl)
theorem dX6_undo_54 : decode cX6_undo 54 = .ok (.iinc 2 1, 3) := dk_132 2 1 (dk_at dksX6_undo_2 8 rfl rfl)
theorem dX6_undo_57 : decode cX6_undo 57 = .ok (.goto (-23), 3) := dk_167 255 233 (dk_at dksX6_undo_2 11 rfl rfl)
theorem dX6_undo_60 : decode cX6_undo 60 = .ok (.aload_n 0, 1) := dk_42 (dk_at dksX6_undo_2 14 rfl rfl)
theorem dX6_undo_61 : decode cX6_undo 61 = .ok (.aload_n 0, 1) := dk_42 (dk_at dksX6_undo_2 15 rfl rfl)
theorem dX6_undo_62 : decode cX6_undo 62 = .ok (.getfield 66, 3) := dk_180 0 66 (dk_at dksX6_undo_2 16 rfl rfl)
theorem dX6_undo_65 : decode cX6_undo 65 = .ok (.iload_n 1, 1) := dk_27 (dk_at dksX6_undo_2 19 rfl rfl)
theorem dX6_undo_66 : decode cX6_undo 66 = .ok (.bipush 25, 2) := dk_16 25 (dk_at dksX6_undo_2 20 rfl rfl)
theorem dX6_undo_68 : decode cX6_undo 68 = .ok (.iadd, 1) := dk_96 (dk_at dksX6_undo_2 22 rfl rfl)
theorem dX6_undo_69 : decode cX6_undo 69 = .ok (.iaload, 1) := dk_46 (dk_at dksX6_undo_2 23 rfl rfl)
theorem dX6_undo_70 : decode cX6_undo 70 = .ok (.invokevirtual 14, 3) := dk_182 0 14 (dk_at dksX6_undo_3 0 rfl rfl)
theorem dX6_undo_73 : decode cX6_undo 73 = .ok (.ireturn, 1) := dk_172 (dk_at dksX6_undo_3 3 rfl rfl)
abbrev cX6_set : ByteArray := prog_24_method_84_code
def yX6_set : MethodName := ⟨RX6, "set", "(II)I"⟩
def dkwX6_set_0 : List UInt8 := [42, 42, 3, 3, 27, 28, 182, 1, 85, 182, 1, 89, 172]
abbrev dktX6_set_0 : List UInt8 := dkwX6_set_0 ++ []
theorem dksX6_set_0 : cX6_set.data.toList.drop 0 = dktX6_set_0 := by decide +kernel
theorem dX6_set_0 : decode cX6_set 0 = .ok (.aload_n 0, 1) := dk_42 (dk_at dksX6_set_0 0 rfl rfl)
theorem dX6_set_1 : decode cX6_set 1 = .ok (.aload_n 0, 1) := dk_42 (dk_at dksX6_set_0 1 rfl rfl)
theorem dX6_set_2 : decode cX6_set 2 = .ok (.iconst 0, 1) := dk_3 (dk_at dksX6_set_0 2 rfl rfl)
theorem dX6_set_3 : decode cX6_set 3 = .ok (.iconst 0, 1) := dk_3 (dk_at dksX6_set_0 3 rfl rfl)
theorem dX6_set_4 : decode cX6_set 4 = .ok (.iload_n 1, 1) := dk_27 (dk_at dksX6_set_0 4 rfl rfl)
theorem dX6_set_5 : decode cX6_set 5 = .ok (.iload_n 2, 1) := dk_28 (dk_at dksX6_set_0 5 rfl rfl)
theorem dX6_set_6 : decode cX6_set 6 = .ok (.invokevirtual 341, 3) := dk_182 1 85 (dk_at dksX6_set_0 6 rfl rfl)
theorem dX6_set_9 : decode cX6_set 9 = .ok (.invokevirtual 345, 3) := dk_182 1 89 (dk_at dksX6_set_0 9 rfl rfl)
theorem dX6_set_12 : decode cX6_set 12 = .ok (.ireturn, 1) := dk_172 (dk_at dksX6_set_0 12 rfl rfl)
abbrev cX6_movesKept : ByteArray := prog_24_method_80_code
def yX6_movesKept : MethodName := ⟨RX6, "movesKept", "(IIII)I"⟩
def dkwX6_movesKept_2 : List UInt8 := [42, 180, 0, 28, 28, 29, 96, 21, 4, 79, 21, 5, 172]
abbrev dktX6_movesKept_2 : List UInt8 := dkwX6_movesKept_2 ++ []
def dkwX6_movesKept_1 : List UInt8 := [180, 0, 28, 28, 29, 96, 46, 54, 5, 21, 5, 21, 4, 160, 0, 6, 16, 253, 172, 42, 27, 182, 1, 79]
abbrev dktX6_movesKept_1 : List UInt8 := dkwX6_movesKept_1 ++ dktX6_movesKept_2
def dkwX6_movesKept_0 : List UInt8 := [21, 4, 184, 0, 116, 154, 0, 5, 2, 172, 42, 29, 182, 0, 124, 154, 0, 6, 16, 254, 172, 42]
abbrev dktX6_movesKept_0 : List UInt8 := dkwX6_movesKept_0 ++ dktX6_movesKept_1
theorem dksX6_movesKept_0 : cX6_movesKept.data.toList.drop 0 = dktX6_movesKept_0 := by decide +kernel
theorem dksX6_movesKept_1 : cX6_movesKept.data.toList.drop 22 = dktX6_movesKept_1 := dk_seg dksX6_movesKept_0 22 rfl rfl
theorem dksX6_movesKept_2 : cX6_movesKept.data.toList.drop 46 = dktX6_movesKept_2 := dk_seg dksX6_movesKept_1 24 rfl rfl
theorem dX6_movesKept_0 : decode cX6_movesKept 0 = .ok (.iload 4, 2) := dk_21 4 (dk_at dksX6_movesKept_0 0 rfl rfl)
theorem dX6_movesKept_2 : decode cX6_movesKept 2 = .ok (.invokestatic 116, 3) := dk_184 0 116 (dk_at dksX6_movesKept_0 2 rfl rfl)
theorem dX6_movesKept_5 : decode cX6_movesKept 5 = .ok (.ifCond .ne 5, 3) := dk_154 0 5 (dk_at dksX6_movesKept_0 5 rfl rfl)
theorem dX6_movesKept_8 : decode cX6_movesKept 8 = .ok (.iconst (-1), 1) := dk_2 (dk_at dksX6_movesKept_0 8 rfl rfl)
theorem dX6_movesKept_9 : decode cX6_movesKept 9 = .ok (.ireturn, 1) := dk_172 (dk_at dksX6_movesKept_0 9 rfl rfl)
theorem dX6_movesKept_10 : decode cX6_movesKept 10 = .ok (.aload_n 0, 1) := dk_42 (dk_at dksX6_movesKept_0 10 rfl rfl)
theorem dX6_movesKept_11 : decode cX6_movesKept 11 = .ok (.iload_n 3, 1) := dk_29 (dk_at dksX6_movesKept_0 11 rfl rfl)
theorem dX6_movesKept_12 : decode cX6_movesKept 12 = .ok (.invokevirtual 124, 3) := dk_182 0 124 (dk_at dksX6_movesKept_0 12 rfl rfl)
theorem dX6_movesKept_15 : decode cX6_movesKept 15 = .ok (.ifCond .ne 6, 3) := dk_154 0 6 (dk_at dksX6_movesKept_0 15 rfl rfl)
theorem dX6_movesKept_18 : decode cX6_movesKept 18 = .ok (.bipush (-2), 2) := dk_16 254 (dk_at dksX6_movesKept_0 18 rfl rfl)
theorem dX6_movesKept_20 : decode cX6_movesKept 20 = .ok (.ireturn, 1) := dk_172 (dk_at dksX6_movesKept_0 20 rfl rfl)
theorem dX6_movesKept_21 : decode cX6_movesKept 21 = .ok (.aload_n 0, 1) := dk_42 (dk_at dksX6_movesKept_0 21 rfl rfl)
theorem dX6_movesKept_22 : decode cX6_movesKept 22 = .ok (.getfield 28, 3) := dk_180 0 28 (dk_at dksX6_movesKept_1 0 rfl rfl)
theorem dX6_movesKept_25 : decode cX6_movesKept 25 = .ok (.iload_n 2, 1) := dk_28 (dk_at dksX6_movesKept_1 3 rfl rfl)
theorem dX6_movesKept_26 : decode cX6_movesKept 26 = .ok (.iload_n 3, 1) := dk_29 (dk_at dksX6_movesKept_1 4 rfl rfl)
theorem dX6_movesKept_27 : decode cX6_movesKept 27 = .ok (.iadd, 1) := dk_96 (dk_at dksX6_movesKept_1 5 rfl rfl)
theorem dX6_movesKept_28 : decode cX6_movesKept 28 = .ok (.iaload, 1) := dk_46 (dk_at dksX6_movesKept_1 6 rfl rfl)
theorem dX6_movesKept_29 : decode cX6_movesKept 29 = .ok (.istore 5, 2) := dk_54 5 (dk_at dksX6_movesKept_1 7 rfl rfl)
theorem dX6_movesKept_31 : decode cX6_movesKept 31 = .ok (.iload 5, 2) := dk_21 5 (dk_at dksX6_movesKept_1 9 rfl rfl)
theorem dX6_movesKept_33 : decode cX6_movesKept 33 = .ok (.iload 4, 2) := dk_21 4 (dk_at dksX6_movesKept_1 11 rfl rfl)
theorem dX6_movesKept_35 : decode cX6_movesKept 35 = .ok (.if_icmp .ne 6, 3) := dk_160 0 6 (dk_at dksX6_movesKept_1 13 rfl rfl)
theorem dX6_movesKept_38 : decode cX6_movesKept 38 = .ok (.bipush (-3), 2) := dk_16 253 (dk_at dksX6_movesKept_1 16 rfl rfl)
theorem dX6_movesKept_40 : decode cX6_movesKept 40 = .ok (.ireturn, 1) := dk_172 (dk_at dksX6_movesKept_1 18 rfl rfl)
theorem dX6_movesKept_41 : decode cX6_movesKept 41 = .ok (.aload_n 0, 1) := dk_42 (dk_at dksX6_movesKept_1 19 rfl rfl)
theorem dX6_movesKept_42 : decode cX6_movesKept 42 = .ok (.iload_n 1, 1) := dk_27 (dk_at dksX6_movesKept_1 20 rfl rfl)
theorem dX6_movesKept_43 : decode cX6_movesKept 43 = .ok (.invokevirtual 335, 3) := dk_182 1 79 (dk_at dksX6_movesKept_1 21 rfl rfl)
theorem dX6_movesKept_46 : decode cX6_movesKept 46 = .ok (.aload_n 0, 1) := dk_42 (dk_at dksX6_movesKept_2 0 rfl rfl)
theorem dX6_movesKept_47 : decode cX6_movesKept 47 = .ok (.getfield 28, 3) := dk_180 0 28 (dk_at dksX6_movesKept_2 1 rfl rfl)
theorem dX6_movesKept_50 : decode cX6_movesKept 50 = .ok (.iload_n 2, 1) := dk_28 (dk_at dksX6_movesKept_2 4 rfl rfl)
theorem dX6_movesKept_51 : decode cX6_movesKept 51 = .ok (.iload_n 3, 1) := dk_29 (dk_at dksX6_movesKept_2 5 rfl rfl)
theorem dX6_movesKept_52 : decode cX6_movesKept 52 = .ok (.iadd, 1) := dk_96 (dk_at dksX6_movesKept_2 6 rfl rfl)
theorem dX6_movesKept_53 : decode cX6_movesKept 53 = .ok (.iload 4, 2) := dk_21 4 (dk_at dksX6_movesKept_2 7 rfl rfl)
theorem dX6_movesKept_55 : decode cX6_movesKept 55 = .ok (.iastore, 1) := dk_79 (dk_at dksX6_movesKept_2 9 rfl rfl)
theorem dX6_movesKept_56 : decode cX6_movesKept 56 = .ok (.iload 5, 2) := dk_21 5 (dk_at dksX6_movesKept_2 10 rfl rfl)
theorem dX6_movesKept_58 : decode cX6_movesKept 58 = .ok (.ireturn, 1) := dk_172 (dk_at dksX6_movesKept_2 12 rfl rfl)
abbrev cX6_keeps : ByteArray := prog_24_method_77_code
def yX6_keeps : MethodName := ⟨RX6, "keeps", "(I)V"⟩
def dkwX6_keeps_4 : List UInt8 := [16, 25, 96, 27, 79, 42, 89, 180, 0, 11, 4, 96, 181, 0, 11, 177]
abbrev dktX6_keeps_4 : List UInt8 := dkwX6_keeps_4 ++ []
def dkwX6_keeps_3 : List UInt8 := [96, 42, 180, 0, 28, 29, 46, 79, 132, 3, 1, 167, 255, 228, 42, 180, 0, 66, 28, 42, 180, 0, 11, 104]
abbrev dktX6_keeps_3 : List UInt8 := dkwX6_keeps_3 ++ dktX6_keeps_4
def dkwX6_keeps_2 : List UInt8 := [4, 100, 181, 0, 11, 3, 62, 29, 16, 25, 162, 0, 28, 42, 180, 0, 66, 28, 42, 180, 0, 11, 104, 29]
abbrev dktX6_keeps_2 : List UInt8 := dkwX6_keeps_2 ++ dktX6_keeps_3
def dkwX6_keeps_1 : List UInt8 := [180, 0, 66, 29, 42, 180, 0, 66, 29, 28, 96, 46, 79, 132, 3, 1, 167, 255, 231, 42, 89, 180, 0, 11]
abbrev dktX6_keeps_1 : List UInt8 := dkwX6_keeps_1 ++ dktX6_keeps_2
def dkwX6_keeps_0 : List UInt8 := [16, 26, 61, 42, 180, 0, 11, 16, 16, 160, 0, 43, 3, 62, 29, 16, 15, 28, 104, 162, 0, 23, 42]
abbrev dktX6_keeps_0 : List UInt8 := dkwX6_keeps_0 ++ dktX6_keeps_1
theorem dksX6_keeps_0 : cX6_keeps.data.toList.drop 0 = dktX6_keeps_0 := by decide +kernel
theorem dksX6_keeps_1 : cX6_keeps.data.toList.drop 23 = dktX6_keeps_1 := dk_seg dksX6_keeps_0 23 rfl rfl
theorem dksX6_keeps_2 : cX6_keeps.data.toList.drop 47 = dktX6_keeps_2 := dk_seg dksX6_keeps_1 24 rfl rfl
theorem dksX6_keeps_3 : cX6_keeps.data.toList.drop 71 = dktX6_keeps_3 := dk_seg dksX6_keeps_2 24 rfl rfl
theorem dksX6_keeps_4 : cX6_keeps.data.toList.drop 95 = dktX6_keeps_4 := dk_seg dksX6_keeps_3 24 rfl rfl
theorem dX6_keeps_0 : decode cX6_keeps 0 = .ok (.bipush 26, 2) := dk_16 26 (dk_at dksX6_keeps_0 0 rfl rfl)
theorem dX6_keeps_2 : decode cX6_keeps 2 = .ok (.istore_n 2, 1) := dk_61 (dk_at dksX6_keeps_0 2 rfl rfl)
theorem dX6_keeps_3 : decode cX6_keeps 3 = .ok (.aload_n 0, 1) := dk_42 (dk_at dksX6_keeps_0 3 rfl rfl)
theorem dX6_keeps_4 : decode cX6_keeps 4 = .ok (.getfield 11, 3) := dk_180 0 11 (dk_at dksX6_keeps_0 4 rfl rfl)
theorem dX6_keeps_7 : decode cX6_keeps 7 = .ok (.bipush 16, 2) := dk_16 16 (dk_at dksX6_keeps_0 7 rfl rfl)
theorem dX6_keeps_9 : decode cX6_keeps 9 = .ok (.if_icmp .ne 43, 3) := dk_160 0 43 (dk_at dksX6_keeps_0 9 rfl rfl)
theorem dX6_keeps_12 : decode cX6_keeps 12 = .ok (.iconst 0, 1) := dk_3 (dk_at dksX6_keeps_0 12 rfl rfl)
theorem dX6_keeps_13 : decode cX6_keeps 13 = .ok (.istore_n 3, 1) := dk_62 (dk_at dksX6_keeps_0 13 rfl rfl)
theorem dX6_keeps_14 : decode cX6_keeps 14 = .ok (.iload_n 3, 1) := dk_29 (dk_at dksX6_keeps_0 14 rfl rfl)
theorem dX6_keeps_15 : decode cX6_keeps 15 = .ok (.bipush 15, 2) := dk_16 15 (dk_at dksX6_keeps_0 15 rfl rfl)
theorem dX6_keeps_17 : decode cX6_keeps 17 = .ok (.iload_n 2, 1) := dk_28 (dk_at dksX6_keeps_0 17 rfl rfl)
theorem dX6_keeps_18 : decode cX6_keeps 18 = .ok (.imul, 1) := dk_104 (dk_at dksX6_keeps_0 18 rfl rfl)
theorem dX6_keeps_19 : decode cX6_keeps 19 = .ok (.if_icmp .ge 23, 3) := dk_162 0 23 (dk_at dksX6_keeps_0 19 rfl rfl)
theorem dX6_keeps_22 : decode cX6_keeps 22 = .ok (.aload_n 0, 1) := dk_42 (dk_at dksX6_keeps_0 22 rfl rfl)
theorem dX6_keeps_23 : decode cX6_keeps 23 = .ok (.getfield 66, 3) := dk_180 0 66 (dk_at dksX6_keeps_1 0 rfl rfl)
theorem dX6_keeps_26 : decode cX6_keeps 26 = .ok (.iload_n 3, 1) := dk_29 (dk_at dksX6_keeps_1 3 rfl rfl)
theorem dX6_keeps_27 : decode cX6_keeps 27 = .ok (.aload_n 0, 1) := dk_42 (dk_at dksX6_keeps_1 4 rfl rfl)
theorem dX6_keeps_28 : decode cX6_keeps 28 = .ok (.getfield 66, 3) := dk_180 0 66 (dk_at dksX6_keeps_1 5 rfl rfl)
theorem dX6_keeps_31 : decode cX6_keeps 31 = .ok (.iload_n 3, 1) := dk_29 (dk_at dksX6_keeps_1 8 rfl rfl)
theorem dX6_keeps_32 : decode cX6_keeps 32 = .ok (.iload_n 2, 1) := dk_28 (dk_at dksX6_keeps_1 9 rfl rfl)
theorem dX6_keeps_33 : decode cX6_keeps 33 = .ok (.iadd, 1) := dk_96 (dk_at dksX6_keeps_1 10 rfl rfl)
theorem dX6_keeps_34 : decode cX6_keeps 34 = .ok (.iaload, 1) := dk_46 (dk_at dksX6_keeps_1 11 rfl rfl)
theorem dX6_keeps_35 : decode cX6_keeps 35 = .ok (.iastore, 1) := dk_79 (dk_at dksX6_keeps_1 12 rfl rfl)
theorem dX6_keeps_36 : decode cX6_keeps 36 = .ok (.iinc 3 1, 3) := dk_132 3 1 (dk_at dksX6_keeps_1 13 rfl rfl)
theorem dX6_keeps_39 : decode cX6_keeps 39 = .ok (.goto (-25), 3) := dk_167 255 231 (dk_at dksX6_keeps_1 16 rfl rfl)
theorem dX6_keeps_42 : decode cX6_keeps 42 = .ok (.aload_n 0, 1) := dk_42 (dk_at dksX6_keeps_1 19 rfl rfl)
theorem dX6_keeps_43 : decode cX6_keeps 43 = .ok (.dup, 1) := dk_89 (dk_at dksX6_keeps_1 20 rfl rfl)
theorem dX6_keeps_44 : decode cX6_keeps 44 = .ok (.getfield 11, 3) := dk_180 0 11 (dk_at dksX6_keeps_1 21 rfl rfl)
theorem dX6_keeps_47 : decode cX6_keeps 47 = .ok (.iconst 1, 1) := dk_4 (dk_at dksX6_keeps_2 0 rfl rfl)
theorem dX6_keeps_48 : decode cX6_keeps 48 = .ok (.isub, 1) := dk_100 (dk_at dksX6_keeps_2 1 rfl rfl)
theorem dX6_keeps_49 : decode cX6_keeps 49 = .ok (.putfield 11, 3) := dk_181 0 11 (dk_at dksX6_keeps_2 2 rfl rfl)
theorem dX6_keeps_52 : decode cX6_keeps 52 = .ok (.iconst 0, 1) := dk_3 (dk_at dksX6_keeps_2 5 rfl rfl)
theorem dX6_keeps_53 : decode cX6_keeps 53 = .ok (.istore_n 3, 1) := dk_62 (dk_at dksX6_keeps_2 6 rfl rfl)
theorem dX6_keeps_54 : decode cX6_keeps 54 = .ok (.iload_n 3, 1) := dk_29 (dk_at dksX6_keeps_2 7 rfl rfl)
theorem dX6_keeps_55 : decode cX6_keeps 55 = .ok (.bipush 25, 2) := dk_16 25 (dk_at dksX6_keeps_2 8 rfl rfl)
theorem dX6_keeps_57 : decode cX6_keeps 57 = .ok (.if_icmp .ge 28, 3) := dk_162 0 28 (dk_at dksX6_keeps_2 10 rfl rfl)
theorem dX6_keeps_60 : decode cX6_keeps 60 = .ok (.aload_n 0, 1) := dk_42 (dk_at dksX6_keeps_2 13 rfl rfl)
theorem dX6_keeps_61 : decode cX6_keeps 61 = .ok (.getfield 66, 3) := dk_180 0 66 (dk_at dksX6_keeps_2 14 rfl rfl)
theorem dX6_keeps_64 : decode cX6_keeps 64 = .ok (.iload_n 2, 1) := dk_28 (dk_at dksX6_keeps_2 17 rfl rfl)
theorem dX6_keeps_65 : decode cX6_keeps 65 = .ok (.aload_n 0, 1) := dk_42 (dk_at dksX6_keeps_2 18 rfl rfl)
theorem dX6_keeps_66 : decode cX6_keeps 66 = .ok (.getfield 11, 3) := dk_180 0 11 (dk_at dksX6_keeps_2 19 rfl rfl)
theorem dX6_keeps_69 : decode cX6_keeps 69 = .ok (.imul, 1) := dk_104 (dk_at dksX6_keeps_2 22 rfl rfl)
theorem dX6_keeps_70 : decode cX6_keeps 70 = .ok (.iload_n 3, 1) := dk_29 (dk_at dksX6_keeps_2 23 rfl rfl)
theorem dX6_keeps_71 : decode cX6_keeps 71 = .ok (.iadd, 1) := dk_96 (dk_at dksX6_keeps_3 0 rfl rfl)
theorem dX6_keeps_72 : decode cX6_keeps 72 = .ok (.aload_n 0, 1) := dk_42 (dk_at dksX6_keeps_3 1 rfl rfl)
theorem dX6_keeps_73 : decode cX6_keeps 73 = .ok (.getfield 28, 3) := dk_180 0 28 (dk_at dksX6_keeps_3 2 rfl rfl)
theorem dX6_keeps_76 : decode cX6_keeps 76 = .ok (.iload_n 3, 1) := dk_29 (dk_at dksX6_keeps_3 5 rfl rfl)
theorem dX6_keeps_77 : decode cX6_keeps 77 = .ok (.iaload, 1) := dk_46 (dk_at dksX6_keeps_3 6 rfl rfl)
theorem dX6_keeps_78 : decode cX6_keeps 78 = .ok (.iastore, 1) := dk_79 (dk_at dksX6_keeps_3 7 rfl rfl)
theorem dX6_keeps_79 : decode cX6_keeps 79 = .ok (.iinc 3 1, 3) := dk_132 3 1 (dk_at dksX6_keeps_3 8 rfl rfl)
theorem dX6_keeps_82 : decode cX6_keeps 82 = .ok (.goto (-28), 3) := dk_167 255 228 (dk_at dksX6_keeps_3 11 rfl rfl)
theorem dX6_keeps_85 : decode cX6_keeps 85 = .ok (.aload_n 0, 1) := dk_42 (dk_at dksX6_keeps_3 14 rfl rfl)
theorem dX6_keeps_86 : decode cX6_keeps 86 = .ok (.getfield 66, 3) := dk_180 0 66 (dk_at dksX6_keeps_3 15 rfl rfl)
theorem dX6_keeps_89 : decode cX6_keeps 89 = .ok (.iload_n 2, 1) := dk_28 (dk_at dksX6_keeps_3 18 rfl rfl)
theorem dX6_keeps_90 : decode cX6_keeps 90 = .ok (.aload_n 0, 1) := dk_42 (dk_at dksX6_keeps_3 19 rfl rfl)
theorem dX6_keeps_91 : decode cX6_keeps 91 = .ok (.getfield 11, 3) := dk_180 0 11 (dk_at dksX6_keeps_3 20 rfl rfl)
theorem dX6_keeps_94 : decode cX6_keeps 94 = .ok (.imul, 1) := dk_104 (dk_at dksX6_keeps_3 23 rfl rfl)
theorem dX6_keeps_95 : decode cX6_keeps 95 = .ok (.bipush 25, 2) := dk_16 25 (dk_at dksX6_keeps_4 0 rfl rfl)
theorem dX6_keeps_97 : decode cX6_keeps 97 = .ok (.iadd, 1) := dk_96 (dk_at dksX6_keeps_4 2 rfl rfl)
theorem dX6_keeps_98 : decode cX6_keeps 98 = .ok (.iload_n 1, 1) := dk_27 (dk_at dksX6_keeps_4 3 rfl rfl)
theorem dX6_keeps_99 : decode cX6_keeps 99 = .ok (.iastore, 1) := dk_79 (dk_at dksX6_keeps_4 4 rfl rfl)
theorem dX6_keeps_100 : decode cX6_keeps 100 = .ok (.aload_n 0, 1) := dk_42 (dk_at dksX6_keeps_4 5 rfl rfl)
theorem dX6_keeps_101 : decode cX6_keeps 101 = .ok (.dup, 1) := dk_89 (dk_at dksX6_keeps_4 6 rfl rfl)
theorem dX6_keeps_102 : decode cX6_keeps 102 = .ok (.getfield 11, 3) := dk_180 0 11 (dk_at dksX6_keeps_4 7 rfl rfl)
theorem dX6_keeps_105 : decode cX6_keeps 105 = .ok (.iconst 1, 1) := dk_4 (dk_at dksX6_keeps_4 10 rfl rfl)
theorem dX6_keeps_106 : decode cX6_keeps 106 = .ok (.iadd, 1) := dk_96 (dk_at dksX6_keeps_4 11 rfl rfl)
theorem dX6_keeps_107 : decode cX6_keeps 107 = .ok (.putfield 11, 3) := dk_181 0 11 (dk_at dksX6_keeps_4 12 rfl rfl)
theorem dX6_keeps_110 : decode cX6_keeps 110 = .ok (.return_, 1) := dk_177 (dk_at dksX6_keeps_4 15 rfl rfl)
abbrev cX6_goodOr : ByteArray := prog_24_method_79_code
def yX6_goodOr : MethodName := ⟨RX6, "goodOr", "(I)I"⟩
def dkwX6_goodOr_0 : List UInt8 := [27, 156, 0, 11, 42, 27, 182, 0, 106, 167, 0, 8, 42, 27, 182, 0, 14, 172]
abbrev dktX6_goodOr_0 : List UInt8 := dkwX6_goodOr_0 ++ []
theorem dksX6_goodOr_0 : cX6_goodOr.data.toList.drop 0 = dktX6_goodOr_0 := by decide +kernel
theorem dX6_goodOr_0 : decode cX6_goodOr 0 = .ok (.iload_n 1, 1) := dk_27 (dk_at dksX6_goodOr_0 0 rfl rfl)
theorem dX6_goodOr_1 : decode cX6_goodOr 1 = .ok (.ifCond .ge 11, 3) := dk_156 0 11 (dk_at dksX6_goodOr_0 1 rfl rfl)
theorem dX6_goodOr_4 : decode cX6_goodOr 4 = .ok (.aload_n 0, 1) := dk_42 (dk_at dksX6_goodOr_0 4 rfl rfl)
theorem dX6_goodOr_5 : decode cX6_goodOr 5 = .ok (.iload_n 1, 1) := dk_27 (dk_at dksX6_goodOr_0 5 rfl rfl)
theorem dX6_goodOr_6 : decode cX6_goodOr 6 = .ok (.invokevirtual 106, 3) := dk_182 0 106 (dk_at dksX6_goodOr_0 6 rfl rfl)
theorem dX6_goodOr_9 : decode cX6_goodOr 9 = .ok (.goto 8, 3) := dk_167 0 8 (dk_at dksX6_goodOr_0 9 rfl rfl)
theorem dX6_goodOr_12 : decode cX6_goodOr 12 = .ok (.aload_n 0, 1) := dk_42 (dk_at dksX6_goodOr_0 12 rfl rfl)
theorem dX6_goodOr_13 : decode cX6_goodOr 13 = .ok (.iload_n 1, 1) := dk_27 (dk_at dksX6_goodOr_0 13 rfl rfl)
theorem dX6_goodOr_14 : decode cX6_goodOr 14 = .ok (.invokevirtual 14, 3) := dk_182 0 14 (dk_at dksX6_goodOr_0 14 rfl rfl)
theorem dX6_goodOr_17 : decode cX6_goodOr 17 = .ok (.ireturn, 1) := dk_172 (dk_at dksX6_goodOr_0 17 rfl rfl)
abbrev cX6_shift : ByteArray := prog_24_method_85_code
def yX6_shift : MethodName := ⟨RX6, "shift", "(II)I"⟩
def dkwX6_shift_0 : List UInt8 := [42, 42, 4, 16, 12, 27, 28, 182, 1, 85, 182, 1, 89, 172]
abbrev dktX6_shift_0 : List UInt8 := dkwX6_shift_0 ++ []
theorem dksX6_shift_0 : cX6_shift.data.toList.drop 0 = dktX6_shift_0 := by decide +kernel
theorem dX6_shift_0 : decode cX6_shift 0 = .ok (.aload_n 0, 1) := dk_42 (dk_at dksX6_shift_0 0 rfl rfl)
theorem dX6_shift_1 : decode cX6_shift 1 = .ok (.aload_n 0, 1) := dk_42 (dk_at dksX6_shift_0 1 rfl rfl)
theorem dX6_shift_2 : decode cX6_shift 2 = .ok (.iconst 1, 1) := dk_4 (dk_at dksX6_shift_0 2 rfl rfl)
theorem dX6_shift_3 : decode cX6_shift 3 = .ok (.bipush 12, 2) := dk_16 12 (dk_at dksX6_shift_0 3 rfl rfl)
theorem dX6_shift_5 : decode cX6_shift 5 = .ok (.iload_n 1, 1) := dk_27 (dk_at dksX6_shift_0 5 rfl rfl)
theorem dX6_shift_6 : decode cX6_shift 6 = .ok (.iload_n 2, 1) := dk_28 (dk_at dksX6_shift_0 6 rfl rfl)
theorem dX6_shift_7 : decode cX6_shift 7 = .ok (.invokevirtual 341, 3) := dk_182 1 85 (dk_at dksX6_shift_0 7 rfl rfl)
theorem dX6_shift_10 : decode cX6_shift 10 = .ok (.invokevirtual 345, 3) := dk_182 1 89 (dk_at dksX6_shift_0 10 rfl rfl)
theorem dX6_shift_13 : decode cX6_shift 13 = .ok (.ireturn, 1) := dk_172 (dk_at dksX6_shift_0 13 rfl rfl)
abbrev cX6_swap : ByteArray := prog_24_method_86_code
def yX6_swap : MethodName := ⟨RX6, "swap", "()I"⟩
def dkwX6_swap_0 : List UInt8 := [42, 42, 182, 1, 92, 182, 1, 89, 172]
abbrev dktX6_swap_0 : List UInt8 := dkwX6_swap_0 ++ []
theorem dksX6_swap_0 : cX6_swap.data.toList.drop 0 = dktX6_swap_0 := by decide +kernel
theorem dX6_swap_0 : decode cX6_swap 0 = .ok (.aload_n 0, 1) := dk_42 (dk_at dksX6_swap_0 0 rfl rfl)
theorem dX6_swap_1 : decode cX6_swap 1 = .ok (.aload_n 0, 1) := dk_42 (dk_at dksX6_swap_0 1 rfl rfl)
theorem dX6_swap_2 : decode cX6_swap 2 = .ok (.invokevirtual 348, 3) := dk_182 1 92 (dk_at dksX6_swap_0 2 rfl rfl)
theorem dX6_swap_5 : decode cX6_swap 5 = .ok (.invokevirtual 345, 3) := dk_182 1 89 (dk_at dksX6_swap_0 5 rfl rfl)
theorem dX6_swap_8 : decode cX6_swap 8 = .ok (.ireturn, 1) := dk_172 (dk_at dksX6_swap_0 8 rfl rfl)
abbrev cX6_swapsKept : ByteArray := prog_24_method_82_code
def yX6_swapsKept : MethodName := ⟨RX6, "swapsKept", "()I"⟩
def dkwX6_swapsKept_0 : List UInt8 := [42, 182, 0, 112, 154, 0, 6, 16, 253, 172, 42, 5, 182, 1, 79, 42, 182, 1, 82, 42, 182, 0, 112, 172]
abbrev dktX6_swapsKept_0 : List UInt8 := dkwX6_swapsKept_0 ++ []
theorem dksX6_swapsKept_0 : cX6_swapsKept.data.toList.drop 0 = dktX6_swapsKept_0 := by decide +kernel
theorem dX6_swapsKept_0 : decode cX6_swapsKept 0 = .ok (.aload_n 0, 1) := dk_42 (dk_at dksX6_swapsKept_0 0 rfl rfl)
theorem dX6_swapsKept_1 : decode cX6_swapsKept 1 = .ok (.invokevirtual 112, 3) := dk_182 0 112 (dk_at dksX6_swapsKept_0 1 rfl rfl)
theorem dX6_swapsKept_4 : decode cX6_swapsKept 4 = .ok (.ifCond .ne 6, 3) := dk_154 0 6 (dk_at dksX6_swapsKept_0 4 rfl rfl)
theorem dX6_swapsKept_7 : decode cX6_swapsKept 7 = .ok (.bipush (-3), 2) := dk_16 253 (dk_at dksX6_swapsKept_0 7 rfl rfl)
theorem dX6_swapsKept_9 : decode cX6_swapsKept 9 = .ok (.ireturn, 1) := dk_172 (dk_at dksX6_swapsKept_0 9 rfl rfl)
theorem dX6_swapsKept_10 : decode cX6_swapsKept 10 = .ok (.aload_n 0, 1) := dk_42 (dk_at dksX6_swapsKept_0 10 rfl rfl)
theorem dX6_swapsKept_11 : decode cX6_swapsKept 11 = .ok (.iconst 2, 1) := dk_5 (dk_at dksX6_swapsKept_0 11 rfl rfl)
theorem dX6_swapsKept_12 : decode cX6_swapsKept 12 = .ok (.invokevirtual 335, 3) := dk_182 1 79 (dk_at dksX6_swapsKept_0 12 rfl rfl)
theorem dX6_swapsKept_15 : decode cX6_swapsKept 15 = .ok (.aload_n 0, 1) := dk_42 (dk_at dksX6_swapsKept_0 15 rfl rfl)
theorem dX6_swapsKept_16 : decode cX6_swapsKept 16 = .ok (.invokevirtual 338, 3) := dk_182 1 82 (dk_at dksX6_swapsKept_0 16 rfl rfl)
theorem dX6_swapsKept_19 : decode cX6_swapsKept 19 = .ok (.aload_n 0, 1) := dk_42 (dk_at dksX6_swapsKept_0 19 rfl rfl)
theorem dX6_swapsKept_20 : decode cX6_swapsKept 20 = .ok (.invokevirtual 112, 3) := dk_182 0 112 (dk_at dksX6_swapsKept_0 20 rfl rfl)
theorem dX6_swapsKept_23 : decode cX6_swapsKept 23 = .ok (.ireturn, 1) := dk_172 (dk_at dksX6_swapsKept_0 23 rfl rfl)
abbrev cX6_exchanges : ByteArray := prog_24_method_81_code
def yX6_exchanges : MethodName := ⟨RX6, "exchanges", "()V"⟩
def dkwX6_exchanges_2 : List UInt8 := [132, 1, 1, 167, 255, 209, 177]
abbrev dktX6_exchanges_2 : List UInt8 := dkwX6_exchanges_2 ++ []
def dkwX6_exchanges_1 : List UInt8 := [27, 96, 42, 180, 0, 28, 16, 12, 27, 96, 46, 79, 42, 180, 0, 28, 16, 12, 27, 96, 28, 79]
abbrev dktX6_exchanges_1 : List UInt8 := dkwX6_exchanges_1 ++ dktX6_exchanges_2
def dkwX6_exchanges_0 : List UInt8 := [3, 60, 27, 42, 182, 0, 112, 162, 0, 45, 42, 180, 0, 28, 3, 27, 96, 46, 61, 42, 180, 0, 28, 3]
abbrev dktX6_exchanges_0 : List UInt8 := dkwX6_exchanges_0 ++ dktX6_exchanges_1
theorem dksX6_exchanges_0 : cX6_exchanges.data.toList.drop 0 = dktX6_exchanges_0 := by decide +kernel
theorem dksX6_exchanges_1 : cX6_exchanges.data.toList.drop 24 = dktX6_exchanges_1 := dk_seg dksX6_exchanges_0 24 rfl rfl
theorem dksX6_exchanges_2 : cX6_exchanges.data.toList.drop 46 = dktX6_exchanges_2 := dk_seg dksX6_exchanges_1 22 rfl rfl
theorem dX6_exchanges_0 : decode cX6_exchanges 0 = .ok (.iconst 0, 1) := dk_3 (dk_at dksX6_exchanges_0 0 rfl rfl)
theorem dX6_exchanges_1 : decode cX6_exchanges 1 = .ok (.istore_n 1, 1) := dk_60 (dk_at dksX6_exchanges_0 1 rfl rfl)
theorem dX6_exchanges_2 : decode cX6_exchanges 2 = .ok (.iload_n 1, 1) := dk_27 (dk_at dksX6_exchanges_0 2 rfl rfl)
theorem dX6_exchanges_3 : decode cX6_exchanges 3 = .ok (.aload_n 0, 1) := dk_42 (dk_at dksX6_exchanges_0 3 rfl rfl)
theorem dX6_exchanges_4 : decode cX6_exchanges 4 = .ok (.invokevirtual 112, 3) := dk_182 0 112 (dk_at dksX6_exchanges_0 4 rfl rfl)
theorem dX6_exchanges_7 : decode cX6_exchanges 7 = .ok (.if_icmp .ge 45, 3) := dk_162 0 45 (dk_at dksX6_exchanges_0 7 rfl rfl)
theorem dX6_exchanges_10 : decode cX6_exchanges 10 = .ok (.aload_n 0, 1) := dk_42 (dk_at dksX6_exchanges_0 10 rfl rfl)
theorem dX6_exchanges_11 : decode cX6_exchanges 11 = .ok (.getfield 28, 3) := dk_180 0 28 (dk_at dksX6_exchanges_0 11 rfl rfl)
theorem dX6_exchanges_14 : decode cX6_exchanges 14 = .ok (.iconst 0, 1) := dk_3 (dk_at dksX6_exchanges_0 14 rfl rfl)
theorem dX6_exchanges_15 : decode cX6_exchanges 15 = .ok (.iload_n 1, 1) := dk_27 (dk_at dksX6_exchanges_0 15 rfl rfl)
theorem dX6_exchanges_16 : decode cX6_exchanges 16 = .ok (.iadd, 1) := dk_96 (dk_at dksX6_exchanges_0 16 rfl rfl)
theorem dX6_exchanges_17 : decode cX6_exchanges 17 = .ok (.iaload, 1) := dk_46 (dk_at dksX6_exchanges_0 17 rfl rfl)
theorem dX6_exchanges_18 : decode cX6_exchanges 18 = .ok (.istore_n 2, 1) := dk_61 (dk_at dksX6_exchanges_0 18 rfl rfl)
theorem dX6_exchanges_19 : decode cX6_exchanges 19 = .ok (.aload_n 0, 1) := dk_42 (dk_at dksX6_exchanges_0 19 rfl rfl)
theorem dX6_exchanges_20 : decode cX6_exchanges 20 = .ok (.getfield 28, 3) := dk_180 0 28 (dk_at dksX6_exchanges_0 20 rfl rfl)
theorem dX6_exchanges_23 : decode cX6_exchanges 23 = .ok (.iconst 0, 1) := dk_3 (dk_at dksX6_exchanges_0 23 rfl rfl)
theorem dX6_exchanges_24 : decode cX6_exchanges 24 = .ok (.iload_n 1, 1) := dk_27 (dk_at dksX6_exchanges_1 0 rfl rfl)
theorem dX6_exchanges_25 : decode cX6_exchanges 25 = .ok (.iadd, 1) := dk_96 (dk_at dksX6_exchanges_1 1 rfl rfl)
theorem dX6_exchanges_26 : decode cX6_exchanges 26 = .ok (.aload_n 0, 1) := dk_42 (dk_at dksX6_exchanges_1 2 rfl rfl)
theorem dX6_exchanges_27 : decode cX6_exchanges 27 = .ok (.getfield 28, 3) := dk_180 0 28 (dk_at dksX6_exchanges_1 3 rfl rfl)
theorem dX6_exchanges_30 : decode cX6_exchanges 30 = .ok (.bipush 12, 2) := dk_16 12 (dk_at dksX6_exchanges_1 6 rfl rfl)
theorem dX6_exchanges_32 : decode cX6_exchanges 32 = .ok (.iload_n 1, 1) := dk_27 (dk_at dksX6_exchanges_1 8 rfl rfl)
theorem dX6_exchanges_33 : decode cX6_exchanges 33 = .ok (.iadd, 1) := dk_96 (dk_at dksX6_exchanges_1 9 rfl rfl)
theorem dX6_exchanges_34 : decode cX6_exchanges 34 = .ok (.iaload, 1) := dk_46 (dk_at dksX6_exchanges_1 10 rfl rfl)
theorem dX6_exchanges_35 : decode cX6_exchanges 35 = .ok (.iastore, 1) := dk_79 (dk_at dksX6_exchanges_1 11 rfl rfl)
theorem dX6_exchanges_36 : decode cX6_exchanges 36 = .ok (.aload_n 0, 1) := dk_42 (dk_at dksX6_exchanges_1 12 rfl rfl)
theorem dX6_exchanges_37 : decode cX6_exchanges 37 = .ok (.getfield 28, 3) := dk_180 0 28 (dk_at dksX6_exchanges_1 13 rfl rfl)
theorem dX6_exchanges_40 : decode cX6_exchanges 40 = .ok (.bipush 12, 2) := dk_16 12 (dk_at dksX6_exchanges_1 16 rfl rfl)
theorem dX6_exchanges_42 : decode cX6_exchanges 42 = .ok (.iload_n 1, 1) := dk_27 (dk_at dksX6_exchanges_1 18 rfl rfl)
theorem dX6_exchanges_43 : decode cX6_exchanges 43 = .ok (.iadd, 1) := dk_96 (dk_at dksX6_exchanges_1 19 rfl rfl)
theorem dX6_exchanges_44 : decode cX6_exchanges 44 = .ok (.iload_n 2, 1) := dk_28 (dk_at dksX6_exchanges_1 20 rfl rfl)
theorem dX6_exchanges_45 : decode cX6_exchanges 45 = .ok (.iastore, 1) := dk_79 (dk_at dksX6_exchanges_1 21 rfl rfl)
theorem dX6_exchanges_46 : decode cX6_exchanges 46 = .ok (.iinc 1 1, 3) := dk_132 1 1 (dk_at dksX6_exchanges_2 0 rfl rfl)
theorem dX6_exchanges_49 : decode cX6_exchanges 49 = .ok (.goto (-47), 3) := dk_167 255 209 (dk_at dksX6_exchanges_2 3 rfl rfl)
theorem dX6_exchanges_52 : decode cX6_exchanges 52 = .ok (.return_, 1) := dk_177 (dk_at dksX6_exchanges_2 6 rfl rfl)
abbrev cX6_pass : ByteArray := prog_24_method_87_code
def yX6_pass : MethodName := ⟨RX6, "pass", "()I"⟩
def dkwX6_pass_0 : List UInt8 := [42, 42, 182, 1, 95, 182, 1, 89, 172]
abbrev dktX6_pass_0 : List UInt8 := dkwX6_pass_0 ++ []
theorem dksX6_pass_0 : cX6_pass.data.toList.drop 0 = dktX6_pass_0 := by decide +kernel
theorem dX6_pass_0 : decode cX6_pass 0 = .ok (.aload_n 0, 1) := dk_42 (dk_at dksX6_pass_0 0 rfl rfl)
theorem dX6_pass_1 : decode cX6_pass 1 = .ok (.aload_n 0, 1) := dk_42 (dk_at dksX6_pass_0 1 rfl rfl)
theorem dX6_pass_2 : decode cX6_pass 2 = .ok (.invokevirtual 351, 3) := dk_182 1 95 (dk_at dksX6_pass_0 2 rfl rfl)
theorem dX6_pass_5 : decode cX6_pass 5 = .ok (.invokevirtual 345, 3) := dk_182 1 89 (dk_at dksX6_pass_0 5 rfl rfl)
theorem dX6_pass_8 : decode cX6_pass 8 = .ok (.ireturn, 1) := dk_172 (dk_at dksX6_pass_0 8 rfl rfl)
abbrev cX6_passesKept : ByteArray := prog_24_method_83_code
def yX6_passesKept : MethodName := ⟨RX6, "passesKept", "()I"⟩
def dkwX6_passesKept_1 : List UInt8 := [182, 1, 79, 42, 180, 0, 28, 16, 24, 92, 46, 4, 96, 79, 27, 172]
abbrev dktX6_passesKept_1 : List UInt8 := dkwX6_passesKept_1 ++ []
def dkwX6_passesKept_0 : List UInt8 := [42, 180, 0, 28, 16, 24, 46, 17, 3, 231, 160, 0, 6, 16, 253, 172, 42, 5, 182, 1, 76, 60, 42, 6]
abbrev dktX6_passesKept_0 : List UInt8 := dkwX6_passesKept_0 ++ dktX6_passesKept_1
theorem dksX6_passesKept_0 : cX6_passesKept.data.toList.drop 0 = dktX6_passesKept_0 := by decide +kernel
theorem dksX6_passesKept_1 : cX6_passesKept.data.toList.drop 24 = dktX6_passesKept_1 := dk_seg dksX6_passesKept_0 24 rfl rfl
theorem dX6_passesKept_0 : decode cX6_passesKept 0 = .ok (.aload_n 0, 1) := dk_42 (dk_at dksX6_passesKept_0 0 rfl rfl)
theorem dX6_passesKept_1 : decode cX6_passesKept 1 = .ok (.getfield 28, 3) := dk_180 0 28 (dk_at dksX6_passesKept_0 1 rfl rfl)
theorem dX6_passesKept_4 : decode cX6_passesKept 4 = .ok (.bipush 24, 2) := dk_16 24 (dk_at dksX6_passesKept_0 4 rfl rfl)
theorem dX6_passesKept_6 : decode cX6_passesKept 6 = .ok (.iaload, 1) := dk_46 (dk_at dksX6_passesKept_0 6 rfl rfl)
theorem dX6_passesKept_7 : decode cX6_passesKept 7 = .ok (.sipush 999, 3) := dk_17 3 231 (dk_at dksX6_passesKept_0 7 rfl rfl)
theorem dX6_passesKept_10 : decode cX6_passesKept 10 = .ok (.if_icmp .ne 6, 3) := dk_160 0 6 (dk_at dksX6_passesKept_0 10 rfl rfl)
theorem dX6_passesKept_13 : decode cX6_passesKept 13 = .ok (.bipush (-3), 2) := dk_16 253 (dk_at dksX6_passesKept_0 13 rfl rfl)
theorem dX6_passesKept_15 : decode cX6_passesKept 15 = .ok (.ireturn, 1) := dk_172 (dk_at dksX6_passesKept_0 15 rfl rfl)
theorem dX6_passesKept_16 : decode cX6_passesKept 16 = .ok (.aload_n 0, 1) := dk_42 (dk_at dksX6_passesKept_0 16 rfl rfl)
theorem dX6_passesKept_17 : decode cX6_passesKept 17 = .ok (.iconst 2, 1) := dk_5 (dk_at dksX6_passesKept_0 17 rfl rfl)
theorem dX6_passesKept_18 : decode cX6_passesKept 18 = .ok (.invokevirtual 332, 3) := dk_182 1 76 (dk_at dksX6_passesKept_0 18 rfl rfl)
theorem dX6_passesKept_21 : decode cX6_passesKept 21 = .ok (.istore_n 1, 1) := dk_60 (dk_at dksX6_passesKept_0 21 rfl rfl)
theorem dX6_passesKept_22 : decode cX6_passesKept 22 = .ok (.aload_n 0, 1) := dk_42 (dk_at dksX6_passesKept_0 22 rfl rfl)
theorem dX6_passesKept_23 : decode cX6_passesKept 23 = .ok (.iconst 3, 1) := dk_6 (dk_at dksX6_passesKept_0 23 rfl rfl)
theorem dX6_passesKept_24 : decode cX6_passesKept 24 = .ok (.invokevirtual 335, 3) := dk_182 1 79 (dk_at dksX6_passesKept_1 0 rfl rfl)
theorem dX6_passesKept_27 : decode cX6_passesKept 27 = .ok (.aload_n 0, 1) := dk_42 (dk_at dksX6_passesKept_1 3 rfl rfl)
theorem dX6_passesKept_28 : decode cX6_passesKept 28 = .ok (.getfield 28, 3) := dk_180 0 28 (dk_at dksX6_passesKept_1 4 rfl rfl)
theorem dX6_passesKept_31 : decode cX6_passesKept 31 = .ok (.bipush 24, 2) := dk_16 24 (dk_at dksX6_passesKept_1 7 rfl rfl)
theorem dX6_passesKept_33 : decode cX6_passesKept 33 = .ok (.dup2, 1) := dk_92 (dk_at dksX6_passesKept_1 9 rfl rfl)
theorem dX6_passesKept_34 : decode cX6_passesKept 34 = .ok (.iaload, 1) := dk_46 (dk_at dksX6_passesKept_1 10 rfl rfl)
theorem dX6_passesKept_35 : decode cX6_passesKept 35 = .ok (.iconst 1, 1) := dk_4 (dk_at dksX6_passesKept_1 11 rfl rfl)
theorem dX6_passesKept_36 : decode cX6_passesKept 36 = .ok (.iadd, 1) := dk_96 (dk_at dksX6_passesKept_1 12 rfl rfl)
theorem dX6_passesKept_37 : decode cX6_passesKept 37 = .ok (.iastore, 1) := dk_79 (dk_at dksX6_passesKept_1 13 rfl rfl)
theorem dX6_passesKept_38 : decode cX6_passesKept 38 = .ok (.iload_n 1, 1) := dk_27 (dk_at dksX6_passesKept_1 14 rfl rfl)
theorem dX6_passesKept_39 : decode cX6_passesKept 39 = .ok (.ireturn, 1) := dk_172 (dk_at dksX6_passesKept_1 15 rfl rfl)
abbrev cX6_best : ByteArray := prog_24_method_97_code
def yX6_best : MethodName := ⟨RX6, "best", "(I)I"⟩
def dkwX6_best_0 : List UInt8 := [42, 27, 3, 182, 1, 131, 172]
abbrev dktX6_best_0 : List UInt8 := dkwX6_best_0 ++ []
theorem dksX6_best_0 : cX6_best.data.toList.drop 0 = dktX6_best_0 := by decide +kernel
theorem dX6_best_0 : decode cX6_best 0 = .ok (.aload_n 0, 1) := dk_42 (dk_at dksX6_best_0 0 rfl rfl)
theorem dX6_best_1 : decode cX6_best 1 = .ok (.iload_n 1, 1) := dk_27 (dk_at dksX6_best_0 1 rfl rfl)
theorem dX6_best_2 : decode cX6_best 2 = .ok (.iconst 0, 1) := dk_3 (dk_at dksX6_best_0 2 rfl rfl)
theorem dX6_best_3 : decode cX6_best 3 = .ok (.invokevirtual 387, 3) := dk_182 1 131 (dk_at dksX6_best_0 3 rfl rfl)
theorem dX6_best_6 : decode cX6_best 6 = .ok (.ireturn, 1) := dk_172 (dk_at dksX6_best_0 6 rfl rfl)
abbrev cX6_voiceOf : ByteArray := prog_24_method_96_code
def yX6_voiceOf : MethodName := ⟨RX6, "voiceOf", "(IZ)I"⟩
def dkwX6_voiceOf_2 : List UInt8 := [182, 1, 127, 172]
abbrev dktX6_voiceOf_2 : List UInt8 := dkwX6_voiceOf_2 ++ []
def dkwX6_voiceOf_1 : List UInt8 := [42, 28, 182, 1, 123, 62, 29, 2, 159, 0, 8, 27, 2, 160, 0, 7, 29, 167, 0, 9, 42, 27, 28]
abbrev dktX6_voiceOf_1 : List UInt8 := dkwX6_voiceOf_1 ++ dktX6_voiceOf_2
def dkwX6_voiceOf_0 : List UInt8 := [27, 2, 161, 0, 16, 27, 42, 182, 0, 112, 161, 0, 10, 27, 2, 159, 0, 5, 2, 172, 42, 182, 1, 120]
abbrev dktX6_voiceOf_0 : List UInt8 := dkwX6_voiceOf_0 ++ dktX6_voiceOf_1
theorem dksX6_voiceOf_0 : cX6_voiceOf.data.toList.drop 0 = dktX6_voiceOf_0 := by decide +kernel
theorem dksX6_voiceOf_1 : cX6_voiceOf.data.toList.drop 24 = dktX6_voiceOf_1 := dk_seg dksX6_voiceOf_0 24 rfl rfl
theorem dksX6_voiceOf_2 : cX6_voiceOf.data.toList.drop 47 = dktX6_voiceOf_2 := dk_seg dksX6_voiceOf_1 23 rfl rfl
theorem dX6_voiceOf_0 : decode cX6_voiceOf 0 = .ok (.iload_n 1, 1) := dk_27 (dk_at dksX6_voiceOf_0 0 rfl rfl)
theorem dX6_voiceOf_1 : decode cX6_voiceOf 1 = .ok (.iconst (-1), 1) := dk_2 (dk_at dksX6_voiceOf_0 1 rfl rfl)
theorem dX6_voiceOf_2 : decode cX6_voiceOf 2 = .ok (.if_icmp .lt 16, 3) := dk_161 0 16 (dk_at dksX6_voiceOf_0 2 rfl rfl)
theorem dX6_voiceOf_5 : decode cX6_voiceOf 5 = .ok (.iload_n 1, 1) := dk_27 (dk_at dksX6_voiceOf_0 5 rfl rfl)
theorem dX6_voiceOf_6 : decode cX6_voiceOf 6 = .ok (.aload_n 0, 1) := dk_42 (dk_at dksX6_voiceOf_0 6 rfl rfl)
theorem dX6_voiceOf_7 : decode cX6_voiceOf 7 = .ok (.invokevirtual 112, 3) := dk_182 0 112 (dk_at dksX6_voiceOf_0 7 rfl rfl)
theorem dX6_voiceOf_10 : decode cX6_voiceOf 10 = .ok (.if_icmp .lt 10, 3) := dk_161 0 10 (dk_at dksX6_voiceOf_0 10 rfl rfl)
theorem dX6_voiceOf_13 : decode cX6_voiceOf 13 = .ok (.iload_n 1, 1) := dk_27 (dk_at dksX6_voiceOf_0 13 rfl rfl)
theorem dX6_voiceOf_14 : decode cX6_voiceOf 14 = .ok (.iconst (-1), 1) := dk_2 (dk_at dksX6_voiceOf_0 14 rfl rfl)
theorem dX6_voiceOf_15 : decode cX6_voiceOf 15 = .ok (.if_icmp .eq 5, 3) := dk_159 0 5 (dk_at dksX6_voiceOf_0 15 rfl rfl)
theorem dX6_voiceOf_18 : decode cX6_voiceOf 18 = .ok (.iconst (-1), 1) := dk_2 (dk_at dksX6_voiceOf_0 18 rfl rfl)
theorem dX6_voiceOf_19 : decode cX6_voiceOf 19 = .ok (.ireturn, 1) := dk_172 (dk_at dksX6_voiceOf_0 19 rfl rfl)
theorem dX6_voiceOf_20 : decode cX6_voiceOf 20 = .ok (.aload_n 0, 1) := dk_42 (dk_at dksX6_voiceOf_0 20 rfl rfl)
theorem dX6_voiceOf_21 : decode cX6_voiceOf 21 = .ok (.invokevirtual 376, 3) := dk_182 1 120 (dk_at dksX6_voiceOf_0 21 rfl rfl)
theorem dX6_voiceOf_24 : decode cX6_voiceOf 24 = .ok (.aload_n 0, 1) := dk_42 (dk_at dksX6_voiceOf_1 0 rfl rfl)
theorem dX6_voiceOf_25 : decode cX6_voiceOf 25 = .ok (.iload_n 2, 1) := dk_28 (dk_at dksX6_voiceOf_1 1 rfl rfl)
theorem dX6_voiceOf_26 : decode cX6_voiceOf 26 = .ok (.invokevirtual 379, 3) := dk_182 1 123 (dk_at dksX6_voiceOf_1 2 rfl rfl)
theorem dX6_voiceOf_29 : decode cX6_voiceOf 29 = .ok (.istore_n 3, 1) := dk_62 (dk_at dksX6_voiceOf_1 5 rfl rfl)
theorem dX6_voiceOf_30 : decode cX6_voiceOf 30 = .ok (.iload_n 3, 1) := dk_29 (dk_at dksX6_voiceOf_1 6 rfl rfl)
theorem dX6_voiceOf_31 : decode cX6_voiceOf 31 = .ok (.iconst (-1), 1) := dk_2 (dk_at dksX6_voiceOf_1 7 rfl rfl)
theorem dX6_voiceOf_32 : decode cX6_voiceOf 32 = .ok (.if_icmp .eq 8, 3) := dk_159 0 8 (dk_at dksX6_voiceOf_1 8 rfl rfl)
theorem dX6_voiceOf_35 : decode cX6_voiceOf 35 = .ok (.iload_n 1, 1) := dk_27 (dk_at dksX6_voiceOf_1 11 rfl rfl)
theorem dX6_voiceOf_36 : decode cX6_voiceOf 36 = .ok (.iconst (-1), 1) := dk_2 (dk_at dksX6_voiceOf_1 12 rfl rfl)
theorem dX6_voiceOf_37 : decode cX6_voiceOf 37 = .ok (.if_icmp .ne 7, 3) := dk_160 0 7 (dk_at dksX6_voiceOf_1 13 rfl rfl)
theorem dX6_voiceOf_40 : decode cX6_voiceOf 40 = .ok (.iload_n 3, 1) := dk_29 (dk_at dksX6_voiceOf_1 16 rfl rfl)
theorem dX6_voiceOf_41 : decode cX6_voiceOf 41 = .ok (.goto 9, 3) := dk_167 0 9 (dk_at dksX6_voiceOf_1 17 rfl rfl)
theorem dX6_voiceOf_44 : decode cX6_voiceOf 44 = .ok (.aload_n 0, 1) := dk_42 (dk_at dksX6_voiceOf_1 20 rfl rfl)
theorem dX6_voiceOf_45 : decode cX6_voiceOf 45 = .ok (.iload_n 1, 1) := dk_27 (dk_at dksX6_voiceOf_1 21 rfl rfl)
theorem dX6_voiceOf_46 : decode cX6_voiceOf 46 = .ok (.iload_n 2, 1) := dk_28 (dk_at dksX6_voiceOf_1 22 rfl rfl)
theorem dX6_voiceOf_47 : decode cX6_voiceOf 47 = .ok (.invokevirtual 383, 3) := dk_182 1 127 (dk_at dksX6_voiceOf_2 0 rfl rfl)
theorem dX6_voiceOf_50 : decode cX6_voiceOf 50 = .ok (.ireturn, 1) := dk_172 (dk_at dksX6_voiceOf_2 3 rfl rfl)
abbrev cX6_laysNotes : ByteArray := prog_24_method_90_code
def yX6_laysNotes : MethodName := ⟨RX6, "laysNotes", "()V"⟩
def dkwX6_laysNotes_0 : List UInt8 := [3, 60, 27, 42, 182, 0, 112, 162, 0, 14, 42, 27, 182, 1, 101, 132, 1, 1, 167, 255, 240, 177]
abbrev dktX6_laysNotes_0 : List UInt8 := dkwX6_laysNotes_0 ++ []
theorem dksX6_laysNotes_0 : cX6_laysNotes.data.toList.drop 0 = dktX6_laysNotes_0 := by decide +kernel
theorem dX6_laysNotes_0 : decode cX6_laysNotes 0 = .ok (.iconst 0, 1) := dk_3 (dk_at dksX6_laysNotes_0 0 rfl rfl)
theorem dX6_laysNotes_1 : decode cX6_laysNotes 1 = .ok (.istore_n 1, 1) := dk_60 (dk_at dksX6_laysNotes_0 1 rfl rfl)
theorem dX6_laysNotes_2 : decode cX6_laysNotes 2 = .ok (.iload_n 1, 1) := dk_27 (dk_at dksX6_laysNotes_0 2 rfl rfl)
theorem dX6_laysNotes_3 : decode cX6_laysNotes 3 = .ok (.aload_n 0, 1) := dk_42 (dk_at dksX6_laysNotes_0 3 rfl rfl)
theorem dX6_laysNotes_4 : decode cX6_laysNotes 4 = .ok (.invokevirtual 112, 3) := dk_182 0 112 (dk_at dksX6_laysNotes_0 4 rfl rfl)
theorem dX6_laysNotes_7 : decode cX6_laysNotes 7 = .ok (.if_icmp .ge 14, 3) := dk_162 0 14 (dk_at dksX6_laysNotes_0 7 rfl rfl)
theorem dX6_laysNotes_10 : decode cX6_laysNotes 10 = .ok (.aload_n 0, 1) := dk_42 (dk_at dksX6_laysNotes_0 10 rfl rfl)
theorem dX6_laysNotes_11 : decode cX6_laysNotes 11 = .ok (.iload_n 1, 1) := dk_27 (dk_at dksX6_laysNotes_0 11 rfl rfl)
theorem dX6_laysNotes_12 : decode cX6_laysNotes 12 = .ok (.invokevirtual 357, 3) := dk_182 1 101 (dk_at dksX6_laysNotes_0 12 rfl rfl)
theorem dX6_laysNotes_15 : decode cX6_laysNotes 15 = .ok (.iinc 1 1, 3) := dk_132 1 1 (dk_at dksX6_laysNotes_0 15 rfl rfl)
theorem dX6_laysNotes_18 : decode cX6_laysNotes 18 = .ok (.goto (-16), 3) := dk_167 255 240 (dk_at dksX6_laysNotes_0 18 rfl rfl)
theorem dX6_laysNotes_21 : decode cX6_laysNotes 21 = .ok (.return_, 1) := dk_177 (dk_at dksX6_laysNotes_0 21 rfl rfl)
abbrev cX6_laysNote : ByteArray := prog_24_method_89_code
def yX6_laysNote : MethodName := ⟨RX6, "laysNote", "(I)V"⟩
def dkwX6_laysNote_5 : List UInt8 := [132, 3, 1, 167, 255, 154, 132, 2, 1, 167, 255, 132, 177]
abbrev dktX6_laysNote_5 : List UInt8 := dkwX6_laysNote_5 ++ []
def dkwX6_laysNote_4 : List UInt8 := [180, 0, 75, 21, 4, 42, 180, 0, 78, 21, 4, 51, 153, 0, 10, 42, 182, 0, 134, 167, 0, 4, 3, 79]
abbrev dktX6_laysNote_4 : List UInt8 := dkwX6_laysNote_4 ++ dktX6_laysNote_5
def dkwX6_laysNote_3 : List UInt8 := [21, 4, 42, 180, 0, 78, 21, 4, 51, 153, 0, 10, 42, 182, 0, 131, 167, 0, 4, 3, 79, 42]
abbrev dktX6_laysNote_3 : List UInt8 := dkwX6_laysNote_3 ++ dktX6_laysNote_4
def dkwX6_laysNote_2 : List UInt8 := [42, 180, 0, 78, 21, 4, 42, 182, 0, 137, 154, 0, 7, 4, 167, 0, 4, 3, 84, 42, 180, 0, 72]
abbrev dktX6_laysNote_2 : List UInt8 := dkwX6_laysNote_2 ++ dktX6_laysNote_3
def dkwX6_laysNote_1 : List UInt8 := [42, 27, 29, 27, 158, 0, 7, 4, 167, 0, 4, 3, 28, 182, 1, 65, 27, 28, 29, 184, 1, 98, 54, 4]
abbrev dktX6_laysNote_1 : List UInt8 := dkwX6_laysNote_1 ++ dktX6_laysNote_2
def dkwX6_laysNote_0 : List UInt8 := [3, 61, 28, 27, 154, 0, 7, 4, 167, 0, 5, 16, 25, 162, 0, 116, 3, 62, 29, 16, 25, 162, 0, 102]
abbrev dktX6_laysNote_0 : List UInt8 := dkwX6_laysNote_0 ++ dktX6_laysNote_1
theorem dksX6_laysNote_0 : cX6_laysNote.data.toList.drop 0 = dktX6_laysNote_0 := by decide +kernel
theorem dksX6_laysNote_1 : cX6_laysNote.data.toList.drop 24 = dktX6_laysNote_1 := dk_seg dksX6_laysNote_0 24 rfl rfl
theorem dksX6_laysNote_2 : cX6_laysNote.data.toList.drop 48 = dktX6_laysNote_2 := dk_seg dksX6_laysNote_1 24 rfl rfl
theorem dksX6_laysNote_3 : cX6_laysNote.data.toList.drop 71 = dktX6_laysNote_3 := dk_seg dksX6_laysNote_2 23 rfl rfl
theorem dksX6_laysNote_4 : cX6_laysNote.data.toList.drop 93 = dktX6_laysNote_4 := dk_seg dksX6_laysNote_3 22 rfl rfl
theorem dksX6_laysNote_5 : cX6_laysNote.data.toList.drop 117 = dktX6_laysNote_5 := dk_seg dksX6_laysNote_4 24 rfl rfl
theorem dX6_laysNote_0 : decode cX6_laysNote 0 = .ok (.iconst 0, 1) := dk_3 (dk_at dksX6_laysNote_0 0 rfl rfl)
theorem dX6_laysNote_1 : decode cX6_laysNote 1 = .ok (.istore_n 2, 1) := dk_61 (dk_at dksX6_laysNote_0 1 rfl rfl)
theorem dX6_laysNote_2 : decode cX6_laysNote 2 = .ok (.iload_n 2, 1) := dk_28 (dk_at dksX6_laysNote_0 2 rfl rfl)
theorem dX6_laysNote_3 : decode cX6_laysNote 3 = .ok (.iload_n 1, 1) := dk_27 (dk_at dksX6_laysNote_0 3 rfl rfl)
theorem dX6_laysNote_4 : decode cX6_laysNote 4 = .ok (.ifCond .ne 7, 3) := dk_154 0 7 (dk_at dksX6_laysNote_0 4 rfl rfl)
theorem dX6_laysNote_7 : decode cX6_laysNote 7 = .ok (.iconst 1, 1) := dk_4 (dk_at dksX6_laysNote_0 7 rfl rfl)
theorem dX6_laysNote_8 : decode cX6_laysNote 8 = .ok (.goto 5, 3) := dk_167 0 5 (dk_at dksX6_laysNote_0 8 rfl rfl)
theorem dX6_laysNote_11 : decode cX6_laysNote 11 = .ok (.bipush 25, 2) := dk_16 25 (dk_at dksX6_laysNote_0 11 rfl rfl)
theorem dX6_laysNote_13 : decode cX6_laysNote 13 = .ok (.if_icmp .ge 116, 3) := dk_162 0 116 (dk_at dksX6_laysNote_0 13 rfl rfl)
theorem dX6_laysNote_16 : decode cX6_laysNote 16 = .ok (.iconst 0, 1) := dk_3 (dk_at dksX6_laysNote_0 16 rfl rfl)
theorem dX6_laysNote_17 : decode cX6_laysNote 17 = .ok (.istore_n 3, 1) := dk_62 (dk_at dksX6_laysNote_0 17 rfl rfl)
theorem dX6_laysNote_18 : decode cX6_laysNote 18 = .ok (.iload_n 3, 1) := dk_29 (dk_at dksX6_laysNote_0 18 rfl rfl)
theorem dX6_laysNote_19 : decode cX6_laysNote 19 = .ok (.bipush 25, 2) := dk_16 25 (dk_at dksX6_laysNote_0 19 rfl rfl)
theorem dX6_laysNote_21 : decode cX6_laysNote 21 = .ok (.if_icmp .ge 102, 3) := dk_162 0 102 (dk_at dksX6_laysNote_0 21 rfl rfl)
theorem dX6_laysNote_24 : decode cX6_laysNote 24 = .ok (.aload_n 0, 1) := dk_42 (dk_at dksX6_laysNote_1 0 rfl rfl)
theorem dX6_laysNote_25 : decode cX6_laysNote 25 = .ok (.iload_n 1, 1) := dk_27 (dk_at dksX6_laysNote_1 1 rfl rfl)
theorem dX6_laysNote_26 : decode cX6_laysNote 26 = .ok (.iload_n 3, 1) := dk_29 (dk_at dksX6_laysNote_1 2 rfl rfl)
theorem dX6_laysNote_27 : decode cX6_laysNote 27 = .ok (.iload_n 1, 1) := dk_27 (dk_at dksX6_laysNote_1 3 rfl rfl)
theorem dX6_laysNote_28 : decode cX6_laysNote 28 = .ok (.ifCond .le 7, 3) := dk_158 0 7 (dk_at dksX6_laysNote_1 4 rfl rfl)
theorem dX6_laysNote_31 : decode cX6_laysNote 31 = .ok (.iconst 1, 1) := dk_4 (dk_at dksX6_laysNote_1 7 rfl rfl)
theorem dX6_laysNote_32 : decode cX6_laysNote 32 = .ok (.goto 4, 3) := dk_167 0 4 (dk_at dksX6_laysNote_1 8 rfl rfl)
theorem dX6_laysNote_35 : decode cX6_laysNote 35 = .ok (.iconst 0, 1) := dk_3 (dk_at dksX6_laysNote_1 11 rfl rfl)
theorem dX6_laysNote_36 : decode cX6_laysNote 36 = .ok (.iload_n 2, 1) := dk_28 (dk_at dksX6_laysNote_1 12 rfl rfl)
theorem dX6_laysNote_37 : decode cX6_laysNote 37 = .ok (.invokevirtual 321, 3) := dk_182 1 65 (dk_at dksX6_laysNote_1 13 rfl rfl)
theorem dX6_laysNote_40 : decode cX6_laysNote 40 = .ok (.iload_n 1, 1) := dk_27 (dk_at dksX6_laysNote_1 16 rfl rfl)
theorem dX6_laysNote_41 : decode cX6_laysNote 41 = .ok (.iload_n 2, 1) := dk_28 (dk_at dksX6_laysNote_1 17 rfl rfl)
theorem dX6_laysNote_42 : decode cX6_laysNote 42 = .ok (.iload_n 3, 1) := dk_29 (dk_at dksX6_laysNote_1 18 rfl rfl)
theorem dX6_laysNote_43 : decode cX6_laysNote 43 = .ok (.invokestatic 354, 3) := dk_184 1 98 (dk_at dksX6_laysNote_1 19 rfl rfl)
theorem dX6_laysNote_46 : decode cX6_laysNote 46 = .ok (.istore 4, 2) := dk_54 4 (dk_at dksX6_laysNote_1 22 rfl rfl)
theorem dX6_laysNote_48 : decode cX6_laysNote 48 = .ok (.aload_n 0, 1) := dk_42 (dk_at dksX6_laysNote_2 0 rfl rfl)
theorem dX6_laysNote_49 : decode cX6_laysNote 49 = .ok (.getfield 78, 3) := dk_180 0 78 (dk_at dksX6_laysNote_2 1 rfl rfl)
theorem dX6_laysNote_52 : decode cX6_laysNote 52 = .ok (.iload 4, 2) := dk_21 4 (dk_at dksX6_laysNote_2 4 rfl rfl)
theorem dX6_laysNote_54 : decode cX6_laysNote 54 = .ok (.aload_n 0, 1) := dk_42 (dk_at dksX6_laysNote_2 6 rfl rfl)
theorem dX6_laysNote_55 : decode cX6_laysNote 55 = .ok (.invokevirtual 137, 3) := dk_182 0 137 (dk_at dksX6_laysNote_2 7 rfl rfl)
theorem dX6_laysNote_58 : decode cX6_laysNote 58 = .ok (.ifCond .ne 7, 3) := dk_154 0 7 (dk_at dksX6_laysNote_2 10 rfl rfl)
theorem dX6_laysNote_61 : decode cX6_laysNote 61 = .ok (.iconst 1, 1) := dk_4 (dk_at dksX6_laysNote_2 13 rfl rfl)
theorem dX6_laysNote_62 : decode cX6_laysNote 62 = .ok (.goto 4, 3) := dk_167 0 4 (dk_at dksX6_laysNote_2 14 rfl rfl)
theorem dX6_laysNote_65 : decode cX6_laysNote 65 = .ok (.iconst 0, 1) := dk_3 (dk_at dksX6_laysNote_2 17 rfl rfl)
theorem dX6_laysNote_66 : decode cX6_laysNote 66 = .ok (.bastore, 1) := dk_84 (dk_at dksX6_laysNote_2 18 rfl rfl)
theorem dX6_laysNote_67 : decode cX6_laysNote 67 = .ok (.aload_n 0, 1) := dk_42 (dk_at dksX6_laysNote_2 19 rfl rfl)
theorem dX6_laysNote_68 : decode cX6_laysNote 68 = .ok (.getfield 72, 3) := dk_180 0 72 (dk_at dksX6_laysNote_2 20 rfl rfl)
theorem dX6_laysNote_71 : decode cX6_laysNote 71 = .ok (.iload 4, 2) := dk_21 4 (dk_at dksX6_laysNote_3 0 rfl rfl)
theorem dX6_laysNote_73 : decode cX6_laysNote 73 = .ok (.aload_n 0, 1) := dk_42 (dk_at dksX6_laysNote_3 2 rfl rfl)
theorem dX6_laysNote_74 : decode cX6_laysNote 74 = .ok (.getfield 78, 3) := dk_180 0 78 (dk_at dksX6_laysNote_3 3 rfl rfl)
theorem dX6_laysNote_77 : decode cX6_laysNote 77 = .ok (.iload 4, 2) := dk_21 4 (dk_at dksX6_laysNote_3 6 rfl rfl)
theorem dX6_laysNote_79 : decode cX6_laysNote 79 = .ok (.baload, 1) := dk_51 (dk_at dksX6_laysNote_3 8 rfl rfl)
theorem dX6_laysNote_80 : decode cX6_laysNote 80 = .ok (.ifCond .eq 10, 3) := dk_153 0 10 (dk_at dksX6_laysNote_3 9 rfl rfl)
theorem dX6_laysNote_83 : decode cX6_laysNote 83 = .ok (.aload_n 0, 1) := dk_42 (dk_at dksX6_laysNote_3 12 rfl rfl)
theorem dX6_laysNote_84 : decode cX6_laysNote 84 = .ok (.invokevirtual 131, 3) := dk_182 0 131 (dk_at dksX6_laysNote_3 13 rfl rfl)
theorem dX6_laysNote_87 : decode cX6_laysNote 87 = .ok (.goto 4, 3) := dk_167 0 4 (dk_at dksX6_laysNote_3 16 rfl rfl)
theorem dX6_laysNote_90 : decode cX6_laysNote 90 = .ok (.iconst 0, 1) := dk_3 (dk_at dksX6_laysNote_3 19 rfl rfl)
theorem dX6_laysNote_91 : decode cX6_laysNote 91 = .ok (.iastore, 1) := dk_79 (dk_at dksX6_laysNote_3 20 rfl rfl)
theorem dX6_laysNote_92 : decode cX6_laysNote 92 = .ok (.aload_n 0, 1) := dk_42 (dk_at dksX6_laysNote_3 21 rfl rfl)
theorem dX6_laysNote_93 : decode cX6_laysNote 93 = .ok (.getfield 75, 3) := dk_180 0 75 (dk_at dksX6_laysNote_4 0 rfl rfl)
theorem dX6_laysNote_96 : decode cX6_laysNote 96 = .ok (.iload 4, 2) := dk_21 4 (dk_at dksX6_laysNote_4 3 rfl rfl)
theorem dX6_laysNote_98 : decode cX6_laysNote 98 = .ok (.aload_n 0, 1) := dk_42 (dk_at dksX6_laysNote_4 5 rfl rfl)
theorem dX6_laysNote_99 : decode cX6_laysNote 99 = .ok (.getfield 78, 3) := dk_180 0 78 (dk_at dksX6_laysNote_4 6 rfl rfl)
theorem dX6_laysNote_102 : decode cX6_laysNote 102 = .ok (.iload 4, 2) := dk_21 4 (dk_at dksX6_laysNote_4 9 rfl rfl)
theorem dX6_laysNote_104 : decode cX6_laysNote 104 = .ok (.baload, 1) := dk_51 (dk_at dksX6_laysNote_4 11 rfl rfl)
theorem dX6_laysNote_105 : decode cX6_laysNote 105 = .ok (.ifCond .eq 10, 3) := dk_153 0 10 (dk_at dksX6_laysNote_4 12 rfl rfl)
theorem dX6_laysNote_108 : decode cX6_laysNote 108 = .ok (.aload_n 0, 1) := dk_42 (dk_at dksX6_laysNote_4 15 rfl rfl)
theorem dX6_laysNote_109 : decode cX6_laysNote 109 = .ok (.invokevirtual 134, 3) := dk_182 0 134 (dk_at dksX6_laysNote_4 16 rfl rfl)
theorem dX6_laysNote_112 : decode cX6_laysNote 112 = .ok (.goto 4, 3) := dk_167 0 4 (dk_at dksX6_laysNote_4 19 rfl rfl)
theorem dX6_laysNote_115 : decode cX6_laysNote 115 = .ok (.iconst 0, 1) := dk_3 (dk_at dksX6_laysNote_4 22 rfl rfl)
theorem dX6_laysNote_116 : decode cX6_laysNote 116 = .ok (.iastore, 1) := dk_79 (dk_at dksX6_laysNote_4 23 rfl rfl)
theorem dX6_laysNote_117 : decode cX6_laysNote 117 = .ok (.iinc 3 1, 3) := dk_132 3 1 (dk_at dksX6_laysNote_5 0 rfl rfl)
theorem dX6_laysNote_120 : decode cX6_laysNote 120 = .ok (.goto (-102), 3) := dk_167 255 154 (dk_at dksX6_laysNote_5 3 rfl rfl)
theorem dX6_laysNote_123 : decode cX6_laysNote 123 = .ok (.iinc 2 1, 3) := dk_132 2 1 (dk_at dksX6_laysNote_5 6 rfl rfl)
theorem dX6_laysNote_126 : decode cX6_laysNote 126 = .ok (.goto (-124), 3) := dk_167 255 132 (dk_at dksX6_laysNote_5 9 rfl rfl)
theorem dX6_laysNote_129 : decode cX6_laysNote 129 = .ok (.return_, 1) := dk_177 (dk_at dksX6_laysNote_5 12 rfl rfl)
abbrev cX6_noteAt : ByteArray := prog_24_method_88_code
def yX6_noteAt : MethodName := ⟨RX6, "noteAt", "(III)I"⟩
def dkwX6_noteAt_0 : List UInt8 := [17, 2, 113, 26, 104, 16, 25, 27, 104, 96, 28, 96, 172]
abbrev dktX6_noteAt_0 : List UInt8 := dkwX6_noteAt_0 ++ []
theorem dksX6_noteAt_0 : cX6_noteAt.data.toList.drop 0 = dktX6_noteAt_0 := by decide +kernel
theorem dX6_noteAt_0 : decode cX6_noteAt 0 = .ok (.sipush 625, 3) := dk_17 2 113 (dk_at dksX6_noteAt_0 0 rfl rfl)
theorem dX6_noteAt_3 : decode cX6_noteAt 3 = .ok (.iload_n 0, 1) := dk_26 (dk_at dksX6_noteAt_0 3 rfl rfl)
theorem dX6_noteAt_4 : decode cX6_noteAt 4 = .ok (.imul, 1) := dk_104 (dk_at dksX6_noteAt_0 4 rfl rfl)
theorem dX6_noteAt_5 : decode cX6_noteAt 5 = .ok (.bipush 25, 2) := dk_16 25 (dk_at dksX6_noteAt_0 5 rfl rfl)
theorem dX6_noteAt_7 : decode cX6_noteAt 7 = .ok (.iload_n 1, 1) := dk_27 (dk_at dksX6_noteAt_0 7 rfl rfl)
theorem dX6_noteAt_8 : decode cX6_noteAt 8 = .ok (.imul, 1) := dk_104 (dk_at dksX6_noteAt_0 8 rfl rfl)
theorem dX6_noteAt_9 : decode cX6_noteAt 9 = .ok (.iadd, 1) := dk_96 (dk_at dksX6_noteAt_0 9 rfl rfl)
theorem dX6_noteAt_10 : decode cX6_noteAt 10 = .ok (.iload_n 2, 1) := dk_28 (dk_at dksX6_noteAt_0 10 rfl rfl)
theorem dX6_noteAt_11 : decode cX6_noteAt 11 = .ok (.iadd, 1) := dk_96 (dk_at dksX6_noteAt_0 11 rfl rfl)
theorem dX6_noteAt_12 : decode cX6_noteAt 12 = .ok (.ireturn, 1) := dk_172 (dk_at dksX6_noteAt_0 12 rfl rfl)
abbrev cX6_leastOf : ByteArray := prog_24_method_94_code
def yX6_leastOf : MethodName := ⟨RX6, "leastOf", "(Z)I"⟩
def dkwX6_leastOf_2 : List UInt8 := [182, 1, 104, 61, 28, 19, 1, 108, 161, 0, 7, 2, 167, 0, 4, 28, 172]
abbrev dktX6_leastOf_2 : List UInt8 := dkwX6_leastOf_2 ++ []
def dkwX6_leastOf_1 : List UInt8 := [27, 182, 1, 116, 42, 3, 3, 42, 180, 0, 28, 16, 39, 46, 42, 180, 0, 28, 16, 40, 46, 27]
abbrev dktX6_leastOf_1 : List UInt8 := dkwX6_leastOf_1 ++ dktX6_leastOf_2
def dkwX6_leastOf_0 : List UInt8 := [42, 182, 0, 112, 154, 0, 5, 3, 172, 42, 42, 180, 0, 28, 16, 39, 46, 42, 180, 0, 28, 16, 40, 46]
abbrev dktX6_leastOf_0 : List UInt8 := dkwX6_leastOf_0 ++ dktX6_leastOf_1
theorem dksX6_leastOf_0 : cX6_leastOf.data.toList.drop 0 = dktX6_leastOf_0 := by decide +kernel
theorem dksX6_leastOf_1 : cX6_leastOf.data.toList.drop 24 = dktX6_leastOf_1 := dk_seg dksX6_leastOf_0 24 rfl rfl
theorem dksX6_leastOf_2 : cX6_leastOf.data.toList.drop 46 = dktX6_leastOf_2 := dk_seg dksX6_leastOf_1 22 rfl rfl
theorem dX6_leastOf_0 : decode cX6_leastOf 0 = .ok (.aload_n 0, 1) := dk_42 (dk_at dksX6_leastOf_0 0 rfl rfl)
theorem dX6_leastOf_1 : decode cX6_leastOf 1 = .ok (.invokevirtual 112, 3) := dk_182 0 112 (dk_at dksX6_leastOf_0 1 rfl rfl)
theorem dX6_leastOf_4 : decode cX6_leastOf 4 = .ok (.ifCond .ne 5, 3) := dk_154 0 5 (dk_at dksX6_leastOf_0 4 rfl rfl)
theorem dX6_leastOf_7 : decode cX6_leastOf 7 = .ok (.iconst 0, 1) := dk_3 (dk_at dksX6_leastOf_0 7 rfl rfl)
theorem dX6_leastOf_8 : decode cX6_leastOf 8 = .ok (.ireturn, 1) := dk_172 (dk_at dksX6_leastOf_0 8 rfl rfl)
theorem dX6_leastOf_9 : decode cX6_leastOf 9 = .ok (.aload_n 0, 1) := dk_42 (dk_at dksX6_leastOf_0 9 rfl rfl)
theorem dX6_leastOf_10 : decode cX6_leastOf 10 = .ok (.aload_n 0, 1) := dk_42 (dk_at dksX6_leastOf_0 10 rfl rfl)
theorem dX6_leastOf_11 : decode cX6_leastOf 11 = .ok (.getfield 28, 3) := dk_180 0 28 (dk_at dksX6_leastOf_0 11 rfl rfl)
theorem dX6_leastOf_14 : decode cX6_leastOf 14 = .ok (.bipush 39, 2) := dk_16 39 (dk_at dksX6_leastOf_0 14 rfl rfl)
theorem dX6_leastOf_16 : decode cX6_leastOf 16 = .ok (.iaload, 1) := dk_46 (dk_at dksX6_leastOf_0 16 rfl rfl)
theorem dX6_leastOf_17 : decode cX6_leastOf 17 = .ok (.aload_n 0, 1) := dk_42 (dk_at dksX6_leastOf_0 17 rfl rfl)
theorem dX6_leastOf_18 : decode cX6_leastOf 18 = .ok (.getfield 28, 3) := dk_180 0 28 (dk_at dksX6_leastOf_0 18 rfl rfl)
theorem dX6_leastOf_21 : decode cX6_leastOf 21 = .ok (.bipush 40, 2) := dk_16 40 (dk_at dksX6_leastOf_0 21 rfl rfl)
theorem dX6_leastOf_23 : decode cX6_leastOf 23 = .ok (.iaload, 1) := dk_46 (dk_at dksX6_leastOf_0 23 rfl rfl)
theorem dX6_leastOf_24 : decode cX6_leastOf 24 = .ok (.iload_n 1, 1) := dk_27 (dk_at dksX6_leastOf_1 0 rfl rfl)
theorem dX6_leastOf_25 : decode cX6_leastOf 25 = .ok (.invokevirtual 372, 3) := dk_182 1 116 (dk_at dksX6_leastOf_1 1 rfl rfl)
theorem dX6_leastOf_28 : decode cX6_leastOf 28 = .ok (.aload_n 0, 1) := dk_42 (dk_at dksX6_leastOf_1 4 rfl rfl)
theorem dX6_leastOf_29 : decode cX6_leastOf 29 = .ok (.iconst 0, 1) := dk_3 (dk_at dksX6_leastOf_1 5 rfl rfl)
theorem dX6_leastOf_30 : decode cX6_leastOf 30 = .ok (.iconst 0, 1) := dk_3 (dk_at dksX6_leastOf_1 6 rfl rfl)
theorem dX6_leastOf_31 : decode cX6_leastOf 31 = .ok (.aload_n 0, 1) := dk_42 (dk_at dksX6_leastOf_1 7 rfl rfl)
theorem dX6_leastOf_32 : decode cX6_leastOf 32 = .ok (.getfield 28, 3) := dk_180 0 28 (dk_at dksX6_leastOf_1 8 rfl rfl)
theorem dX6_leastOf_35 : decode cX6_leastOf 35 = .ok (.bipush 39, 2) := dk_16 39 (dk_at dksX6_leastOf_1 11 rfl rfl)
theorem dX6_leastOf_37 : decode cX6_leastOf 37 = .ok (.iaload, 1) := dk_46 (dk_at dksX6_leastOf_1 13 rfl rfl)
theorem dX6_leastOf_38 : decode cX6_leastOf 38 = .ok (.aload_n 0, 1) := dk_42 (dk_at dksX6_leastOf_1 14 rfl rfl)
theorem dX6_leastOf_39 : decode cX6_leastOf 39 = .ok (.getfield 28, 3) := dk_180 0 28 (dk_at dksX6_leastOf_1 15 rfl rfl)
theorem dX6_leastOf_42 : decode cX6_leastOf 42 = .ok (.bipush 40, 2) := dk_16 40 (dk_at dksX6_leastOf_1 18 rfl rfl)
theorem dX6_leastOf_44 : decode cX6_leastOf 44 = .ok (.iaload, 1) := dk_46 (dk_at dksX6_leastOf_1 20 rfl rfl)
theorem dX6_leastOf_45 : decode cX6_leastOf 45 = .ok (.iload_n 1, 1) := dk_27 (dk_at dksX6_leastOf_1 21 rfl rfl)
theorem dX6_leastOf_46 : decode cX6_leastOf 46 = .ok (.invokevirtual 360, 3) := dk_182 1 104 (dk_at dksX6_leastOf_2 0 rfl rfl)
theorem dX6_leastOf_49 : decode cX6_leastOf 49 = .ok (.istore_n 2, 1) := dk_61 (dk_at dksX6_leastOf_2 3 rfl rfl)
theorem dX6_leastOf_50 : decode cX6_leastOf 50 = .ok (.iload_n 2, 1) := dk_28 (dk_at dksX6_leastOf_2 4 rfl rfl)
theorem dX6_leastOf_51 : decode cX6_leastOf 51 = .ok (.ldc_w 364, 3) := dk_19 1 108 (dk_at dksX6_leastOf_2 5 rfl rfl)
theorem dX6_leastOf_54 : decode cX6_leastOf 54 = .ok (.if_icmp .lt 7, 3) := dk_161 0 7 (dk_at dksX6_leastOf_2 8 rfl rfl)
theorem dX6_leastOf_57 : decode cX6_leastOf 57 = .ok (.iconst (-1), 1) := dk_2 (dk_at dksX6_leastOf_2 11 rfl rfl)
theorem dX6_leastOf_58 : decode cX6_leastOf 58 = .ok (.goto 4, 3) := dk_167 0 4 (dk_at dksX6_leastOf_2 12 rfl rfl)
theorem dX6_leastOf_61 : decode cX6_leastOf 61 = .ok (.iload_n 2, 1) := dk_28 (dk_at dksX6_leastOf_2 15 rfl rfl)
theorem dX6_leastOf_62 : decode cX6_leastOf 62 = .ok (.ireturn, 1) := dk_172 (dk_at dksX6_leastOf_2 16 rfl rfl)
abbrev cX6_laysRest : ByteArray := prog_24_method_91_code
def yX6_laysRest : MethodName := ⟨RX6, "laysRest", "(IIZ)V"⟩
def dkwX6_laysRest_3 : List UInt8 := [132, 4, 255, 167, 255, 192, 177]
abbrev dktX6_laysRest_3 : List UInt8 := dkwX6_laysRest_3 ++ []
def dkwX6_laysRest_2 : List UInt8 := [167, 0, 16, 42, 21, 4, 4, 96, 21, 5, 27, 28, 29, 182, 1, 104, 79, 132, 5, 1, 167, 255, 206]
abbrev dktX6_laysRest_2 : List UInt8 := dkwX6_laysRest_2 ++ dktX6_laysRest_3
def dkwX6_laysRest_1 : List UInt8 := [180, 0, 81, 16, 25, 21, 4, 104, 21, 5, 96, 21, 4, 42, 182, 0, 112, 4, 100, 160, 0, 7, 3]
abbrev dktX6_laysRest_1 : List UInt8 := dkwX6_laysRest_1 ++ dktX6_laysRest_2
def dkwX6_laysRest_0 : List UInt8 := [42, 182, 0, 112, 4, 100, 54, 4, 21, 4, 155, 0, 65, 27, 54, 5, 21, 5, 28, 163, 0, 50, 42]
abbrev dktX6_laysRest_0 : List UInt8 := dkwX6_laysRest_0 ++ dktX6_laysRest_1
theorem dksX6_laysRest_0 : cX6_laysRest.data.toList.drop 0 = dktX6_laysRest_0 := by decide +kernel
theorem dksX6_laysRest_1 : cX6_laysRest.data.toList.drop 23 = dktX6_laysRest_1 := dk_seg dksX6_laysRest_0 23 rfl rfl
theorem dksX6_laysRest_2 : cX6_laysRest.data.toList.drop 46 = dktX6_laysRest_2 := dk_seg dksX6_laysRest_1 23 rfl rfl
theorem dksX6_laysRest_3 : cX6_laysRest.data.toList.drop 69 = dktX6_laysRest_3 := dk_seg dksX6_laysRest_2 23 rfl rfl
theorem dX6_laysRest_0 : decode cX6_laysRest 0 = .ok (.aload_n 0, 1) := dk_42 (dk_at dksX6_laysRest_0 0 rfl rfl)
theorem dX6_laysRest_1 : decode cX6_laysRest 1 = .ok (.invokevirtual 112, 3) := dk_182 0 112 (dk_at dksX6_laysRest_0 1 rfl rfl)
theorem dX6_laysRest_4 : decode cX6_laysRest 4 = .ok (.iconst 1, 1) := dk_4 (dk_at dksX6_laysRest_0 4 rfl rfl)
theorem dX6_laysRest_5 : decode cX6_laysRest 5 = .ok (.isub, 1) := dk_100 (dk_at dksX6_laysRest_0 5 rfl rfl)
theorem dX6_laysRest_6 : decode cX6_laysRest 6 = .ok (.istore 4, 2) := dk_54 4 (dk_at dksX6_laysRest_0 6 rfl rfl)
theorem dX6_laysRest_8 : decode cX6_laysRest 8 = .ok (.iload 4, 2) := dk_21 4 (dk_at dksX6_laysRest_0 8 rfl rfl)
theorem dX6_laysRest_10 : decode cX6_laysRest 10 = .ok (.ifCond .lt 65, 3) := dk_155 0 65 (dk_at dksX6_laysRest_0 10 rfl rfl)
theorem dX6_laysRest_13 : decode cX6_laysRest 13 = .ok (.iload_n 1, 1) := dk_27 (dk_at dksX6_laysRest_0 13 rfl rfl)
theorem dX6_laysRest_14 : decode cX6_laysRest 14 = .ok (.istore 5, 2) := dk_54 5 (dk_at dksX6_laysRest_0 14 rfl rfl)
theorem dX6_laysRest_16 : decode cX6_laysRest 16 = .ok (.iload 5, 2) := dk_21 5 (dk_at dksX6_laysRest_0 16 rfl rfl)
theorem dX6_laysRest_18 : decode cX6_laysRest 18 = .ok (.iload_n 2, 1) := dk_28 (dk_at dksX6_laysRest_0 18 rfl rfl)
theorem dX6_laysRest_19 : decode cX6_laysRest 19 = .ok (.if_icmp .gt 50, 3) := dk_163 0 50 (dk_at dksX6_laysRest_0 19 rfl rfl)
theorem dX6_laysRest_22 : decode cX6_laysRest 22 = .ok (.aload_n 0, 1) := dk_42 (dk_at dksX6_laysRest_0 22 rfl rfl)
theorem dX6_laysRest_23 : decode cX6_laysRest 23 = .ok (.getfield 81, 3) := dk_180 0 81 (dk_at dksX6_laysRest_1 0 rfl rfl)
theorem dX6_laysRest_26 : decode cX6_laysRest 26 = .ok (.bipush 25, 2) := dk_16 25 (dk_at dksX6_laysRest_1 3 rfl rfl)
theorem dX6_laysRest_28 : decode cX6_laysRest 28 = .ok (.iload 4, 2) := dk_21 4 (dk_at dksX6_laysRest_1 5 rfl rfl)
theorem dX6_laysRest_30 : decode cX6_laysRest 30 = .ok (.imul, 1) := dk_104 (dk_at dksX6_laysRest_1 7 rfl rfl)
theorem dX6_laysRest_31 : decode cX6_laysRest 31 = .ok (.iload 5, 2) := dk_21 5 (dk_at dksX6_laysRest_1 8 rfl rfl)
theorem dX6_laysRest_33 : decode cX6_laysRest 33 = .ok (.iadd, 1) := dk_96 (dk_at dksX6_laysRest_1 10 rfl rfl)
theorem dX6_laysRest_34 : decode cX6_laysRest 34 = .ok (.iload 4, 2) := dk_21 4 (dk_at dksX6_laysRest_1 11 rfl rfl)
theorem dX6_laysRest_36 : decode cX6_laysRest 36 = .ok (.aload_n 0, 1) := dk_42 (dk_at dksX6_laysRest_1 13 rfl rfl)
theorem dX6_laysRest_37 : decode cX6_laysRest 37 = .ok (.invokevirtual 112, 3) := dk_182 0 112 (dk_at dksX6_laysRest_1 14 rfl rfl)
theorem dX6_laysRest_40 : decode cX6_laysRest 40 = .ok (.iconst 1, 1) := dk_4 (dk_at dksX6_laysRest_1 17 rfl rfl)
theorem dX6_laysRest_41 : decode cX6_laysRest 41 = .ok (.isub, 1) := dk_100 (dk_at dksX6_laysRest_1 18 rfl rfl)
theorem dX6_laysRest_42 : decode cX6_laysRest 42 = .ok (.if_icmp .ne 7, 3) := dk_160 0 7 (dk_at dksX6_laysRest_1 19 rfl rfl)
theorem dX6_laysRest_45 : decode cX6_laysRest 45 = .ok (.iconst 0, 1) := dk_3 (dk_at dksX6_laysRest_1 22 rfl rfl)
theorem dX6_laysRest_46 : decode cX6_laysRest 46 = .ok (.goto 16, 3) := dk_167 0 16 (dk_at dksX6_laysRest_2 0 rfl rfl)
theorem dX6_laysRest_49 : decode cX6_laysRest 49 = .ok (.aload_n 0, 1) := dk_42 (dk_at dksX6_laysRest_2 3 rfl rfl)
theorem dX6_laysRest_50 : decode cX6_laysRest 50 = .ok (.iload 4, 2) := dk_21 4 (dk_at dksX6_laysRest_2 4 rfl rfl)
theorem dX6_laysRest_52 : decode cX6_laysRest 52 = .ok (.iconst 1, 1) := dk_4 (dk_at dksX6_laysRest_2 6 rfl rfl)
theorem dX6_laysRest_53 : decode cX6_laysRest 53 = .ok (.iadd, 1) := dk_96 (dk_at dksX6_laysRest_2 7 rfl rfl)
theorem dX6_laysRest_54 : decode cX6_laysRest 54 = .ok (.iload 5, 2) := dk_21 5 (dk_at dksX6_laysRest_2 8 rfl rfl)
theorem dX6_laysRest_56 : decode cX6_laysRest 56 = .ok (.iload_n 1, 1) := dk_27 (dk_at dksX6_laysRest_2 10 rfl rfl)
theorem dX6_laysRest_57 : decode cX6_laysRest 57 = .ok (.iload_n 2, 1) := dk_28 (dk_at dksX6_laysRest_2 11 rfl rfl)
theorem dX6_laysRest_58 : decode cX6_laysRest 58 = .ok (.iload_n 3, 1) := dk_29 (dk_at dksX6_laysRest_2 12 rfl rfl)
theorem dX6_laysRest_59 : decode cX6_laysRest 59 = .ok (.invokevirtual 360, 3) := dk_182 1 104 (dk_at dksX6_laysRest_2 13 rfl rfl)
theorem dX6_laysRest_62 : decode cX6_laysRest 62 = .ok (.iastore, 1) := dk_79 (dk_at dksX6_laysRest_2 16 rfl rfl)
theorem dX6_laysRest_63 : decode cX6_laysRest 63 = .ok (.iinc 5 1, 3) := dk_132 5 1 (dk_at dksX6_laysRest_2 17 rfl rfl)
theorem dX6_laysRest_66 : decode cX6_laysRest 66 = .ok (.goto (-50), 3) := dk_167 255 206 (dk_at dksX6_laysRest_2 20 rfl rfl)
theorem dX6_laysRest_69 : decode cX6_laysRest 69 = .ok (.iinc 4 (-1), 3) := dk_132 4 255 (dk_at dksX6_laysRest_3 0 rfl rfl)
theorem dX6_laysRest_72 : decode cX6_laysRest 72 = .ok (.goto (-64), 3) := dk_167 255 192 (dk_at dksX6_laysRest_3 3 rfl rfl)
theorem dX6_laysRest_75 : decode cX6_laysRest 75 = .ok (.return_, 1) := dk_177 (dk_at dksX6_laysRest_3 6 rfl rfl)
abbrev cX6_leastFrom : ByteArray := prog_24_method_93_code
def yX6_leastFrom : MethodName := ⟨RX6, "leastFrom", "(IIIIZ)I"⟩
def dkwX6_leastFrom_2 : List UInt8 := [16, 25, 27, 104, 21, 7, 96, 46, 96, 184, 1, 113, 54, 6, 132, 7, 1, 167, 255, 201, 21, 6, 172]
abbrev dktX6_leastFrom_2 : List UInt8 := dkwX6_leastFrom_2 ++ []
def dkwX6_leastFrom_1 : List UInt8 := [184, 1, 98, 51, 153, 0, 33, 21, 6, 42, 27, 28, 21, 7, 21, 5, 182, 1, 109, 42, 180, 0, 81]
abbrev dktX6_leastFrom_1 : List UInt8 := dkwX6_leastFrom_1 ++ dktX6_leastFrom_2
def dkwX6_leastFrom_0 : List UInt8 := [19, 1, 108, 54, 6, 29, 54, 7, 21, 7, 21, 4, 163, 0, 54, 42, 180, 0, 78, 27, 28, 21, 7]
abbrev dktX6_leastFrom_0 : List UInt8 := dkwX6_leastFrom_0 ++ dktX6_leastFrom_1
theorem dksX6_leastFrom_0 : cX6_leastFrom.data.toList.drop 0 = dktX6_leastFrom_0 := by decide +kernel
theorem dksX6_leastFrom_1 : cX6_leastFrom.data.toList.drop 23 = dktX6_leastFrom_1 := dk_seg dksX6_leastFrom_0 23 rfl rfl
theorem dksX6_leastFrom_2 : cX6_leastFrom.data.toList.drop 46 = dktX6_leastFrom_2 := dk_seg dksX6_leastFrom_1 23 rfl rfl
theorem dX6_leastFrom_0 : decode cX6_leastFrom 0 = .ok (.ldc_w 364, 3) := dk_19 1 108 (dk_at dksX6_leastFrom_0 0 rfl rfl)
theorem dX6_leastFrom_3 : decode cX6_leastFrom 3 = .ok (.istore 6, 2) := dk_54 6 (dk_at dksX6_leastFrom_0 3 rfl rfl)
theorem dX6_leastFrom_5 : decode cX6_leastFrom 5 = .ok (.iload_n 3, 1) := dk_29 (dk_at dksX6_leastFrom_0 5 rfl rfl)
theorem dX6_leastFrom_6 : decode cX6_leastFrom 6 = .ok (.istore 7, 2) := dk_54 7 (dk_at dksX6_leastFrom_0 6 rfl rfl)
theorem dX6_leastFrom_8 : decode cX6_leastFrom 8 = .ok (.iload 7, 2) := dk_21 7 (dk_at dksX6_leastFrom_0 8 rfl rfl)
theorem dX6_leastFrom_10 : decode cX6_leastFrom 10 = .ok (.iload 4, 2) := dk_21 4 (dk_at dksX6_leastFrom_0 10 rfl rfl)
theorem dX6_leastFrom_12 : decode cX6_leastFrom 12 = .ok (.if_icmp .gt 54, 3) := dk_163 0 54 (dk_at dksX6_leastFrom_0 12 rfl rfl)
theorem dX6_leastFrom_15 : decode cX6_leastFrom 15 = .ok (.aload_n 0, 1) := dk_42 (dk_at dksX6_leastFrom_0 15 rfl rfl)
theorem dX6_leastFrom_16 : decode cX6_leastFrom 16 = .ok (.getfield 78, 3) := dk_180 0 78 (dk_at dksX6_leastFrom_0 16 rfl rfl)
theorem dX6_leastFrom_19 : decode cX6_leastFrom 19 = .ok (.iload_n 1, 1) := dk_27 (dk_at dksX6_leastFrom_0 19 rfl rfl)
theorem dX6_leastFrom_20 : decode cX6_leastFrom 20 = .ok (.iload_n 2, 1) := dk_28 (dk_at dksX6_leastFrom_0 20 rfl rfl)
theorem dX6_leastFrom_21 : decode cX6_leastFrom 21 = .ok (.iload 7, 2) := dk_21 7 (dk_at dksX6_leastFrom_0 21 rfl rfl)
theorem dX6_leastFrom_23 : decode cX6_leastFrom 23 = .ok (.invokestatic 354, 3) := dk_184 1 98 (dk_at dksX6_leastFrom_1 0 rfl rfl)
theorem dX6_leastFrom_26 : decode cX6_leastFrom 26 = .ok (.baload, 1) := dk_51 (dk_at dksX6_leastFrom_1 3 rfl rfl)
theorem dX6_leastFrom_27 : decode cX6_leastFrom 27 = .ok (.ifCond .eq 33, 3) := dk_153 0 33 (dk_at dksX6_leastFrom_1 4 rfl rfl)
theorem dX6_leastFrom_30 : decode cX6_leastFrom 30 = .ok (.iload 6, 2) := dk_21 6 (dk_at dksX6_leastFrom_1 7 rfl rfl)
theorem dX6_leastFrom_32 : decode cX6_leastFrom 32 = .ok (.aload_n 0, 1) := dk_42 (dk_at dksX6_leastFrom_1 9 rfl rfl)
theorem dX6_leastFrom_33 : decode cX6_leastFrom 33 = .ok (.iload_n 1, 1) := dk_27 (dk_at dksX6_leastFrom_1 10 rfl rfl)
theorem dX6_leastFrom_34 : decode cX6_leastFrom 34 = .ok (.iload_n 2, 1) := dk_28 (dk_at dksX6_leastFrom_1 11 rfl rfl)
theorem dX6_leastFrom_35 : decode cX6_leastFrom 35 = .ok (.iload 7, 2) := dk_21 7 (dk_at dksX6_leastFrom_1 12 rfl rfl)
theorem dX6_leastFrom_37 : decode cX6_leastFrom 37 = .ok (.iload 5, 2) := dk_21 5 (dk_at dksX6_leastFrom_1 14 rfl rfl)
theorem dX6_leastFrom_39 : decode cX6_leastFrom 39 = .ok (.invokevirtual 365, 3) := dk_182 1 109 (dk_at dksX6_leastFrom_1 16 rfl rfl)
theorem dX6_leastFrom_42 : decode cX6_leastFrom 42 = .ok (.aload_n 0, 1) := dk_42 (dk_at dksX6_leastFrom_1 19 rfl rfl)
theorem dX6_leastFrom_43 : decode cX6_leastFrom 43 = .ok (.getfield 81, 3) := dk_180 0 81 (dk_at dksX6_leastFrom_1 20 rfl rfl)
theorem dX6_leastFrom_46 : decode cX6_leastFrom 46 = .ok (.bipush 25, 2) := dk_16 25 (dk_at dksX6_leastFrom_2 0 rfl rfl)
theorem dX6_leastFrom_48 : decode cX6_leastFrom 48 = .ok (.iload_n 1, 1) := dk_27 (dk_at dksX6_leastFrom_2 2 rfl rfl)
theorem dX6_leastFrom_49 : decode cX6_leastFrom 49 = .ok (.imul, 1) := dk_104 (dk_at dksX6_leastFrom_2 3 rfl rfl)
theorem dX6_leastFrom_50 : decode cX6_leastFrom 50 = .ok (.iload 7, 2) := dk_21 7 (dk_at dksX6_leastFrom_2 4 rfl rfl)
theorem dX6_leastFrom_52 : decode cX6_leastFrom 52 = .ok (.iadd, 1) := dk_96 (dk_at dksX6_leastFrom_2 6 rfl rfl)
theorem dX6_leastFrom_53 : decode cX6_leastFrom 53 = .ok (.iaload, 1) := dk_46 (dk_at dksX6_leastFrom_2 7 rfl rfl)
theorem dX6_leastFrom_54 : decode cX6_leastFrom 54 = .ok (.iadd, 1) := dk_96 (dk_at dksX6_leastFrom_2 8 rfl rfl)
theorem dX6_leastFrom_55 : decode cX6_leastFrom 55 = .ok (.invokestatic 369, 3) := dk_184 1 113 (dk_at dksX6_leastFrom_2 9 rfl rfl)
theorem dX6_leastFrom_58 : decode cX6_leastFrom 58 = .ok (.istore 6, 2) := dk_54 6 (dk_at dksX6_leastFrom_2 12 rfl rfl)
theorem dX6_leastFrom_60 : decode cX6_leastFrom 60 = .ok (.iinc 7 1, 3) := dk_132 7 1 (dk_at dksX6_leastFrom_2 14 rfl rfl)
theorem dX6_leastFrom_63 : decode cX6_leastFrom 63 = .ok (.goto (-55), 3) := dk_167 255 201 (dk_at dksX6_leastFrom_2 17 rfl rfl)
theorem dX6_leastFrom_66 : decode cX6_leastFrom 66 = .ok (.iload 6, 2) := dk_21 6 (dk_at dksX6_leastFrom_2 20 rfl rfl)
theorem dX6_leastFrom_68 : decode cX6_leastFrom 68 = .ok (.ireturn, 1) := dk_172 (dk_at dksX6_leastFrom_2 22 rfl rfl)
abbrev cX6_priceOf : ByteArray := prog_24_method_92_code
def yX6_priceOf : MethodName := ⟨RX6, "priceOf", "(IIIZ)I"⟩
def dkwX6_priceOf_1 : List UInt8 := [180, 0, 72, 27, 28, 29, 184, 1, 98, 46, 172]
abbrev dktX6_priceOf_1 : List UInt8 := dkwX6_priceOf_1 ++ []
def dkwX6_priceOf_0 : List UInt8 := [21, 4, 153, 0, 21, 29, 42, 180, 0, 28, 3, 27, 96, 46, 160, 0, 7, 3, 167, 0, 4, 4, 172, 42]
abbrev dktX6_priceOf_0 : List UInt8 := dkwX6_priceOf_0 ++ dktX6_priceOf_1
theorem dksX6_priceOf_0 : cX6_priceOf.data.toList.drop 0 = dktX6_priceOf_0 := by decide +kernel
theorem dksX6_priceOf_1 : cX6_priceOf.data.toList.drop 24 = dktX6_priceOf_1 := dk_seg dksX6_priceOf_0 24 rfl rfl
theorem dX6_priceOf_0 : decode cX6_priceOf 0 = .ok (.iload 4, 2) := dk_21 4 (dk_at dksX6_priceOf_0 0 rfl rfl)
theorem dX6_priceOf_2 : decode cX6_priceOf 2 = .ok (.ifCond .eq 21, 3) := dk_153 0 21 (dk_at dksX6_priceOf_0 2 rfl rfl)
theorem dX6_priceOf_5 : decode cX6_priceOf 5 = .ok (.iload_n 3, 1) := dk_29 (dk_at dksX6_priceOf_0 5 rfl rfl)
theorem dX6_priceOf_6 : decode cX6_priceOf 6 = .ok (.aload_n 0, 1) := dk_42 (dk_at dksX6_priceOf_0 6 rfl rfl)
theorem dX6_priceOf_7 : decode cX6_priceOf 7 = .ok (.getfield 28, 3) := dk_180 0 28 (dk_at dksX6_priceOf_0 7 rfl rfl)
theorem dX6_priceOf_10 : decode cX6_priceOf 10 = .ok (.iconst 0, 1) := dk_3 (dk_at dksX6_priceOf_0 10 rfl rfl)
theorem dX6_priceOf_11 : decode cX6_priceOf 11 = .ok (.iload_n 1, 1) := dk_27 (dk_at dksX6_priceOf_0 11 rfl rfl)
theorem dX6_priceOf_12 : decode cX6_priceOf 12 = .ok (.iadd, 1) := dk_96 (dk_at dksX6_priceOf_0 12 rfl rfl)
theorem dX6_priceOf_13 : decode cX6_priceOf 13 = .ok (.iaload, 1) := dk_46 (dk_at dksX6_priceOf_0 13 rfl rfl)
theorem dX6_priceOf_14 : decode cX6_priceOf 14 = .ok (.if_icmp .ne 7, 3) := dk_160 0 7 (dk_at dksX6_priceOf_0 14 rfl rfl)
theorem dX6_priceOf_17 : decode cX6_priceOf 17 = .ok (.iconst 0, 1) := dk_3 (dk_at dksX6_priceOf_0 17 rfl rfl)
theorem dX6_priceOf_18 : decode cX6_priceOf 18 = .ok (.goto 4, 3) := dk_167 0 4 (dk_at dksX6_priceOf_0 18 rfl rfl)
theorem dX6_priceOf_21 : decode cX6_priceOf 21 = .ok (.iconst 1, 1) := dk_4 (dk_at dksX6_priceOf_0 21 rfl rfl)
theorem dX6_priceOf_22 : decode cX6_priceOf 22 = .ok (.ireturn, 1) := dk_172 (dk_at dksX6_priceOf_0 22 rfl rfl)
theorem dX6_priceOf_23 : decode cX6_priceOf 23 = .ok (.aload_n 0, 1) := dk_42 (dk_at dksX6_priceOf_0 23 rfl rfl)
theorem dX6_priceOf_24 : decode cX6_priceOf 24 = .ok (.getfield 72, 3) := dk_180 0 72 (dk_at dksX6_priceOf_1 0 rfl rfl)
theorem dX6_priceOf_27 : decode cX6_priceOf 27 = .ok (.iload_n 1, 1) := dk_27 (dk_at dksX6_priceOf_1 3 rfl rfl)
theorem dX6_priceOf_28 : decode cX6_priceOf 28 = .ok (.iload_n 2, 1) := dk_28 (dk_at dksX6_priceOf_1 4 rfl rfl)
theorem dX6_priceOf_29 : decode cX6_priceOf 29 = .ok (.iload_n 3, 1) := dk_29 (dk_at dksX6_priceOf_1 5 rfl rfl)
theorem dX6_priceOf_30 : decode cX6_priceOf 30 = .ok (.invokestatic 354, 3) := dk_184 1 98 (dk_at dksX6_priceOf_1 6 rfl rfl)
theorem dX6_priceOf_33 : decode cX6_priceOf 33 = .ok (.iaload, 1) := dk_46 (dk_at dksX6_priceOf_1 9 rfl rfl)
theorem dX6_priceOf_34 : decode cX6_priceOf 34 = .ok (.ireturn, 1) := dk_172 (dk_at dksX6_priceOf_1 10 rfl rfl)
abbrev cX6_lesser : ByteArray := prog_24_method_2_code
def yX6_lesser : MethodName := ⟨RX6, "lesser", "(II)I"⟩
def dkwX6_lesser_0 : List UInt8 := [26, 27, 162, 0, 7, 26, 167, 0, 4, 27, 172]
abbrev dktX6_lesser_0 : List UInt8 := dkwX6_lesser_0 ++ []
theorem dksX6_lesser_0 : cX6_lesser.data.toList.drop 0 = dktX6_lesser_0 := by decide +kernel
theorem dX6_lesser_0 : decode cX6_lesser 0 = .ok (.iload_n 0, 1) := dk_26 (dk_at dksX6_lesser_0 0 rfl rfl)
theorem dX6_lesser_1 : decode cX6_lesser 1 = .ok (.iload_n 1, 1) := dk_27 (dk_at dksX6_lesser_0 1 rfl rfl)
theorem dX6_lesser_2 : decode cX6_lesser 2 = .ok (.if_icmp .ge 7, 3) := dk_162 0 7 (dk_at dksX6_lesser_0 2 rfl rfl)
theorem dX6_lesser_5 : decode cX6_lesser 5 = .ok (.iload_n 0, 1) := dk_26 (dk_at dksX6_lesser_0 5 rfl rfl)
theorem dX6_lesser_6 : decode cX6_lesser 6 = .ok (.goto 4, 3) := dk_167 0 4 (dk_at dksX6_lesser_0 6 rfl rfl)
theorem dX6_lesser_9 : decode cX6_lesser 9 = .ok (.iload_n 1, 1) := dk_27 (dk_at dksX6_lesser_0 9 rfl rfl)
theorem dX6_lesser_10 : decode cX6_lesser 10 = .ok (.ireturn, 1) := dk_172 (dk_at dksX6_lesser_0 10 rfl rfl)
abbrev cX6_pitchOf : ByteArray := prog_24_method_95_code
def yX6_pitchOf : MethodName := ⟨RX6, "pitchOf", "(IZ)I"⟩
def dkwX6_pitchOf_4 : List UInt8 := [132, 6, 1, 167, 255, 208, 21, 6, 62, 132, 4, 1, 167, 255, 160, 29, 172]
abbrev dktX6_pitchOf_4 : List UInt8 := dkwX6_pitchOf_4 ++ []
def dkwX6_pitchOf_3 : List UInt8 := [182, 1, 109, 42, 180, 0, 81, 16, 25, 21, 4, 104, 21, 6, 96, 46, 96, 21, 5, 159, 0, 9]
abbrev dktX6_pitchOf_3 : List UInt8 := dkwX6_pitchOf_3 ++ dktX6_pitchOf_4
def dkwX6_pitchOf_2 : List UInt8 := [180, 0, 78, 21, 4, 29, 21, 6, 184, 1, 98, 51, 153, 0, 32, 42, 21, 4, 29, 21, 6, 28]
abbrev dktX6_pitchOf_2 : List UInt8 := dkwX6_pitchOf_2 ++ dktX6_pitchOf_3
def dkwX6_pitchOf_1 : List UInt8 := [180, 0, 28, 16, 40, 46, 28, 182, 1, 104, 54, 5, 42, 180, 0, 28, 16, 39, 46, 54, 6, 42]
abbrev dktX6_pitchOf_1 : List UInt8 := dkwX6_pitchOf_1 ++ dktX6_pitchOf_2
def dkwX6_pitchOf_0 : List UInt8 := [3, 62, 3, 54, 4, 21, 4, 27, 163, 0, 96, 42, 21, 4, 29, 42, 180, 0, 28, 16, 39, 46, 42]
abbrev dktX6_pitchOf_0 : List UInt8 := dkwX6_pitchOf_0 ++ dktX6_pitchOf_1
theorem dksX6_pitchOf_0 : cX6_pitchOf.data.toList.drop 0 = dktX6_pitchOf_0 := by decide +kernel
theorem dksX6_pitchOf_1 : cX6_pitchOf.data.toList.drop 23 = dktX6_pitchOf_1 := dk_seg dksX6_pitchOf_0 23 rfl rfl
theorem dksX6_pitchOf_2 : cX6_pitchOf.data.toList.drop 45 = dktX6_pitchOf_2 := dk_seg dksX6_pitchOf_1 22 rfl rfl
theorem dksX6_pitchOf_3 : cX6_pitchOf.data.toList.drop 67 = dktX6_pitchOf_3 := dk_seg dksX6_pitchOf_2 22 rfl rfl
theorem dksX6_pitchOf_4 : cX6_pitchOf.data.toList.drop 89 = dktX6_pitchOf_4 := dk_seg dksX6_pitchOf_3 22 rfl rfl
theorem dX6_pitchOf_0 : decode cX6_pitchOf 0 = .ok (.iconst 0, 1) := dk_3 (dk_at dksX6_pitchOf_0 0 rfl rfl)
theorem dX6_pitchOf_1 : decode cX6_pitchOf 1 = .ok (.istore_n 3, 1) := dk_62 (dk_at dksX6_pitchOf_0 1 rfl rfl)
theorem dX6_pitchOf_2 : decode cX6_pitchOf 2 = .ok (.iconst 0, 1) := dk_3 (dk_at dksX6_pitchOf_0 2 rfl rfl)
theorem dX6_pitchOf_3 : decode cX6_pitchOf 3 = .ok (.istore 4, 2) := dk_54 4 (dk_at dksX6_pitchOf_0 3 rfl rfl)
theorem dX6_pitchOf_5 : decode cX6_pitchOf 5 = .ok (.iload 4, 2) := dk_21 4 (dk_at dksX6_pitchOf_0 5 rfl rfl)
theorem dX6_pitchOf_7 : decode cX6_pitchOf 7 = .ok (.iload_n 1, 1) := dk_27 (dk_at dksX6_pitchOf_0 7 rfl rfl)
theorem dX6_pitchOf_8 : decode cX6_pitchOf 8 = .ok (.if_icmp .gt 96, 3) := dk_163 0 96 (dk_at dksX6_pitchOf_0 8 rfl rfl)
theorem dX6_pitchOf_11 : decode cX6_pitchOf 11 = .ok (.aload_n 0, 1) := dk_42 (dk_at dksX6_pitchOf_0 11 rfl rfl)
theorem dX6_pitchOf_12 : decode cX6_pitchOf 12 = .ok (.iload 4, 2) := dk_21 4 (dk_at dksX6_pitchOf_0 12 rfl rfl)
theorem dX6_pitchOf_14 : decode cX6_pitchOf 14 = .ok (.iload_n 3, 1) := dk_29 (dk_at dksX6_pitchOf_0 14 rfl rfl)
theorem dX6_pitchOf_15 : decode cX6_pitchOf 15 = .ok (.aload_n 0, 1) := dk_42 (dk_at dksX6_pitchOf_0 15 rfl rfl)
theorem dX6_pitchOf_16 : decode cX6_pitchOf 16 = .ok (.getfield 28, 3) := dk_180 0 28 (dk_at dksX6_pitchOf_0 16 rfl rfl)
theorem dX6_pitchOf_19 : decode cX6_pitchOf 19 = .ok (.bipush 39, 2) := dk_16 39 (dk_at dksX6_pitchOf_0 19 rfl rfl)
theorem dX6_pitchOf_21 : decode cX6_pitchOf 21 = .ok (.iaload, 1) := dk_46 (dk_at dksX6_pitchOf_0 21 rfl rfl)
theorem dX6_pitchOf_22 : decode cX6_pitchOf 22 = .ok (.aload_n 0, 1) := dk_42 (dk_at dksX6_pitchOf_0 22 rfl rfl)
theorem dX6_pitchOf_23 : decode cX6_pitchOf 23 = .ok (.getfield 28, 3) := dk_180 0 28 (dk_at dksX6_pitchOf_1 0 rfl rfl)
theorem dX6_pitchOf_26 : decode cX6_pitchOf 26 = .ok (.bipush 40, 2) := dk_16 40 (dk_at dksX6_pitchOf_1 3 rfl rfl)
theorem dX6_pitchOf_28 : decode cX6_pitchOf 28 = .ok (.iaload, 1) := dk_46 (dk_at dksX6_pitchOf_1 5 rfl rfl)
theorem dX6_pitchOf_29 : decode cX6_pitchOf 29 = .ok (.iload_n 2, 1) := dk_28 (dk_at dksX6_pitchOf_1 6 rfl rfl)
theorem dX6_pitchOf_30 : decode cX6_pitchOf 30 = .ok (.invokevirtual 360, 3) := dk_182 1 104 (dk_at dksX6_pitchOf_1 7 rfl rfl)
theorem dX6_pitchOf_33 : decode cX6_pitchOf 33 = .ok (.istore 5, 2) := dk_54 5 (dk_at dksX6_pitchOf_1 10 rfl rfl)
theorem dX6_pitchOf_35 : decode cX6_pitchOf 35 = .ok (.aload_n 0, 1) := dk_42 (dk_at dksX6_pitchOf_1 12 rfl rfl)
theorem dX6_pitchOf_36 : decode cX6_pitchOf 36 = .ok (.getfield 28, 3) := dk_180 0 28 (dk_at dksX6_pitchOf_1 13 rfl rfl)
theorem dX6_pitchOf_39 : decode cX6_pitchOf 39 = .ok (.bipush 39, 2) := dk_16 39 (dk_at dksX6_pitchOf_1 16 rfl rfl)
theorem dX6_pitchOf_41 : decode cX6_pitchOf 41 = .ok (.iaload, 1) := dk_46 (dk_at dksX6_pitchOf_1 18 rfl rfl)
theorem dX6_pitchOf_42 : decode cX6_pitchOf 42 = .ok (.istore 6, 2) := dk_54 6 (dk_at dksX6_pitchOf_1 19 rfl rfl)
theorem dX6_pitchOf_44 : decode cX6_pitchOf 44 = .ok (.aload_n 0, 1) := dk_42 (dk_at dksX6_pitchOf_1 21 rfl rfl)
theorem dX6_pitchOf_45 : decode cX6_pitchOf 45 = .ok (.getfield 78, 3) := dk_180 0 78 (dk_at dksX6_pitchOf_2 0 rfl rfl)
theorem dX6_pitchOf_48 : decode cX6_pitchOf 48 = .ok (.iload 4, 2) := dk_21 4 (dk_at dksX6_pitchOf_2 3 rfl rfl)
theorem dX6_pitchOf_50 : decode cX6_pitchOf 50 = .ok (.iload_n 3, 1) := dk_29 (dk_at dksX6_pitchOf_2 5 rfl rfl)
theorem dX6_pitchOf_51 : decode cX6_pitchOf 51 = .ok (.iload 6, 2) := dk_21 6 (dk_at dksX6_pitchOf_2 6 rfl rfl)
theorem dX6_pitchOf_53 : decode cX6_pitchOf 53 = .ok (.invokestatic 354, 3) := dk_184 1 98 (dk_at dksX6_pitchOf_2 8 rfl rfl)
theorem dX6_pitchOf_56 : decode cX6_pitchOf 56 = .ok (.baload, 1) := dk_51 (dk_at dksX6_pitchOf_2 11 rfl rfl)
theorem dX6_pitchOf_57 : decode cX6_pitchOf 57 = .ok (.ifCond .eq 32, 3) := dk_153 0 32 (dk_at dksX6_pitchOf_2 12 rfl rfl)
theorem dX6_pitchOf_60 : decode cX6_pitchOf 60 = .ok (.aload_n 0, 1) := dk_42 (dk_at dksX6_pitchOf_2 15 rfl rfl)
theorem dX6_pitchOf_61 : decode cX6_pitchOf 61 = .ok (.iload 4, 2) := dk_21 4 (dk_at dksX6_pitchOf_2 16 rfl rfl)
theorem dX6_pitchOf_63 : decode cX6_pitchOf 63 = .ok (.iload_n 3, 1) := dk_29 (dk_at dksX6_pitchOf_2 18 rfl rfl)
theorem dX6_pitchOf_64 : decode cX6_pitchOf 64 = .ok (.iload 6, 2) := dk_21 6 (dk_at dksX6_pitchOf_2 19 rfl rfl)
theorem dX6_pitchOf_66 : decode cX6_pitchOf 66 = .ok (.iload_n 2, 1) := dk_28 (dk_at dksX6_pitchOf_2 21 rfl rfl)
theorem dX6_pitchOf_67 : decode cX6_pitchOf 67 = .ok (.invokevirtual 365, 3) := dk_182 1 109 (dk_at dksX6_pitchOf_3 0 rfl rfl)
theorem dX6_pitchOf_70 : decode cX6_pitchOf 70 = .ok (.aload_n 0, 1) := dk_42 (dk_at dksX6_pitchOf_3 3 rfl rfl)
theorem dX6_pitchOf_71 : decode cX6_pitchOf 71 = .ok (.getfield 81, 3) := dk_180 0 81 (dk_at dksX6_pitchOf_3 4 rfl rfl)
theorem dX6_pitchOf_74 : decode cX6_pitchOf 74 = .ok (.bipush 25, 2) := dk_16 25 (dk_at dksX6_pitchOf_3 7 rfl rfl)
theorem dX6_pitchOf_76 : decode cX6_pitchOf 76 = .ok (.iload 4, 2) := dk_21 4 (dk_at dksX6_pitchOf_3 9 rfl rfl)
theorem dX6_pitchOf_78 : decode cX6_pitchOf 78 = .ok (.imul, 1) := dk_104 (dk_at dksX6_pitchOf_3 11 rfl rfl)
theorem dX6_pitchOf_79 : decode cX6_pitchOf 79 = .ok (.iload 6, 2) := dk_21 6 (dk_at dksX6_pitchOf_3 12 rfl rfl)
theorem dX6_pitchOf_81 : decode cX6_pitchOf 81 = .ok (.iadd, 1) := dk_96 (dk_at dksX6_pitchOf_3 14 rfl rfl)
theorem dX6_pitchOf_82 : decode cX6_pitchOf 82 = .ok (.iaload, 1) := dk_46 (dk_at dksX6_pitchOf_3 15 rfl rfl)
theorem dX6_pitchOf_83 : decode cX6_pitchOf 83 = .ok (.iadd, 1) := dk_96 (dk_at dksX6_pitchOf_3 16 rfl rfl)
theorem dX6_pitchOf_84 : decode cX6_pitchOf 84 = .ok (.iload 5, 2) := dk_21 5 (dk_at dksX6_pitchOf_3 17 rfl rfl)
theorem dX6_pitchOf_86 : decode cX6_pitchOf 86 = .ok (.if_icmp .eq 9, 3) := dk_159 0 9 (dk_at dksX6_pitchOf_3 19 rfl rfl)
theorem dX6_pitchOf_89 : decode cX6_pitchOf 89 = .ok (.iinc 6 1, 3) := dk_132 6 1 (dk_at dksX6_pitchOf_4 0 rfl rfl)
theorem dX6_pitchOf_92 : decode cX6_pitchOf 92 = .ok (.goto (-48), 3) := dk_167 255 208 (dk_at dksX6_pitchOf_4 3 rfl rfl)
theorem dX6_pitchOf_95 : decode cX6_pitchOf 95 = .ok (.iload 6, 2) := dk_21 6 (dk_at dksX6_pitchOf_4 6 rfl rfl)
theorem dX6_pitchOf_97 : decode cX6_pitchOf 97 = .ok (.istore_n 3, 1) := dk_62 (dk_at dksX6_pitchOf_4 8 rfl rfl)
theorem dX6_pitchOf_98 : decode cX6_pitchOf 98 = .ok (.iinc 4 1, 3) := dk_132 4 1 (dk_at dksX6_pitchOf_4 9 rfl rfl)
theorem dX6_pitchOf_101 : decode cX6_pitchOf 101 = .ok (.goto (-96), 3) := dk_167 255 160 (dk_at dksX6_pitchOf_4 12 rfl rfl)
theorem dX6_pitchOf_104 : decode cX6_pitchOf 104 = .ok (.iload_n 3, 1) := dk_29 (dk_at dksX6_pitchOf_4 15 rfl rfl)
theorem dX6_pitchOf_105 : decode cX6_pitchOf 105 = .ok (.ireturn, 1) := dk_172 (dk_at dksX6_pitchOf_4 16 rfl rfl)
abbrev cX6_mend : ByteArray := prog_24_method_98_code
def yX6_mend : MethodName := ⟨RX6, "mend", "(I)I"⟩
def dkwX6_mend_0 : List UInt8 := [42, 27, 4, 182, 1, 131, 172]
abbrev dktX6_mend_0 : List UInt8 := dkwX6_mend_0 ++ []
theorem dksX6_mend_0 : cX6_mend.data.toList.drop 0 = dktX6_mend_0 := by decide +kernel
theorem dX6_mend_0 : decode cX6_mend 0 = .ok (.aload_n 0, 1) := dk_42 (dk_at dksX6_mend_0 0 rfl rfl)
theorem dX6_mend_1 : decode cX6_mend 1 = .ok (.iload_n 1, 1) := dk_27 (dk_at dksX6_mend_0 1 rfl rfl)
theorem dX6_mend_2 : decode cX6_mend 2 = .ok (.iconst 1, 1) := dk_4 (dk_at dksX6_mend_0 2 rfl rfl)
theorem dX6_mend_3 : decode cX6_mend 3 = .ok (.invokevirtual 387, 3) := dk_182 1 131 (dk_at dksX6_mend_0 3 rfl rfl)
theorem dX6_mend_6 : decode cX6_mend 6 = .ok (.ireturn, 1) := dk_172 (dk_at dksX6_mend_0 6 rfl rfl)
abbrev cX6_between : ByteArray := prog_24_method_100_code
def yX6_between : MethodName := ⟨RX6, "between", "(II)I"⟩
def dkwX6_between_8 : List UInt8 := [167, 0, 5, 21, 4, 172]
abbrev dktX6_between_8 : List UInt8 := dkwX6_between_8 ++ []
def dkwX6_between_7 : List UInt8 := [180, 0, 81, 27, 46, 96, 167, 0, 6, 19, 1, 108, 54, 4, 21, 4, 19, 1, 108, 161, 0, 7, 2]
abbrev dktX6_between_7 : List UInt8 := dkwX6_between_7 ++ dktX6_between_8
def dkwX6_between_6 : List UInt8 := [3, 3, 27, 184, 1, 98, 51, 153, 0, 24, 42, 180, 0, 72, 3, 3, 27, 184, 1, 98, 46, 42]
abbrev dktX6_between_6 : List UInt8 := dkwX6_between_6 ++ dktX6_between_7
def dkwX6_between_5 : List UInt8 := [16, 40, 46, 3, 182, 1, 104, 79, 132, 5, 1, 167, 255, 181, 132, 4, 255, 167, 255, 161, 42, 180, 0, 78]
abbrev dktX6_between_5 : List UInt8 := dkwX6_between_5 ++ dktX6_between_6
def dkwX6_between_4 : List UInt8 := [19, 1, 108, 167, 0, 28, 42, 21, 4, 4, 96, 21, 5, 42, 180, 0, 28, 16, 39, 46, 42, 180, 0, 28]
abbrev dktX6_between_4 : List UInt8 := dkwX6_between_4 ++ dktX6_between_5
def dkwX6_between_3 : List UInt8 := [21, 4, 104, 21, 5, 96, 21, 4, 29, 160, 0, 19, 21, 5, 28, 160, 0, 7, 3, 167, 0, 34]
abbrev dktX6_between_3 : List UInt8 := dkwX6_between_3 ++ dktX6_between_4
def dkwX6_between_2 : List UInt8 := [16, 39, 46, 54, 5, 21, 5, 42, 180, 0, 28, 16, 40, 46, 163, 0, 69, 42, 180, 0, 81, 16, 25]
abbrev dktX6_between_2 : List UInt8 := dkwX6_between_2 ++ dktX6_between_3
def dkwX6_between_1 : List UInt8 := [172, 42, 182, 1, 120, 42, 182, 0, 112, 4, 100, 62, 29, 54, 4, 21, 4, 155, 0, 96, 42, 180, 0, 28]
abbrev dktX6_between_1 : List UInt8 := dkwX6_between_1 ++ dktX6_between_2
def dkwX6_between_0 : List UInt8 := [42, 182, 0, 112, 153, 0, 19, 42, 27, 182, 1, 134, 153, 0, 11, 42, 28, 182, 1, 134, 154, 0, 5, 2]
abbrev dktX6_between_0 : List UInt8 := dkwX6_between_0 ++ dktX6_between_1
theorem dksX6_between_0 : cX6_between.data.toList.drop 0 = dktX6_between_0 := by decide +kernel
theorem dksX6_between_1 : cX6_between.data.toList.drop 24 = dktX6_between_1 := dk_seg dksX6_between_0 24 rfl rfl
theorem dksX6_between_2 : cX6_between.data.toList.drop 48 = dktX6_between_2 := dk_seg dksX6_between_1 24 rfl rfl
theorem dksX6_between_3 : cX6_between.data.toList.drop 71 = dktX6_between_3 := dk_seg dksX6_between_2 23 rfl rfl
theorem dksX6_between_4 : cX6_between.data.toList.drop 93 = dktX6_between_4 := dk_seg dksX6_between_3 22 rfl rfl
theorem dksX6_between_5 : cX6_between.data.toList.drop 117 = dktX6_between_5 := dk_seg dksX6_between_4 24 rfl rfl
theorem dksX6_between_6 : cX6_between.data.toList.drop 141 = dktX6_between_6 := dk_seg dksX6_between_5 24 rfl rfl
theorem dksX6_between_7 : cX6_between.data.toList.drop 163 = dktX6_between_7 := dk_seg dksX6_between_6 22 rfl rfl
theorem dksX6_between_8 : cX6_between.data.toList.drop 186 = dktX6_between_8 := dk_seg dksX6_between_7 23 rfl rfl
theorem dX6_between_0 : decode cX6_between 0 = .ok (.aload_n 0, 1) := dk_42 (dk_at dksX6_between_0 0 rfl rfl)
theorem dX6_between_1 : decode cX6_between 1 = .ok (.invokevirtual 112, 3) := dk_182 0 112 (dk_at dksX6_between_0 1 rfl rfl)
theorem dX6_between_4 : decode cX6_between 4 = .ok (.ifCond .eq 19, 3) := dk_153 0 19 (dk_at dksX6_between_0 4 rfl rfl)
theorem dX6_between_7 : decode cX6_between 7 = .ok (.aload_n 0, 1) := dk_42 (dk_at dksX6_between_0 7 rfl rfl)
theorem dX6_between_8 : decode cX6_between 8 = .ok (.iload_n 1, 1) := dk_27 (dk_at dksX6_between_0 8 rfl rfl)
theorem dX6_between_9 : decode cX6_between 9 = .ok (.invokevirtual 390, 3) := dk_182 1 134 (dk_at dksX6_between_0 9 rfl rfl)
theorem dX6_between_12 : decode cX6_between 12 = .ok (.ifCond .eq 11, 3) := dk_153 0 11 (dk_at dksX6_between_0 12 rfl rfl)
theorem dX6_between_15 : decode cX6_between 15 = .ok (.aload_n 0, 1) := dk_42 (dk_at dksX6_between_0 15 rfl rfl)
theorem dX6_between_16 : decode cX6_between 16 = .ok (.iload_n 2, 1) := dk_28 (dk_at dksX6_between_0 16 rfl rfl)
theorem dX6_between_17 : decode cX6_between 17 = .ok (.invokevirtual 390, 3) := dk_182 1 134 (dk_at dksX6_between_0 17 rfl rfl)
theorem dX6_between_20 : decode cX6_between 20 = .ok (.ifCond .ne 5, 3) := dk_154 0 5 (dk_at dksX6_between_0 20 rfl rfl)
theorem dX6_between_23 : decode cX6_between 23 = .ok (.iconst (-1), 1) := dk_2 (dk_at dksX6_between_0 23 rfl rfl)
theorem dX6_between_24 : decode cX6_between 24 = .ok (.ireturn, 1) := dk_172 (dk_at dksX6_between_1 0 rfl rfl)
theorem dX6_between_25 : decode cX6_between 25 = .ok (.aload_n 0, 1) := dk_42 (dk_at dksX6_between_1 1 rfl rfl)
theorem dX6_between_26 : decode cX6_between 26 = .ok (.invokevirtual 376, 3) := dk_182 1 120 (dk_at dksX6_between_1 2 rfl rfl)
theorem dX6_between_29 : decode cX6_between 29 = .ok (.aload_n 0, 1) := dk_42 (dk_at dksX6_between_1 5 rfl rfl)
theorem dX6_between_30 : decode cX6_between 30 = .ok (.invokevirtual 112, 3) := dk_182 0 112 (dk_at dksX6_between_1 6 rfl rfl)
theorem dX6_between_33 : decode cX6_between 33 = .ok (.iconst 1, 1) := dk_4 (dk_at dksX6_between_1 9 rfl rfl)
theorem dX6_between_34 : decode cX6_between 34 = .ok (.isub, 1) := dk_100 (dk_at dksX6_between_1 10 rfl rfl)
theorem dX6_between_35 : decode cX6_between 35 = .ok (.istore_n 3, 1) := dk_62 (dk_at dksX6_between_1 11 rfl rfl)
theorem dX6_between_36 : decode cX6_between 36 = .ok (.iload_n 3, 1) := dk_29 (dk_at dksX6_between_1 12 rfl rfl)
theorem dX6_between_37 : decode cX6_between 37 = .ok (.istore 4, 2) := dk_54 4 (dk_at dksX6_between_1 13 rfl rfl)
theorem dX6_between_39 : decode cX6_between 39 = .ok (.iload 4, 2) := dk_21 4 (dk_at dksX6_between_1 15 rfl rfl)
theorem dX6_between_41 : decode cX6_between 41 = .ok (.ifCond .lt 96, 3) := dk_155 0 96 (dk_at dksX6_between_1 17 rfl rfl)
theorem dX6_between_44 : decode cX6_between 44 = .ok (.aload_n 0, 1) := dk_42 (dk_at dksX6_between_1 20 rfl rfl)
theorem dX6_between_45 : decode cX6_between 45 = .ok (.getfield 28, 3) := dk_180 0 28 (dk_at dksX6_between_1 21 rfl rfl)
theorem dX6_between_48 : decode cX6_between 48 = .ok (.bipush 39, 2) := dk_16 39 (dk_at dksX6_between_2 0 rfl rfl)
theorem dX6_between_50 : decode cX6_between 50 = .ok (.iaload, 1) := dk_46 (dk_at dksX6_between_2 2 rfl rfl)
theorem dX6_between_51 : decode cX6_between 51 = .ok (.istore 5, 2) := dk_54 5 (dk_at dksX6_between_2 3 rfl rfl)
theorem dX6_between_53 : decode cX6_between 53 = .ok (.iload 5, 2) := dk_21 5 (dk_at dksX6_between_2 5 rfl rfl)
theorem dX6_between_55 : decode cX6_between 55 = .ok (.aload_n 0, 1) := dk_42 (dk_at dksX6_between_2 7 rfl rfl)
theorem dX6_between_56 : decode cX6_between 56 = .ok (.getfield 28, 3) := dk_180 0 28 (dk_at dksX6_between_2 8 rfl rfl)
theorem dX6_between_59 : decode cX6_between 59 = .ok (.bipush 40, 2) := dk_16 40 (dk_at dksX6_between_2 11 rfl rfl)
theorem dX6_between_61 : decode cX6_between 61 = .ok (.iaload, 1) := dk_46 (dk_at dksX6_between_2 13 rfl rfl)
theorem dX6_between_62 : decode cX6_between 62 = .ok (.if_icmp .gt 69, 3) := dk_163 0 69 (dk_at dksX6_between_2 14 rfl rfl)
theorem dX6_between_65 : decode cX6_between 65 = .ok (.aload_n 0, 1) := dk_42 (dk_at dksX6_between_2 17 rfl rfl)
theorem dX6_between_66 : decode cX6_between 66 = .ok (.getfield 81, 3) := dk_180 0 81 (dk_at dksX6_between_2 18 rfl rfl)
theorem dX6_between_69 : decode cX6_between 69 = .ok (.bipush 25, 2) := dk_16 25 (dk_at dksX6_between_2 21 rfl rfl)
theorem dX6_between_71 : decode cX6_between 71 = .ok (.iload 4, 2) := dk_21 4 (dk_at dksX6_between_3 0 rfl rfl)
theorem dX6_between_73 : decode cX6_between 73 = .ok (.imul, 1) := dk_104 (dk_at dksX6_between_3 2 rfl rfl)
theorem dX6_between_74 : decode cX6_between 74 = .ok (.iload 5, 2) := dk_21 5 (dk_at dksX6_between_3 3 rfl rfl)
theorem dX6_between_76 : decode cX6_between 76 = .ok (.iadd, 1) := dk_96 (dk_at dksX6_between_3 5 rfl rfl)
theorem dX6_between_77 : decode cX6_between 77 = .ok (.iload 4, 2) := dk_21 4 (dk_at dksX6_between_3 6 rfl rfl)
theorem dX6_between_79 : decode cX6_between 79 = .ok (.iload_n 3, 1) := dk_29 (dk_at dksX6_between_3 8 rfl rfl)
theorem dX6_between_80 : decode cX6_between 80 = .ok (.if_icmp .ne 19, 3) := dk_160 0 19 (dk_at dksX6_between_3 9 rfl rfl)
theorem dX6_between_83 : decode cX6_between 83 = .ok (.iload 5, 2) := dk_21 5 (dk_at dksX6_between_3 12 rfl rfl)
theorem dX6_between_85 : decode cX6_between 85 = .ok (.iload_n 2, 1) := dk_28 (dk_at dksX6_between_3 14 rfl rfl)
theorem dX6_between_86 : decode cX6_between 86 = .ok (.if_icmp .ne 7, 3) := dk_160 0 7 (dk_at dksX6_between_3 15 rfl rfl)
theorem dX6_between_89 : decode cX6_between 89 = .ok (.iconst 0, 1) := dk_3 (dk_at dksX6_between_3 18 rfl rfl)
theorem dX6_between_90 : decode cX6_between 90 = .ok (.goto 34, 3) := dk_167 0 34 (dk_at dksX6_between_3 19 rfl rfl)
theorem dX6_between_93 : decode cX6_between 93 = .ok (.ldc_w 364, 3) := dk_19 1 108 (dk_at dksX6_between_4 0 rfl rfl)
theorem dX6_between_96 : decode cX6_between 96 = .ok (.goto 28, 3) := dk_167 0 28 (dk_at dksX6_between_4 3 rfl rfl)
theorem dX6_between_99 : decode cX6_between 99 = .ok (.aload_n 0, 1) := dk_42 (dk_at dksX6_between_4 6 rfl rfl)
theorem dX6_between_100 : decode cX6_between 100 = .ok (.iload 4, 2) := dk_21 4 (dk_at dksX6_between_4 7 rfl rfl)
theorem dX6_between_102 : decode cX6_between 102 = .ok (.iconst 1, 1) := dk_4 (dk_at dksX6_between_4 9 rfl rfl)
theorem dX6_between_103 : decode cX6_between 103 = .ok (.iadd, 1) := dk_96 (dk_at dksX6_between_4 10 rfl rfl)
theorem dX6_between_104 : decode cX6_between 104 = .ok (.iload 5, 2) := dk_21 5 (dk_at dksX6_between_4 11 rfl rfl)
theorem dX6_between_106 : decode cX6_between 106 = .ok (.aload_n 0, 1) := dk_42 (dk_at dksX6_between_4 13 rfl rfl)
theorem dX6_between_107 : decode cX6_between 107 = .ok (.getfield 28, 3) := dk_180 0 28 (dk_at dksX6_between_4 14 rfl rfl)
theorem dX6_between_110 : decode cX6_between 110 = .ok (.bipush 39, 2) := dk_16 39 (dk_at dksX6_between_4 17 rfl rfl)
theorem dX6_between_112 : decode cX6_between 112 = .ok (.iaload, 1) := dk_46 (dk_at dksX6_between_4 19 rfl rfl)
theorem dX6_between_113 : decode cX6_between 113 = .ok (.aload_n 0, 1) := dk_42 (dk_at dksX6_between_4 20 rfl rfl)
theorem dX6_between_114 : decode cX6_between 114 = .ok (.getfield 28, 3) := dk_180 0 28 (dk_at dksX6_between_4 21 rfl rfl)
theorem dX6_between_117 : decode cX6_between 117 = .ok (.bipush 40, 2) := dk_16 40 (dk_at dksX6_between_5 0 rfl rfl)
theorem dX6_between_119 : decode cX6_between 119 = .ok (.iaload, 1) := dk_46 (dk_at dksX6_between_5 2 rfl rfl)
theorem dX6_between_120 : decode cX6_between 120 = .ok (.iconst 0, 1) := dk_3 (dk_at dksX6_between_5 3 rfl rfl)
theorem dX6_between_121 : decode cX6_between 121 = .ok (.invokevirtual 360, 3) := dk_182 1 104 (dk_at dksX6_between_5 4 rfl rfl)
theorem dX6_between_124 : decode cX6_between 124 = .ok (.iastore, 1) := dk_79 (dk_at dksX6_between_5 7 rfl rfl)
theorem dX6_between_125 : decode cX6_between 125 = .ok (.iinc 5 1, 3) := dk_132 5 1 (dk_at dksX6_between_5 8 rfl rfl)
theorem dX6_between_128 : decode cX6_between 128 = .ok (.goto (-75), 3) := dk_167 255 181 (dk_at dksX6_between_5 11 rfl rfl)
theorem dX6_between_131 : decode cX6_between 131 = .ok (.iinc 4 (-1), 3) := dk_132 4 255 (dk_at dksX6_between_5 14 rfl rfl)
theorem dX6_between_134 : decode cX6_between 134 = .ok (.goto (-95), 3) := dk_167 255 161 (dk_at dksX6_between_5 17 rfl rfl)
theorem dX6_between_137 : decode cX6_between 137 = .ok (.aload_n 0, 1) := dk_42 (dk_at dksX6_between_5 20 rfl rfl)
theorem dX6_between_138 : decode cX6_between 138 = .ok (.getfield 78, 3) := dk_180 0 78 (dk_at dksX6_between_5 21 rfl rfl)
theorem dX6_between_141 : decode cX6_between 141 = .ok (.iconst 0, 1) := dk_3 (dk_at dksX6_between_6 0 rfl rfl)
theorem dX6_between_142 : decode cX6_between 142 = .ok (.iconst 0, 1) := dk_3 (dk_at dksX6_between_6 1 rfl rfl)
theorem dX6_between_143 : decode cX6_between 143 = .ok (.iload_n 1, 1) := dk_27 (dk_at dksX6_between_6 2 rfl rfl)
theorem dX6_between_144 : decode cX6_between 144 = .ok (.invokestatic 354, 3) := dk_184 1 98 (dk_at dksX6_between_6 3 rfl rfl)
theorem dX6_between_147 : decode cX6_between 147 = .ok (.baload, 1) := dk_51 (dk_at dksX6_between_6 6 rfl rfl)
theorem dX6_between_148 : decode cX6_between 148 = .ok (.ifCond .eq 24, 3) := dk_153 0 24 (dk_at dksX6_between_6 7 rfl rfl)
theorem dX6_between_151 : decode cX6_between 151 = .ok (.aload_n 0, 1) := dk_42 (dk_at dksX6_between_6 10 rfl rfl)
theorem dX6_between_152 : decode cX6_between 152 = .ok (.getfield 72, 3) := dk_180 0 72 (dk_at dksX6_between_6 11 rfl rfl)
theorem dX6_between_155 : decode cX6_between 155 = .ok (.iconst 0, 1) := dk_3 (dk_at dksX6_between_6 14 rfl rfl)
theorem dX6_between_156 : decode cX6_between 156 = .ok (.iconst 0, 1) := dk_3 (dk_at dksX6_between_6 15 rfl rfl)
theorem dX6_between_157 : decode cX6_between 157 = .ok (.iload_n 1, 1) := dk_27 (dk_at dksX6_between_6 16 rfl rfl)
theorem dX6_between_158 : decode cX6_between 158 = .ok (.invokestatic 354, 3) := dk_184 1 98 (dk_at dksX6_between_6 17 rfl rfl)
theorem dX6_between_161 : decode cX6_between 161 = .ok (.iaload, 1) := dk_46 (dk_at dksX6_between_6 20 rfl rfl)
theorem dX6_between_162 : decode cX6_between 162 = .ok (.aload_n 0, 1) := dk_42 (dk_at dksX6_between_6 21 rfl rfl)
theorem dX6_between_163 : decode cX6_between 163 = .ok (.getfield 81, 3) := dk_180 0 81 (dk_at dksX6_between_7 0 rfl rfl)
theorem dX6_between_166 : decode cX6_between 166 = .ok (.iload_n 1, 1) := dk_27 (dk_at dksX6_between_7 3 rfl rfl)
theorem dX6_between_167 : decode cX6_between 167 = .ok (.iaload, 1) := dk_46 (dk_at dksX6_between_7 4 rfl rfl)
theorem dX6_between_168 : decode cX6_between 168 = .ok (.iadd, 1) := dk_96 (dk_at dksX6_between_7 5 rfl rfl)
theorem dX6_between_169 : decode cX6_between 169 = .ok (.goto 6, 3) := dk_167 0 6 (dk_at dksX6_between_7 6 rfl rfl)
theorem dX6_between_172 : decode cX6_between 172 = .ok (.ldc_w 364, 3) := dk_19 1 108 (dk_at dksX6_between_7 9 rfl rfl)
theorem dX6_between_175 : decode cX6_between 175 = .ok (.istore 4, 2) := dk_54 4 (dk_at dksX6_between_7 12 rfl rfl)
theorem dX6_between_177 : decode cX6_between 177 = .ok (.iload 4, 2) := dk_21 4 (dk_at dksX6_between_7 14 rfl rfl)
theorem dX6_between_179 : decode cX6_between 179 = .ok (.ldc_w 364, 3) := dk_19 1 108 (dk_at dksX6_between_7 16 rfl rfl)
theorem dX6_between_182 : decode cX6_between 182 = .ok (.if_icmp .lt 7, 3) := dk_161 0 7 (dk_at dksX6_between_7 19 rfl rfl)
theorem dX6_between_185 : decode cX6_between 185 = .ok (.iconst (-1), 1) := dk_2 (dk_at dksX6_between_7 22 rfl rfl)
theorem dX6_between_186 : decode cX6_between 186 = .ok (.goto 5, 3) := dk_167 0 5 (dk_at dksX6_between_8 0 rfl rfl)
theorem dX6_between_189 : decode cX6_between 189 = .ok (.iload 4, 2) := dk_21 4 (dk_at dksX6_between_8 3 rfl rfl)
theorem dX6_between_191 : decode cX6_between 191 = .ok (.ireturn, 1) := dk_172 (dk_at dksX6_between_8 5 rfl rfl)
abbrev cX6_isWithin : ByteArray := prog_24_method_99_code
def yX6_isWithin : MethodName := ⟨RX6, "isWithin", "(I)Z"⟩
def dkwX6_isWithin_0 : List UInt8 := [27, 42, 180, 0, 28, 16, 39, 46, 42, 180, 0, 28, 16, 40, 46, 184, 0, 18, 172]
abbrev dktX6_isWithin_0 : List UInt8 := dkwX6_isWithin_0 ++ []
theorem dksX6_isWithin_0 : cX6_isWithin.data.toList.drop 0 = dktX6_isWithin_0 := by decide +kernel
theorem dX6_isWithin_0 : decode cX6_isWithin 0 = .ok (.iload_n 1, 1) := dk_27 (dk_at dksX6_isWithin_0 0 rfl rfl)
theorem dX6_isWithin_1 : decode cX6_isWithin 1 = .ok (.aload_n 0, 1) := dk_42 (dk_at dksX6_isWithin_0 1 rfl rfl)
theorem dX6_isWithin_2 : decode cX6_isWithin 2 = .ok (.getfield 28, 3) := dk_180 0 28 (dk_at dksX6_isWithin_0 2 rfl rfl)
theorem dX6_isWithin_5 : decode cX6_isWithin 5 = .ok (.bipush 39, 2) := dk_16 39 (dk_at dksX6_isWithin_0 5 rfl rfl)
theorem dX6_isWithin_7 : decode cX6_isWithin 7 = .ok (.iaload, 1) := dk_46 (dk_at dksX6_isWithin_0 7 rfl rfl)
theorem dX6_isWithin_8 : decode cX6_isWithin 8 = .ok (.aload_n 0, 1) := dk_42 (dk_at dksX6_isWithin_0 8 rfl rfl)
theorem dX6_isWithin_9 : decode cX6_isWithin 9 = .ok (.getfield 28, 3) := dk_180 0 28 (dk_at dksX6_isWithin_0 9 rfl rfl)
theorem dX6_isWithin_12 : decode cX6_isWithin 12 = .ok (.bipush 40, 2) := dk_16 40 (dk_at dksX6_isWithin_0 12 rfl rfl)
theorem dX6_isWithin_14 : decode cX6_isWithin 14 = .ok (.iaload, 1) := dk_46 (dk_at dksX6_isWithin_0 14 rfl rfl)
theorem dX6_isWithin_15 : decode cX6_isWithin 15 = .ok (.invokestatic 18, 3) := dk_184 0 18 (dk_at dksX6_isWithin_0 15 rfl rfl)
theorem dX6_isWithin_18 : decode cX6_isWithin 18 = .ok (.ireturn, 1) := dk_172 (dk_at dksX6_isWithin_0 18 rfl rfl)
abbrev cX6_richest : ByteArray := prog_24_method_101_code
def yX6_richest : MethodName := ⟨RX6, "richest", "()I"⟩
def dkwX6_richest_4 : List UInt8 := [27, 156, 0, 7, 2, 167, 0, 4, 27, 172]
abbrev dktX6_richest_4 : List UInt8 := dkwX6_richest_4 ++ []
def dkwX6_richest_3 : List UInt8 := [28, 182, 1, 137, 79, 132, 2, 1, 167, 255, 209, 132, 1, 255, 167, 255, 191, 42, 3, 3, 182, 1, 137, 60]
abbrev dktX6_richest_3 : List UInt8 := dkwX6_richest_3 ++ dktX6_richest_4
def dkwX6_richest_2 : List UInt8 := [16, 25, 27, 104, 28, 96, 27, 42, 182, 0, 112, 4, 100, 160, 0, 7, 3, 167, 0, 11, 42, 27, 4, 96]
abbrev dktX6_richest_2 : List UInt8 := dkwX6_richest_2 ++ dktX6_richest_3
def dkwX6_richest_1 : List UInt8 := [42, 180, 0, 28, 16, 39, 46, 61, 28, 42, 180, 0, 28, 16, 40, 46, 163, 0, 42, 42, 180, 0, 81]
abbrev dktX6_richest_1 : List UInt8 := dkwX6_richest_1 ++ dktX6_richest_2
def dkwX6_richest_0 : List UInt8 := [42, 182, 0, 112, 154, 0, 5, 3, 172, 42, 182, 1, 120, 42, 182, 0, 112, 4, 100, 60, 27, 155, 0, 67]
abbrev dktX6_richest_0 : List UInt8 := dkwX6_richest_0 ++ dktX6_richest_1
theorem dksX6_richest_0 : cX6_richest.data.toList.drop 0 = dktX6_richest_0 := by decide +kernel
theorem dksX6_richest_1 : cX6_richest.data.toList.drop 24 = dktX6_richest_1 := dk_seg dksX6_richest_0 24 rfl rfl
theorem dksX6_richest_2 : cX6_richest.data.toList.drop 47 = dktX6_richest_2 := dk_seg dksX6_richest_1 23 rfl rfl
theorem dksX6_richest_3 : cX6_richest.data.toList.drop 71 = dktX6_richest_3 := dk_seg dksX6_richest_2 24 rfl rfl
theorem dksX6_richest_4 : cX6_richest.data.toList.drop 95 = dktX6_richest_4 := dk_seg dksX6_richest_3 24 rfl rfl
theorem dX6_richest_0 : decode cX6_richest 0 = .ok (.aload_n 0, 1) := dk_42 (dk_at dksX6_richest_0 0 rfl rfl)
theorem dX6_richest_1 : decode cX6_richest 1 = .ok (.invokevirtual 112, 3) := dk_182 0 112 (dk_at dksX6_richest_0 1 rfl rfl)
theorem dX6_richest_4 : decode cX6_richest 4 = .ok (.ifCond .ne 5, 3) := dk_154 0 5 (dk_at dksX6_richest_0 4 rfl rfl)
theorem dX6_richest_7 : decode cX6_richest 7 = .ok (.iconst 0, 1) := dk_3 (dk_at dksX6_richest_0 7 rfl rfl)
theorem dX6_richest_8 : decode cX6_richest 8 = .ok (.ireturn, 1) := dk_172 (dk_at dksX6_richest_0 8 rfl rfl)
theorem dX6_richest_9 : decode cX6_richest 9 = .ok (.aload_n 0, 1) := dk_42 (dk_at dksX6_richest_0 9 rfl rfl)
theorem dX6_richest_10 : decode cX6_richest 10 = .ok (.invokevirtual 376, 3) := dk_182 1 120 (dk_at dksX6_richest_0 10 rfl rfl)
theorem dX6_richest_13 : decode cX6_richest 13 = .ok (.aload_n 0, 1) := dk_42 (dk_at dksX6_richest_0 13 rfl rfl)
theorem dX6_richest_14 : decode cX6_richest 14 = .ok (.invokevirtual 112, 3) := dk_182 0 112 (dk_at dksX6_richest_0 14 rfl rfl)
theorem dX6_richest_17 : decode cX6_richest 17 = .ok (.iconst 1, 1) := dk_4 (dk_at dksX6_richest_0 17 rfl rfl)
theorem dX6_richest_18 : decode cX6_richest 18 = .ok (.isub, 1) := dk_100 (dk_at dksX6_richest_0 18 rfl rfl)
theorem dX6_richest_19 : decode cX6_richest 19 = .ok (.istore_n 1, 1) := dk_60 (dk_at dksX6_richest_0 19 rfl rfl)
theorem dX6_richest_20 : decode cX6_richest 20 = .ok (.iload_n 1, 1) := dk_27 (dk_at dksX6_richest_0 20 rfl rfl)
theorem dX6_richest_21 : decode cX6_richest 21 = .ok (.ifCond .lt 67, 3) := dk_155 0 67 (dk_at dksX6_richest_0 21 rfl rfl)
theorem dX6_richest_24 : decode cX6_richest 24 = .ok (.aload_n 0, 1) := dk_42 (dk_at dksX6_richest_1 0 rfl rfl)
theorem dX6_richest_25 : decode cX6_richest 25 = .ok (.getfield 28, 3) := dk_180 0 28 (dk_at dksX6_richest_1 1 rfl rfl)
theorem dX6_richest_28 : decode cX6_richest 28 = .ok (.bipush 39, 2) := dk_16 39 (dk_at dksX6_richest_1 4 rfl rfl)
theorem dX6_richest_30 : decode cX6_richest 30 = .ok (.iaload, 1) := dk_46 (dk_at dksX6_richest_1 6 rfl rfl)
theorem dX6_richest_31 : decode cX6_richest 31 = .ok (.istore_n 2, 1) := dk_61 (dk_at dksX6_richest_1 7 rfl rfl)
theorem dX6_richest_32 : decode cX6_richest 32 = .ok (.iload_n 2, 1) := dk_28 (dk_at dksX6_richest_1 8 rfl rfl)
theorem dX6_richest_33 : decode cX6_richest 33 = .ok (.aload_n 0, 1) := dk_42 (dk_at dksX6_richest_1 9 rfl rfl)
theorem dX6_richest_34 : decode cX6_richest 34 = .ok (.getfield 28, 3) := dk_180 0 28 (dk_at dksX6_richest_1 10 rfl rfl)
theorem dX6_richest_37 : decode cX6_richest 37 = .ok (.bipush 40, 2) := dk_16 40 (dk_at dksX6_richest_1 13 rfl rfl)
theorem dX6_richest_39 : decode cX6_richest 39 = .ok (.iaload, 1) := dk_46 (dk_at dksX6_richest_1 15 rfl rfl)
theorem dX6_richest_40 : decode cX6_richest 40 = .ok (.if_icmp .gt 42, 3) := dk_163 0 42 (dk_at dksX6_richest_1 16 rfl rfl)
theorem dX6_richest_43 : decode cX6_richest 43 = .ok (.aload_n 0, 1) := dk_42 (dk_at dksX6_richest_1 19 rfl rfl)
theorem dX6_richest_44 : decode cX6_richest 44 = .ok (.getfield 81, 3) := dk_180 0 81 (dk_at dksX6_richest_1 20 rfl rfl)
theorem dX6_richest_47 : decode cX6_richest 47 = .ok (.bipush 25, 2) := dk_16 25 (dk_at dksX6_richest_2 0 rfl rfl)
theorem dX6_richest_49 : decode cX6_richest 49 = .ok (.iload_n 1, 1) := dk_27 (dk_at dksX6_richest_2 2 rfl rfl)
theorem dX6_richest_50 : decode cX6_richest 50 = .ok (.imul, 1) := dk_104 (dk_at dksX6_richest_2 3 rfl rfl)
theorem dX6_richest_51 : decode cX6_richest 51 = .ok (.iload_n 2, 1) := dk_28 (dk_at dksX6_richest_2 4 rfl rfl)
theorem dX6_richest_52 : decode cX6_richest 52 = .ok (.iadd, 1) := dk_96 (dk_at dksX6_richest_2 5 rfl rfl)
theorem dX6_richest_53 : decode cX6_richest 53 = .ok (.iload_n 1, 1) := dk_27 (dk_at dksX6_richest_2 6 rfl rfl)
theorem dX6_richest_54 : decode cX6_richest 54 = .ok (.aload_n 0, 1) := dk_42 (dk_at dksX6_richest_2 7 rfl rfl)
theorem dX6_richest_55 : decode cX6_richest 55 = .ok (.invokevirtual 112, 3) := dk_182 0 112 (dk_at dksX6_richest_2 8 rfl rfl)
theorem dX6_richest_58 : decode cX6_richest 58 = .ok (.iconst 1, 1) := dk_4 (dk_at dksX6_richest_2 11 rfl rfl)
theorem dX6_richest_59 : decode cX6_richest 59 = .ok (.isub, 1) := dk_100 (dk_at dksX6_richest_2 12 rfl rfl)
theorem dX6_richest_60 : decode cX6_richest 60 = .ok (.if_icmp .ne 7, 3) := dk_160 0 7 (dk_at dksX6_richest_2 13 rfl rfl)
theorem dX6_richest_63 : decode cX6_richest 63 = .ok (.iconst 0, 1) := dk_3 (dk_at dksX6_richest_2 16 rfl rfl)
theorem dX6_richest_64 : decode cX6_richest 64 = .ok (.goto 11, 3) := dk_167 0 11 (dk_at dksX6_richest_2 17 rfl rfl)
theorem dX6_richest_67 : decode cX6_richest 67 = .ok (.aload_n 0, 1) := dk_42 (dk_at dksX6_richest_2 20 rfl rfl)
theorem dX6_richest_68 : decode cX6_richest 68 = .ok (.iload_n 1, 1) := dk_27 (dk_at dksX6_richest_2 21 rfl rfl)
theorem dX6_richest_69 : decode cX6_richest 69 = .ok (.iconst 1, 1) := dk_4 (dk_at dksX6_richest_2 22 rfl rfl)
theorem dX6_richest_70 : decode cX6_richest 70 = .ok (.iadd, 1) := dk_96 (dk_at dksX6_richest_2 23 rfl rfl)
theorem dX6_richest_71 : decode cX6_richest 71 = .ok (.iload_n 2, 1) := dk_28 (dk_at dksX6_richest_3 0 rfl rfl)
theorem dX6_richest_72 : decode cX6_richest 72 = .ok (.invokevirtual 393, 3) := dk_182 1 137 (dk_at dksX6_richest_3 1 rfl rfl)
theorem dX6_richest_75 : decode cX6_richest 75 = .ok (.iastore, 1) := dk_79 (dk_at dksX6_richest_3 4 rfl rfl)
theorem dX6_richest_76 : decode cX6_richest 76 = .ok (.iinc 2 1, 3) := dk_132 2 1 (dk_at dksX6_richest_3 5 rfl rfl)
theorem dX6_richest_79 : decode cX6_richest 79 = .ok (.goto (-47), 3) := dk_167 255 209 (dk_at dksX6_richest_3 8 rfl rfl)
theorem dX6_richest_82 : decode cX6_richest 82 = .ok (.iinc 1 (-1), 3) := dk_132 1 255 (dk_at dksX6_richest_3 11 rfl rfl)
theorem dX6_richest_85 : decode cX6_richest 85 = .ok (.goto (-65), 3) := dk_167 255 191 (dk_at dksX6_richest_3 14 rfl rfl)
theorem dX6_richest_88 : decode cX6_richest 88 = .ok (.aload_n 0, 1) := dk_42 (dk_at dksX6_richest_3 17 rfl rfl)
theorem dX6_richest_89 : decode cX6_richest 89 = .ok (.iconst 0, 1) := dk_3 (dk_at dksX6_richest_3 18 rfl rfl)
theorem dX6_richest_90 : decode cX6_richest 90 = .ok (.iconst 0, 1) := dk_3 (dk_at dksX6_richest_3 19 rfl rfl)
theorem dX6_richest_91 : decode cX6_richest 91 = .ok (.invokevirtual 393, 3) := dk_182 1 137 (dk_at dksX6_richest_3 20 rfl rfl)
theorem dX6_richest_94 : decode cX6_richest 94 = .ok (.istore_n 1, 1) := dk_60 (dk_at dksX6_richest_3 23 rfl rfl)
theorem dX6_richest_95 : decode cX6_richest 95 = .ok (.iload_n 1, 1) := dk_27 (dk_at dksX6_richest_4 0 rfl rfl)
theorem dX6_richest_96 : decode cX6_richest 96 = .ok (.ifCond .ge 7, 3) := dk_156 0 7 (dk_at dksX6_richest_4 1 rfl rfl)
theorem dX6_richest_99 : decode cX6_richest 99 = .ok (.iconst (-1), 1) := dk_2 (dk_at dksX6_richest_4 4 rfl rfl)
theorem dX6_richest_100 : decode cX6_richest 100 = .ok (.goto 4, 3) := dk_167 0 4 (dk_at dksX6_richest_4 5 rfl rfl)
theorem dX6_richest_103 : decode cX6_richest 103 = .ok (.iload_n 1, 1) := dk_27 (dk_at dksX6_richest_4 8 rfl rfl)
theorem dX6_richest_104 : decode cX6_richest 104 = .ok (.ireturn, 1) := dk_172 (dk_at dksX6_richest_4 9 rfl rfl)
abbrev cX6_mostFrom : ByteArray := prog_24_method_102_code
def yX6_mostFrom : MethodName := ⟨RX6, "mostFrom", "(II)I"⟩
def dkwX6_mostFrom_3 : List UInt8 := [132, 4, 1, 167, 255, 196, 29, 172]
abbrev dktX6_mostFrom_3 : List UInt8 := dkwX6_mostFrom_3 ++ []
def dkwX6_mostFrom_2 : List UInt8 := [28, 21, 4, 184, 1, 98, 46, 42, 180, 0, 81, 16, 25, 27, 104, 21, 4, 96, 46, 96, 184, 1, 141, 62]
abbrev dktX6_mostFrom_2 : List UInt8 := dkwX6_mostFrom_2 ++ dktX6_mostFrom_3
def dkwX6_mostFrom_1 : List UInt8 := [163, 0, 54, 42, 180, 0, 78, 27, 28, 21, 4, 184, 1, 98, 51, 153, 0, 33, 29, 42, 180, 0, 75, 27]
abbrev dktX6_mostFrom_1 : List UInt8 := dkwX6_mostFrom_1 ++ dktX6_mostFrom_2
def dkwX6_mostFrom_0 : List UInt8 := [19, 1, 140, 62, 42, 180, 0, 28, 16, 39, 46, 54, 4, 21, 4, 42, 180, 0, 28, 16, 40, 46]
abbrev dktX6_mostFrom_0 : List UInt8 := dkwX6_mostFrom_0 ++ dktX6_mostFrom_1
theorem dksX6_mostFrom_0 : cX6_mostFrom.data.toList.drop 0 = dktX6_mostFrom_0 := by decide +kernel
theorem dksX6_mostFrom_1 : cX6_mostFrom.data.toList.drop 22 = dktX6_mostFrom_1 := dk_seg dksX6_mostFrom_0 22 rfl rfl
theorem dksX6_mostFrom_2 : cX6_mostFrom.data.toList.drop 46 = dktX6_mostFrom_2 := dk_seg dksX6_mostFrom_1 24 rfl rfl
theorem dksX6_mostFrom_3 : cX6_mostFrom.data.toList.drop 70 = dktX6_mostFrom_3 := dk_seg dksX6_mostFrom_2 24 rfl rfl
theorem dX6_mostFrom_0 : decode cX6_mostFrom 0 = .ok (.ldc_w 396, 3) := dk_19 1 140 (dk_at dksX6_mostFrom_0 0 rfl rfl)
theorem dX6_mostFrom_3 : decode cX6_mostFrom 3 = .ok (.istore_n 3, 1) := dk_62 (dk_at dksX6_mostFrom_0 3 rfl rfl)
theorem dX6_mostFrom_4 : decode cX6_mostFrom 4 = .ok (.aload_n 0, 1) := dk_42 (dk_at dksX6_mostFrom_0 4 rfl rfl)
theorem dX6_mostFrom_5 : decode cX6_mostFrom 5 = .ok (.getfield 28, 3) := dk_180 0 28 (dk_at dksX6_mostFrom_0 5 rfl rfl)
theorem dX6_mostFrom_8 : decode cX6_mostFrom 8 = .ok (.bipush 39, 2) := dk_16 39 (dk_at dksX6_mostFrom_0 8 rfl rfl)
theorem dX6_mostFrom_10 : decode cX6_mostFrom 10 = .ok (.iaload, 1) := dk_46 (dk_at dksX6_mostFrom_0 10 rfl rfl)
theorem dX6_mostFrom_11 : decode cX6_mostFrom 11 = .ok (.istore 4, 2) := dk_54 4 (dk_at dksX6_mostFrom_0 11 rfl rfl)
theorem dX6_mostFrom_13 : decode cX6_mostFrom 13 = .ok (.iload 4, 2) := dk_21 4 (dk_at dksX6_mostFrom_0 13 rfl rfl)
theorem dX6_mostFrom_15 : decode cX6_mostFrom 15 = .ok (.aload_n 0, 1) := dk_42 (dk_at dksX6_mostFrom_0 15 rfl rfl)
theorem dX6_mostFrom_16 : decode cX6_mostFrom 16 = .ok (.getfield 28, 3) := dk_180 0 28 (dk_at dksX6_mostFrom_0 16 rfl rfl)
theorem dX6_mostFrom_19 : decode cX6_mostFrom 19 = .ok (.bipush 40, 2) := dk_16 40 (dk_at dksX6_mostFrom_0 19 rfl rfl)
theorem dX6_mostFrom_21 : decode cX6_mostFrom 21 = .ok (.iaload, 1) := dk_46 (dk_at dksX6_mostFrom_0 21 rfl rfl)
theorem dX6_mostFrom_22 : decode cX6_mostFrom 22 = .ok (.if_icmp .gt 54, 3) := dk_163 0 54 (dk_at dksX6_mostFrom_1 0 rfl rfl)
theorem dX6_mostFrom_25 : decode cX6_mostFrom 25 = .ok (.aload_n 0, 1) := dk_42 (dk_at dksX6_mostFrom_1 3 rfl rfl)
theorem dX6_mostFrom_26 : decode cX6_mostFrom 26 = .ok (.getfield 78, 3) := dk_180 0 78 (dk_at dksX6_mostFrom_1 4 rfl rfl)
theorem dX6_mostFrom_29 : decode cX6_mostFrom 29 = .ok (.iload_n 1, 1) := dk_27 (dk_at dksX6_mostFrom_1 7 rfl rfl)
theorem dX6_mostFrom_30 : decode cX6_mostFrom 30 = .ok (.iload_n 2, 1) := dk_28 (dk_at dksX6_mostFrom_1 8 rfl rfl)
theorem dX6_mostFrom_31 : decode cX6_mostFrom 31 = .ok (.iload 4, 2) := dk_21 4 (dk_at dksX6_mostFrom_1 9 rfl rfl)
theorem dX6_mostFrom_33 : decode cX6_mostFrom 33 = .ok (.invokestatic 354, 3) := dk_184 1 98 (dk_at dksX6_mostFrom_1 11 rfl rfl)
theorem dX6_mostFrom_36 : decode cX6_mostFrom 36 = .ok (.baload, 1) := dk_51 (dk_at dksX6_mostFrom_1 14 rfl rfl)
theorem dX6_mostFrom_37 : decode cX6_mostFrom 37 = .ok (.ifCond .eq 33, 3) := dk_153 0 33 (dk_at dksX6_mostFrom_1 15 rfl rfl)
theorem dX6_mostFrom_40 : decode cX6_mostFrom 40 = .ok (.iload_n 3, 1) := dk_29 (dk_at dksX6_mostFrom_1 18 rfl rfl)
theorem dX6_mostFrom_41 : decode cX6_mostFrom 41 = .ok (.aload_n 0, 1) := dk_42 (dk_at dksX6_mostFrom_1 19 rfl rfl)
theorem dX6_mostFrom_42 : decode cX6_mostFrom 42 = .ok (.getfield 75, 3) := dk_180 0 75 (dk_at dksX6_mostFrom_1 20 rfl rfl)
theorem dX6_mostFrom_45 : decode cX6_mostFrom 45 = .ok (.iload_n 1, 1) := dk_27 (dk_at dksX6_mostFrom_1 23 rfl rfl)
theorem dX6_mostFrom_46 : decode cX6_mostFrom 46 = .ok (.iload_n 2, 1) := dk_28 (dk_at dksX6_mostFrom_2 0 rfl rfl)
theorem dX6_mostFrom_47 : decode cX6_mostFrom 47 = .ok (.iload 4, 2) := dk_21 4 (dk_at dksX6_mostFrom_2 1 rfl rfl)
theorem dX6_mostFrom_49 : decode cX6_mostFrom 49 = .ok (.invokestatic 354, 3) := dk_184 1 98 (dk_at dksX6_mostFrom_2 3 rfl rfl)
theorem dX6_mostFrom_52 : decode cX6_mostFrom 52 = .ok (.iaload, 1) := dk_46 (dk_at dksX6_mostFrom_2 6 rfl rfl)
theorem dX6_mostFrom_53 : decode cX6_mostFrom 53 = .ok (.aload_n 0, 1) := dk_42 (dk_at dksX6_mostFrom_2 7 rfl rfl)
theorem dX6_mostFrom_54 : decode cX6_mostFrom 54 = .ok (.getfield 81, 3) := dk_180 0 81 (dk_at dksX6_mostFrom_2 8 rfl rfl)
theorem dX6_mostFrom_57 : decode cX6_mostFrom 57 = .ok (.bipush 25, 2) := dk_16 25 (dk_at dksX6_mostFrom_2 11 rfl rfl)
theorem dX6_mostFrom_59 : decode cX6_mostFrom 59 = .ok (.iload_n 1, 1) := dk_27 (dk_at dksX6_mostFrom_2 13 rfl rfl)
theorem dX6_mostFrom_60 : decode cX6_mostFrom 60 = .ok (.imul, 1) := dk_104 (dk_at dksX6_mostFrom_2 14 rfl rfl)
theorem dX6_mostFrom_61 : decode cX6_mostFrom 61 = .ok (.iload 4, 2) := dk_21 4 (dk_at dksX6_mostFrom_2 15 rfl rfl)
theorem dX6_mostFrom_63 : decode cX6_mostFrom 63 = .ok (.iadd, 1) := dk_96 (dk_at dksX6_mostFrom_2 17 rfl rfl)
theorem dX6_mostFrom_64 : decode cX6_mostFrom 64 = .ok (.iaload, 1) := dk_46 (dk_at dksX6_mostFrom_2 18 rfl rfl)
theorem dX6_mostFrom_65 : decode cX6_mostFrom 65 = .ok (.iadd, 1) := dk_96 (dk_at dksX6_mostFrom_2 19 rfl rfl)
theorem dX6_mostFrom_66 : decode cX6_mostFrom 66 = .ok (.invokestatic 397, 3) := dk_184 1 141 (dk_at dksX6_mostFrom_2 20 rfl rfl)
theorem dX6_mostFrom_69 : decode cX6_mostFrom 69 = .ok (.istore_n 3, 1) := dk_62 (dk_at dksX6_mostFrom_2 23 rfl rfl)
theorem dX6_mostFrom_70 : decode cX6_mostFrom 70 = .ok (.iinc 4 1, 3) := dk_132 4 1 (dk_at dksX6_mostFrom_3 0 rfl rfl)
theorem dX6_mostFrom_73 : decode cX6_mostFrom 73 = .ok (.goto (-60), 3) := dk_167 255 196 (dk_at dksX6_mostFrom_3 3 rfl rfl)
theorem dX6_mostFrom_76 : decode cX6_mostFrom 76 = .ok (.iload_n 3, 1) := dk_29 (dk_at dksX6_mostFrom_3 6 rfl rfl)
theorem dX6_mostFrom_77 : decode cX6_mostFrom 77 = .ok (.ireturn, 1) := dk_172 (dk_at dksX6_mostFrom_3 7 rfl rfl)
abbrev cX6_greater : ByteArray := prog_24_method_3_code
def yX6_greater : MethodName := ⟨RX6, "greater", "(II)I"⟩
def dkwX6_greater_0 : List UInt8 := [26, 27, 164, 0, 7, 26, 167, 0, 4, 27, 172]
abbrev dktX6_greater_0 : List UInt8 := dkwX6_greater_0 ++ []
theorem dksX6_greater_0 : cX6_greater.data.toList.drop 0 = dktX6_greater_0 := by decide +kernel
theorem dX6_greater_0 : decode cX6_greater 0 = .ok (.iload_n 0, 1) := dk_26 (dk_at dksX6_greater_0 0 rfl rfl)
theorem dX6_greater_1 : decode cX6_greater 1 = .ok (.iload_n 1, 1) := dk_27 (dk_at dksX6_greater_0 1 rfl rfl)
theorem dX6_greater_2 : decode cX6_greater 2 = .ok (.if_icmp .le 7, 3) := dk_164 0 7 (dk_at dksX6_greater_0 2 rfl rfl)
theorem dX6_greater_5 : decode cX6_greater 5 = .ok (.iload_n 0, 1) := dk_26 (dk_at dksX6_greater_0 5 rfl rfl)
theorem dX6_greater_6 : decode cX6_greater 6 = .ok (.goto 4, 3) := dk_167 0 4 (dk_at dksX6_greater_0 6 rfl rfl)
theorem dX6_greater_9 : decode cX6_greater 9 = .ok (.iload_n 1, 1) := dk_27 (dk_at dksX6_greater_0 9 rfl rfl)
theorem dX6_greater_10 : decode cX6_greater 10 = .ok (.ireturn, 1) := dk_172 (dk_at dksX6_greater_0 10 rfl rfl)
abbrev cX6_ways : ByteArray := prog_24_method_103_code
def yX6_ways : MethodName := ⟨RX6, "ways", "()J"⟩
def dkwX6_ways_3 : List UInt8 := [28, 182, 1, 144, 80, 132, 2, 1, 167, 255, 209, 132, 1, 255, 167, 255, 191, 42, 3, 3, 182, 1, 144, 173]
abbrev dktX6_ways_3 : List UInt8 := dkwX6_ways_3 ++ []
def dkwX6_ways_2 : List UInt8 := [16, 25, 27, 104, 28, 96, 27, 42, 182, 0, 112, 4, 100, 160, 0, 7, 10, 167, 0, 11, 42, 27, 4, 96]
abbrev dktX6_ways_2 : List UInt8 := dkwX6_ways_2 ++ dktX6_ways_3
def dkwX6_ways_1 : List UInt8 := [42, 180, 0, 28, 16, 39, 46, 61, 28, 42, 180, 0, 28, 16, 40, 46, 163, 0, 42, 42, 180, 0, 84]
abbrev dktX6_ways_1 : List UInt8 := dkwX6_ways_1 ++ dktX6_ways_2
def dkwX6_ways_0 : List UInt8 := [42, 182, 0, 112, 154, 0, 5, 10, 173, 42, 182, 1, 120, 42, 182, 0, 112, 4, 100, 60, 27, 155, 0, 67]
abbrev dktX6_ways_0 : List UInt8 := dkwX6_ways_0 ++ dktX6_ways_1
theorem dksX6_ways_0 : cX6_ways.data.toList.drop 0 = dktX6_ways_0 := by decide +kernel
theorem dksX6_ways_1 : cX6_ways.data.toList.drop 24 = dktX6_ways_1 := dk_seg dksX6_ways_0 24 rfl rfl
theorem dksX6_ways_2 : cX6_ways.data.toList.drop 47 = dktX6_ways_2 := dk_seg dksX6_ways_1 23 rfl rfl
theorem dksX6_ways_3 : cX6_ways.data.toList.drop 71 = dktX6_ways_3 := dk_seg dksX6_ways_2 24 rfl rfl
theorem dX6_ways_0 : decode cX6_ways 0 = .ok (.aload_n 0, 1) := dk_42 (dk_at dksX6_ways_0 0 rfl rfl)
theorem dX6_ways_1 : decode cX6_ways 1 = .ok (.invokevirtual 112, 3) := dk_182 0 112 (dk_at dksX6_ways_0 1 rfl rfl)
theorem dX6_ways_4 : decode cX6_ways 4 = .ok (.ifCond .ne 5, 3) := dk_154 0 5 (dk_at dksX6_ways_0 4 rfl rfl)
theorem dX6_ways_7 : decode cX6_ways 7 = .ok (.lconst 1, 1) := dk_10 (dk_at dksX6_ways_0 7 rfl rfl)
theorem dX6_ways_8 : decode cX6_ways 8 = .ok (.lreturn, 1) := dk_173 (dk_at dksX6_ways_0 8 rfl rfl)
theorem dX6_ways_9 : decode cX6_ways 9 = .ok (.aload_n 0, 1) := dk_42 (dk_at dksX6_ways_0 9 rfl rfl)
theorem dX6_ways_10 : decode cX6_ways 10 = .ok (.invokevirtual 376, 3) := dk_182 1 120 (dk_at dksX6_ways_0 10 rfl rfl)
theorem dX6_ways_13 : decode cX6_ways 13 = .ok (.aload_n 0, 1) := dk_42 (dk_at dksX6_ways_0 13 rfl rfl)
theorem dX6_ways_14 : decode cX6_ways 14 = .ok (.invokevirtual 112, 3) := dk_182 0 112 (dk_at dksX6_ways_0 14 rfl rfl)
theorem dX6_ways_17 : decode cX6_ways 17 = .ok (.iconst 1, 1) := dk_4 (dk_at dksX6_ways_0 17 rfl rfl)
theorem dX6_ways_18 : decode cX6_ways 18 = .ok (.isub, 1) := dk_100 (dk_at dksX6_ways_0 18 rfl rfl)
theorem dX6_ways_19 : decode cX6_ways 19 = .ok (.istore_n 1, 1) := dk_60 (dk_at dksX6_ways_0 19 rfl rfl)
theorem dX6_ways_20 : decode cX6_ways 20 = .ok (.iload_n 1, 1) := dk_27 (dk_at dksX6_ways_0 20 rfl rfl)
theorem dX6_ways_21 : decode cX6_ways 21 = .ok (.ifCond .lt 67, 3) := dk_155 0 67 (dk_at dksX6_ways_0 21 rfl rfl)
theorem dX6_ways_24 : decode cX6_ways 24 = .ok (.aload_n 0, 1) := dk_42 (dk_at dksX6_ways_1 0 rfl rfl)
theorem dX6_ways_25 : decode cX6_ways 25 = .ok (.getfield 28, 3) := dk_180 0 28 (dk_at dksX6_ways_1 1 rfl rfl)
theorem dX6_ways_28 : decode cX6_ways 28 = .ok (.bipush 39, 2) := dk_16 39 (dk_at dksX6_ways_1 4 rfl rfl)
theorem dX6_ways_30 : decode cX6_ways 30 = .ok (.iaload, 1) := dk_46 (dk_at dksX6_ways_1 6 rfl rfl)
theorem dX6_ways_31 : decode cX6_ways 31 = .ok (.istore_n 2, 1) := dk_61 (dk_at dksX6_ways_1 7 rfl rfl)
theorem dX6_ways_32 : decode cX6_ways 32 = .ok (.iload_n 2, 1) := dk_28 (dk_at dksX6_ways_1 8 rfl rfl)
theorem dX6_ways_33 : decode cX6_ways 33 = .ok (.aload_n 0, 1) := dk_42 (dk_at dksX6_ways_1 9 rfl rfl)
theorem dX6_ways_34 : decode cX6_ways 34 = .ok (.getfield 28, 3) := dk_180 0 28 (dk_at dksX6_ways_1 10 rfl rfl)
theorem dX6_ways_37 : decode cX6_ways 37 = .ok (.bipush 40, 2) := dk_16 40 (dk_at dksX6_ways_1 13 rfl rfl)
theorem dX6_ways_39 : decode cX6_ways 39 = .ok (.iaload, 1) := dk_46 (dk_at dksX6_ways_1 15 rfl rfl)
theorem dX6_ways_40 : decode cX6_ways 40 = .ok (.if_icmp .gt 42, 3) := dk_163 0 42 (dk_at dksX6_ways_1 16 rfl rfl)
theorem dX6_ways_43 : decode cX6_ways 43 = .ok (.aload_n 0, 1) := dk_42 (dk_at dksX6_ways_1 19 rfl rfl)
theorem dX6_ways_44 : decode cX6_ways 44 = .ok (.getfield 84, 3) := dk_180 0 84 (dk_at dksX6_ways_1 20 rfl rfl)
theorem dX6_ways_47 : decode cX6_ways 47 = .ok (.bipush 25, 2) := dk_16 25 (dk_at dksX6_ways_2 0 rfl rfl)
theorem dX6_ways_49 : decode cX6_ways 49 = .ok (.iload_n 1, 1) := dk_27 (dk_at dksX6_ways_2 2 rfl rfl)
theorem dX6_ways_50 : decode cX6_ways 50 = .ok (.imul, 1) := dk_104 (dk_at dksX6_ways_2 3 rfl rfl)
theorem dX6_ways_51 : decode cX6_ways 51 = .ok (.iload_n 2, 1) := dk_28 (dk_at dksX6_ways_2 4 rfl rfl)
theorem dX6_ways_52 : decode cX6_ways 52 = .ok (.iadd, 1) := dk_96 (dk_at dksX6_ways_2 5 rfl rfl)
theorem dX6_ways_53 : decode cX6_ways 53 = .ok (.iload_n 1, 1) := dk_27 (dk_at dksX6_ways_2 6 rfl rfl)
theorem dX6_ways_54 : decode cX6_ways 54 = .ok (.aload_n 0, 1) := dk_42 (dk_at dksX6_ways_2 7 rfl rfl)
theorem dX6_ways_55 : decode cX6_ways 55 = .ok (.invokevirtual 112, 3) := dk_182 0 112 (dk_at dksX6_ways_2 8 rfl rfl)
theorem dX6_ways_58 : decode cX6_ways 58 = .ok (.iconst 1, 1) := dk_4 (dk_at dksX6_ways_2 11 rfl rfl)
theorem dX6_ways_59 : decode cX6_ways 59 = .ok (.isub, 1) := dk_100 (dk_at dksX6_ways_2 12 rfl rfl)
theorem dX6_ways_60 : decode cX6_ways 60 = .ok (.if_icmp .ne 7, 3) := dk_160 0 7 (dk_at dksX6_ways_2 13 rfl rfl)
theorem dX6_ways_63 : decode cX6_ways 63 = .ok (.lconst 1, 1) := dk_10 (dk_at dksX6_ways_2 16 rfl rfl)
theorem dX6_ways_64 : decode cX6_ways 64 = .ok (.goto 11, 3) := dk_167 0 11 (dk_at dksX6_ways_2 17 rfl rfl)
theorem dX6_ways_67 : decode cX6_ways 67 = .ok (.aload_n 0, 1) := dk_42 (dk_at dksX6_ways_2 20 rfl rfl)
theorem dX6_ways_68 : decode cX6_ways 68 = .ok (.iload_n 1, 1) := dk_27 (dk_at dksX6_ways_2 21 rfl rfl)
theorem dX6_ways_69 : decode cX6_ways 69 = .ok (.iconst 1, 1) := dk_4 (dk_at dksX6_ways_2 22 rfl rfl)
theorem dX6_ways_70 : decode cX6_ways 70 = .ok (.iadd, 1) := dk_96 (dk_at dksX6_ways_2 23 rfl rfl)
theorem dX6_ways_71 : decode cX6_ways 71 = .ok (.iload_n 2, 1) := dk_28 (dk_at dksX6_ways_3 0 rfl rfl)
theorem dX6_ways_72 : decode cX6_ways 72 = .ok (.invokevirtual 400, 3) := dk_182 1 144 (dk_at dksX6_ways_3 1 rfl rfl)
theorem dX6_ways_75 : decode cX6_ways 75 = .ok (.lastore, 1) := dk_80 (dk_at dksX6_ways_3 4 rfl rfl)
theorem dX6_ways_76 : decode cX6_ways 76 = .ok (.iinc 2 1, 3) := dk_132 2 1 (dk_at dksX6_ways_3 5 rfl rfl)
theorem dX6_ways_79 : decode cX6_ways 79 = .ok (.goto (-47), 3) := dk_167 255 209 (dk_at dksX6_ways_3 8 rfl rfl)
theorem dX6_ways_82 : decode cX6_ways 82 = .ok (.iinc 1 (-1), 3) := dk_132 1 255 (dk_at dksX6_ways_3 11 rfl rfl)
theorem dX6_ways_85 : decode cX6_ways 85 = .ok (.goto (-65), 3) := dk_167 255 191 (dk_at dksX6_ways_3 14 rfl rfl)
theorem dX6_ways_88 : decode cX6_ways 88 = .ok (.aload_n 0, 1) := dk_42 (dk_at dksX6_ways_3 17 rfl rfl)
theorem dX6_ways_89 : decode cX6_ways 89 = .ok (.iconst 0, 1) := dk_3 (dk_at dksX6_ways_3 18 rfl rfl)
theorem dX6_ways_90 : decode cX6_ways 90 = .ok (.iconst 0, 1) := dk_3 (dk_at dksX6_ways_3 19 rfl rfl)
theorem dX6_ways_91 : decode cX6_ways 91 = .ok (.invokevirtual 400, 3) := dk_182 1 144 (dk_at dksX6_ways_3 20 rfl rfl)
theorem dX6_ways_94 : decode cX6_ways 94 = .ok (.lreturn, 1) := dk_173 (dk_at dksX6_ways_3 23 rfl rfl)
abbrev cX6_waysFrom : ByteArray := prog_24_method_104_code
def yX6_waysFrom : MethodName := ⟨RX6, "waysFrom", "(II)J"⟩
def dkwX6_waysFrom_2 : List UInt8 := [21, 5, 96, 47, 167, 0, 4, 9, 97, 66, 132, 5, 1, 167, 255, 207, 33, 173]
abbrev dktX6_waysFrom_2 : List UInt8 := dkwX6_waysFrom_2 ++ []
def dkwX6_waysFrom_1 : List UInt8 := [42, 180, 0, 78, 27, 28, 21, 5, 184, 1, 98, 51, 153, 0, 18, 42, 180, 0, 84, 16, 25, 27, 104]
abbrev dktX6_waysFrom_1 : List UInt8 := dkwX6_waysFrom_1 ++ dktX6_waysFrom_2
def dkwX6_waysFrom_0 : List UInt8 := [9, 66, 42, 180, 0, 28, 16, 39, 46, 54, 5, 21, 5, 42, 180, 0, 28, 16, 40, 46, 163, 0, 43, 33]
abbrev dktX6_waysFrom_0 : List UInt8 := dkwX6_waysFrom_0 ++ dktX6_waysFrom_1
theorem dksX6_waysFrom_0 : cX6_waysFrom.data.toList.drop 0 = dktX6_waysFrom_0 := by decide +kernel
theorem dksX6_waysFrom_1 : cX6_waysFrom.data.toList.drop 24 = dktX6_waysFrom_1 := dk_seg dksX6_waysFrom_0 24 rfl rfl
theorem dksX6_waysFrom_2 : cX6_waysFrom.data.toList.drop 47 = dktX6_waysFrom_2 := dk_seg dksX6_waysFrom_1 23 rfl rfl
theorem dX6_waysFrom_0 : decode cX6_waysFrom 0 = .ok (.lconst 0, 1) := dk_9 (dk_at dksX6_waysFrom_0 0 rfl rfl)
theorem dX6_waysFrom_1 : decode cX6_waysFrom 1 = .ok (.lstore_n 3, 1) := dk_66 (dk_at dksX6_waysFrom_0 1 rfl rfl)
theorem dX6_waysFrom_2 : decode cX6_waysFrom 2 = .ok (.aload_n 0, 1) := dk_42 (dk_at dksX6_waysFrom_0 2 rfl rfl)
theorem dX6_waysFrom_3 : decode cX6_waysFrom 3 = .ok (.getfield 28, 3) := dk_180 0 28 (dk_at dksX6_waysFrom_0 3 rfl rfl)
theorem dX6_waysFrom_6 : decode cX6_waysFrom 6 = .ok (.bipush 39, 2) := dk_16 39 (dk_at dksX6_waysFrom_0 6 rfl rfl)
theorem dX6_waysFrom_8 : decode cX6_waysFrom 8 = .ok (.iaload, 1) := dk_46 (dk_at dksX6_waysFrom_0 8 rfl rfl)
theorem dX6_waysFrom_9 : decode cX6_waysFrom 9 = .ok (.istore 5, 2) := dk_54 5 (dk_at dksX6_waysFrom_0 9 rfl rfl)
theorem dX6_waysFrom_11 : decode cX6_waysFrom 11 = .ok (.iload 5, 2) := dk_21 5 (dk_at dksX6_waysFrom_0 11 rfl rfl)
theorem dX6_waysFrom_13 : decode cX6_waysFrom 13 = .ok (.aload_n 0, 1) := dk_42 (dk_at dksX6_waysFrom_0 13 rfl rfl)
theorem dX6_waysFrom_14 : decode cX6_waysFrom 14 = .ok (.getfield 28, 3) := dk_180 0 28 (dk_at dksX6_waysFrom_0 14 rfl rfl)
theorem dX6_waysFrom_17 : decode cX6_waysFrom 17 = .ok (.bipush 40, 2) := dk_16 40 (dk_at dksX6_waysFrom_0 17 rfl rfl)
theorem dX6_waysFrom_19 : decode cX6_waysFrom 19 = .ok (.iaload, 1) := dk_46 (dk_at dksX6_waysFrom_0 19 rfl rfl)
theorem dX6_waysFrom_20 : decode cX6_waysFrom 20 = .ok (.if_icmp .gt 43, 3) := dk_163 0 43 (dk_at dksX6_waysFrom_0 20 rfl rfl)
theorem dX6_waysFrom_23 : decode cX6_waysFrom 23 = .ok (.lload_n 3, 1) := dk_33 (dk_at dksX6_waysFrom_0 23 rfl rfl)
theorem dX6_waysFrom_24 : decode cX6_waysFrom 24 = .ok (.aload_n 0, 1) := dk_42 (dk_at dksX6_waysFrom_1 0 rfl rfl)
theorem dX6_waysFrom_25 : decode cX6_waysFrom 25 = .ok (.getfield 78, 3) := dk_180 0 78 (dk_at dksX6_waysFrom_1 1 rfl rfl)
theorem dX6_waysFrom_28 : decode cX6_waysFrom 28 = .ok (.iload_n 1, 1) := dk_27 (dk_at dksX6_waysFrom_1 4 rfl rfl)
theorem dX6_waysFrom_29 : decode cX6_waysFrom 29 = .ok (.iload_n 2, 1) := dk_28 (dk_at dksX6_waysFrom_1 5 rfl rfl)
theorem dX6_waysFrom_30 : decode cX6_waysFrom 30 = .ok (.iload 5, 2) := dk_21 5 (dk_at dksX6_waysFrom_1 6 rfl rfl)
theorem dX6_waysFrom_32 : decode cX6_waysFrom 32 = .ok (.invokestatic 354, 3) := dk_184 1 98 (dk_at dksX6_waysFrom_1 8 rfl rfl)
theorem dX6_waysFrom_35 : decode cX6_waysFrom 35 = .ok (.baload, 1) := dk_51 (dk_at dksX6_waysFrom_1 11 rfl rfl)
theorem dX6_waysFrom_36 : decode cX6_waysFrom 36 = .ok (.ifCond .eq 18, 3) := dk_153 0 18 (dk_at dksX6_waysFrom_1 12 rfl rfl)
theorem dX6_waysFrom_39 : decode cX6_waysFrom 39 = .ok (.aload_n 0, 1) := dk_42 (dk_at dksX6_waysFrom_1 15 rfl rfl)
theorem dX6_waysFrom_40 : decode cX6_waysFrom 40 = .ok (.getfield 84, 3) := dk_180 0 84 (dk_at dksX6_waysFrom_1 16 rfl rfl)
theorem dX6_waysFrom_43 : decode cX6_waysFrom 43 = .ok (.bipush 25, 2) := dk_16 25 (dk_at dksX6_waysFrom_1 19 rfl rfl)
theorem dX6_waysFrom_45 : decode cX6_waysFrom 45 = .ok (.iload_n 1, 1) := dk_27 (dk_at dksX6_waysFrom_1 21 rfl rfl)
theorem dX6_waysFrom_46 : decode cX6_waysFrom 46 = .ok (.imul, 1) := dk_104 (dk_at dksX6_waysFrom_1 22 rfl rfl)
theorem dX6_waysFrom_47 : decode cX6_waysFrom 47 = .ok (.iload 5, 2) := dk_21 5 (dk_at dksX6_waysFrom_2 0 rfl rfl)
theorem dX6_waysFrom_49 : decode cX6_waysFrom 49 = .ok (.iadd, 1) := dk_96 (dk_at dksX6_waysFrom_2 2 rfl rfl)
theorem dX6_waysFrom_50 : decode cX6_waysFrom 50 = .ok (.laload, 1) := dk_47 (dk_at dksX6_waysFrom_2 3 rfl rfl)
theorem dX6_waysFrom_51 : decode cX6_waysFrom 51 = .ok (.goto 4, 3) := dk_167 0 4 (dk_at dksX6_waysFrom_2 4 rfl rfl)
theorem dX6_waysFrom_54 : decode cX6_waysFrom 54 = .ok (.lconst 0, 1) := dk_9 (dk_at dksX6_waysFrom_2 7 rfl rfl)
theorem dX6_waysFrom_55 : decode cX6_waysFrom 55 = .ok (.ladd, 1) := dk_97 (dk_at dksX6_waysFrom_2 8 rfl rfl)
theorem dX6_waysFrom_56 : decode cX6_waysFrom 56 = .ok (.lstore_n 3, 1) := dk_66 (dk_at dksX6_waysFrom_2 9 rfl rfl)
theorem dX6_waysFrom_57 : decode cX6_waysFrom 57 = .ok (.iinc 5 1, 3) := dk_132 5 1 (dk_at dksX6_waysFrom_2 10 rfl rfl)
theorem dX6_waysFrom_60 : decode cX6_waysFrom 60 = .ok (.goto (-49), 3) := dk_167 255 207 (dk_at dksX6_waysFrom_2 13 rfl rfl)
theorem dX6_waysFrom_63 : decode cX6_waysFrom 63 = .ok (.lload_n 3, 1) := dk_33 (dk_at dksX6_waysFrom_2 16 rfl rfl)
theorem dX6_waysFrom_64 : decode cX6_waysFrom 64 = .ok (.lreturn, 1) := dk_173 (dk_at dksX6_waysFrom_2 17 rfl rfl)
abbrev cX6_compass : ByteArray := prog_24_method_106_code
def yX6_compass : MethodName := ⟨RX6, "compass", "(I)I"⟩
def dkwX6_compass_3 : List UInt8 := [28, 167, 0, 4, 29, 172, 132, 3, 1, 167, 255, 219, 132, 2, 1, 167, 255, 186, 2, 172]
abbrev dktX6_compass_3 : List UInt8 := dkwX6_compass_3 ++ []
def dkwX6_compass_2 : List UInt8 := [180, 0, 28, 16, 40, 46, 163, 0, 30, 42, 29, 29, 28, 96, 182, 1, 148, 153, 0, 13, 27, 154, 0, 7]
abbrev dktX6_compass_2 : List UInt8 := dkwX6_compass_2 ++ dktX6_compass_3
def dkwX6_compass_1 : List UInt8 := [46, 42, 180, 0, 28, 16, 39, 46, 100, 163, 0, 57, 42, 180, 0, 28, 16, 39, 46, 62, 29, 28, 96, 42]
abbrev dktX6_compass_1 : List UInt8 := dkwX6_compass_1 ++ dktX6_compass_2
def dkwX6_compass_0 : List UInt8 := [27, 3, 4, 184, 0, 18, 154, 0, 5, 2, 172, 42, 182, 1, 120, 3, 61, 28, 42, 180, 0, 28, 16, 40]
abbrev dktX6_compass_0 : List UInt8 := dkwX6_compass_0 ++ dktX6_compass_1
theorem dksX6_compass_0 : cX6_compass.data.toList.drop 0 = dktX6_compass_0 := by decide +kernel
theorem dksX6_compass_1 : cX6_compass.data.toList.drop 24 = dktX6_compass_1 := dk_seg dksX6_compass_0 24 rfl rfl
theorem dksX6_compass_2 : cX6_compass.data.toList.drop 48 = dktX6_compass_2 := dk_seg dksX6_compass_1 24 rfl rfl
theorem dksX6_compass_3 : cX6_compass.data.toList.drop 72 = dktX6_compass_3 := dk_seg dksX6_compass_2 24 rfl rfl
theorem dX6_compass_0 : decode cX6_compass 0 = .ok (.iload_n 1, 1) := dk_27 (dk_at dksX6_compass_0 0 rfl rfl)
theorem dX6_compass_1 : decode cX6_compass 1 = .ok (.iconst 0, 1) := dk_3 (dk_at dksX6_compass_0 1 rfl rfl)
theorem dX6_compass_2 : decode cX6_compass 2 = .ok (.iconst 1, 1) := dk_4 (dk_at dksX6_compass_0 2 rfl rfl)
theorem dX6_compass_3 : decode cX6_compass 3 = .ok (.invokestatic 18, 3) := dk_184 0 18 (dk_at dksX6_compass_0 3 rfl rfl)
theorem dX6_compass_6 : decode cX6_compass 6 = .ok (.ifCond .ne 5, 3) := dk_154 0 5 (dk_at dksX6_compass_0 6 rfl rfl)
theorem dX6_compass_9 : decode cX6_compass 9 = .ok (.iconst (-1), 1) := dk_2 (dk_at dksX6_compass_0 9 rfl rfl)
theorem dX6_compass_10 : decode cX6_compass 10 = .ok (.ireturn, 1) := dk_172 (dk_at dksX6_compass_0 10 rfl rfl)
theorem dX6_compass_11 : decode cX6_compass 11 = .ok (.aload_n 0, 1) := dk_42 (dk_at dksX6_compass_0 11 rfl rfl)
theorem dX6_compass_12 : decode cX6_compass 12 = .ok (.invokevirtual 376, 3) := dk_182 1 120 (dk_at dksX6_compass_0 12 rfl rfl)
theorem dX6_compass_15 : decode cX6_compass 15 = .ok (.iconst 0, 1) := dk_3 (dk_at dksX6_compass_0 15 rfl rfl)
theorem dX6_compass_16 : decode cX6_compass 16 = .ok (.istore_n 2, 1) := dk_61 (dk_at dksX6_compass_0 16 rfl rfl)
theorem dX6_compass_17 : decode cX6_compass 17 = .ok (.iload_n 2, 1) := dk_28 (dk_at dksX6_compass_0 17 rfl rfl)
theorem dX6_compass_18 : decode cX6_compass 18 = .ok (.aload_n 0, 1) := dk_42 (dk_at dksX6_compass_0 18 rfl rfl)
theorem dX6_compass_19 : decode cX6_compass 19 = .ok (.getfield 28, 3) := dk_180 0 28 (dk_at dksX6_compass_0 19 rfl rfl)
theorem dX6_compass_22 : decode cX6_compass 22 = .ok (.bipush 40, 2) := dk_16 40 (dk_at dksX6_compass_0 22 rfl rfl)
theorem dX6_compass_24 : decode cX6_compass 24 = .ok (.iaload, 1) := dk_46 (dk_at dksX6_compass_1 0 rfl rfl)
theorem dX6_compass_25 : decode cX6_compass 25 = .ok (.aload_n 0, 1) := dk_42 (dk_at dksX6_compass_1 1 rfl rfl)
theorem dX6_compass_26 : decode cX6_compass 26 = .ok (.getfield 28, 3) := dk_180 0 28 (dk_at dksX6_compass_1 2 rfl rfl)
theorem dX6_compass_29 : decode cX6_compass 29 = .ok (.bipush 39, 2) := dk_16 39 (dk_at dksX6_compass_1 5 rfl rfl)
theorem dX6_compass_31 : decode cX6_compass 31 = .ok (.iaload, 1) := dk_46 (dk_at dksX6_compass_1 7 rfl rfl)
theorem dX6_compass_32 : decode cX6_compass 32 = .ok (.isub, 1) := dk_100 (dk_at dksX6_compass_1 8 rfl rfl)
theorem dX6_compass_33 : decode cX6_compass 33 = .ok (.if_icmp .gt 57, 3) := dk_163 0 57 (dk_at dksX6_compass_1 9 rfl rfl)
theorem dX6_compass_36 : decode cX6_compass 36 = .ok (.aload_n 0, 1) := dk_42 (dk_at dksX6_compass_1 12 rfl rfl)
theorem dX6_compass_37 : decode cX6_compass 37 = .ok (.getfield 28, 3) := dk_180 0 28 (dk_at dksX6_compass_1 13 rfl rfl)
theorem dX6_compass_40 : decode cX6_compass 40 = .ok (.bipush 39, 2) := dk_16 39 (dk_at dksX6_compass_1 16 rfl rfl)
theorem dX6_compass_42 : decode cX6_compass 42 = .ok (.iaload, 1) := dk_46 (dk_at dksX6_compass_1 18 rfl rfl)
theorem dX6_compass_43 : decode cX6_compass 43 = .ok (.istore_n 3, 1) := dk_62 (dk_at dksX6_compass_1 19 rfl rfl)
theorem dX6_compass_44 : decode cX6_compass 44 = .ok (.iload_n 3, 1) := dk_29 (dk_at dksX6_compass_1 20 rfl rfl)
theorem dX6_compass_45 : decode cX6_compass 45 = .ok (.iload_n 2, 1) := dk_28 (dk_at dksX6_compass_1 21 rfl rfl)
theorem dX6_compass_46 : decode cX6_compass 46 = .ok (.iadd, 1) := dk_96 (dk_at dksX6_compass_1 22 rfl rfl)
theorem dX6_compass_47 : decode cX6_compass 47 = .ok (.aload_n 0, 1) := dk_42 (dk_at dksX6_compass_1 23 rfl rfl)
theorem dX6_compass_48 : decode cX6_compass 48 = .ok (.getfield 28, 3) := dk_180 0 28 (dk_at dksX6_compass_2 0 rfl rfl)
theorem dX6_compass_51 : decode cX6_compass 51 = .ok (.bipush 40, 2) := dk_16 40 (dk_at dksX6_compass_2 3 rfl rfl)
theorem dX6_compass_53 : decode cX6_compass 53 = .ok (.iaload, 1) := dk_46 (dk_at dksX6_compass_2 5 rfl rfl)
theorem dX6_compass_54 : decode cX6_compass 54 = .ok (.if_icmp .gt 30, 3) := dk_163 0 30 (dk_at dksX6_compass_2 6 rfl rfl)
theorem dX6_compass_57 : decode cX6_compass 57 = .ok (.aload_n 0, 1) := dk_42 (dk_at dksX6_compass_2 9 rfl rfl)
theorem dX6_compass_58 : decode cX6_compass 58 = .ok (.iload_n 3, 1) := dk_29 (dk_at dksX6_compass_2 10 rfl rfl)
theorem dX6_compass_59 : decode cX6_compass 59 = .ok (.iload_n 3, 1) := dk_29 (dk_at dksX6_compass_2 11 rfl rfl)
theorem dX6_compass_60 : decode cX6_compass 60 = .ok (.iload_n 2, 1) := dk_28 (dk_at dksX6_compass_2 12 rfl rfl)
theorem dX6_compass_61 : decode cX6_compass 61 = .ok (.iadd, 1) := dk_96 (dk_at dksX6_compass_2 13 rfl rfl)
theorem dX6_compass_62 : decode cX6_compass 62 = .ok (.invokevirtual 404, 3) := dk_182 1 148 (dk_at dksX6_compass_2 14 rfl rfl)
theorem dX6_compass_65 : decode cX6_compass 65 = .ok (.ifCond .eq 13, 3) := dk_153 0 13 (dk_at dksX6_compass_2 17 rfl rfl)
theorem dX6_compass_68 : decode cX6_compass 68 = .ok (.iload_n 1, 1) := dk_27 (dk_at dksX6_compass_2 20 rfl rfl)
theorem dX6_compass_69 : decode cX6_compass 69 = .ok (.ifCond .ne 7, 3) := dk_154 0 7 (dk_at dksX6_compass_2 21 rfl rfl)
theorem dX6_compass_72 : decode cX6_compass 72 = .ok (.iload_n 2, 1) := dk_28 (dk_at dksX6_compass_3 0 rfl rfl)
theorem dX6_compass_73 : decode cX6_compass 73 = .ok (.goto 4, 3) := dk_167 0 4 (dk_at dksX6_compass_3 1 rfl rfl)
theorem dX6_compass_76 : decode cX6_compass 76 = .ok (.iload_n 3, 1) := dk_29 (dk_at dksX6_compass_3 4 rfl rfl)
theorem dX6_compass_77 : decode cX6_compass 77 = .ok (.ireturn, 1) := dk_172 (dk_at dksX6_compass_3 5 rfl rfl)
theorem dX6_compass_78 : decode cX6_compass 78 = .ok (.iinc 3 1, 3) := dk_132 3 1 (dk_at dksX6_compass_3 6 rfl rfl)
theorem dX6_compass_81 : decode cX6_compass 81 = .ok (.goto (-37), 3) := dk_167 255 219 (dk_at dksX6_compass_3 9 rfl rfl)
theorem dX6_compass_84 : decode cX6_compass 84 = .ok (.iinc 2 1, 3) := dk_132 2 1 (dk_at dksX6_compass_3 12 rfl rfl)
theorem dX6_compass_87 : decode cX6_compass 87 = .ok (.goto (-70), 3) := dk_167 255 186 (dk_at dksX6_compass_3 15 rfl rfl)
theorem dX6_compass_90 : decode cX6_compass 90 = .ok (.iconst (-1), 1) := dk_2 (dk_at dksX6_compass_3 18 rfl rfl)
theorem dX6_compass_91 : decode cX6_compass 91 = .ok (.ireturn, 1) := dk_172 (dk_at dksX6_compass_3 19 rfl rfl)
abbrev cX6_hasVoice : ByteArray := prog_24_method_105_code
def yX6_hasVoice : MethodName := ⟨RX6, "hasVoice", "(II)Z"⟩
def dkwX6_hasVoice_1 : List UInt8 := [182, 1, 104, 19, 1, 108, 162, 0, 7, 4, 167, 0, 4, 3, 172]
abbrev dktX6_hasVoice_1 : List UInt8 := dkwX6_hasVoice_1 ++ []
def dkwX6_hasVoice_0 : List UInt8 := [42, 182, 0, 112, 154, 0, 5, 4, 172, 42, 27, 28, 3, 182, 1, 116, 42, 3, 3, 27, 28, 3]
abbrev dktX6_hasVoice_0 : List UInt8 := dkwX6_hasVoice_0 ++ dktX6_hasVoice_1
theorem dksX6_hasVoice_0 : cX6_hasVoice.data.toList.drop 0 = dktX6_hasVoice_0 := by decide +kernel
theorem dksX6_hasVoice_1 : cX6_hasVoice.data.toList.drop 22 = dktX6_hasVoice_1 := dk_seg dksX6_hasVoice_0 22 rfl rfl
theorem dX6_hasVoice_0 : decode cX6_hasVoice 0 = .ok (.aload_n 0, 1) := dk_42 (dk_at dksX6_hasVoice_0 0 rfl rfl)
theorem dX6_hasVoice_1 : decode cX6_hasVoice 1 = .ok (.invokevirtual 112, 3) := dk_182 0 112 (dk_at dksX6_hasVoice_0 1 rfl rfl)
theorem dX6_hasVoice_4 : decode cX6_hasVoice 4 = .ok (.ifCond .ne 5, 3) := dk_154 0 5 (dk_at dksX6_hasVoice_0 4 rfl rfl)
theorem dX6_hasVoice_7 : decode cX6_hasVoice 7 = .ok (.iconst 1, 1) := dk_4 (dk_at dksX6_hasVoice_0 7 rfl rfl)
theorem dX6_hasVoice_8 : decode cX6_hasVoice 8 = .ok (.ireturn, 1) := dk_172 (dk_at dksX6_hasVoice_0 8 rfl rfl)
theorem dX6_hasVoice_9 : decode cX6_hasVoice 9 = .ok (.aload_n 0, 1) := dk_42 (dk_at dksX6_hasVoice_0 9 rfl rfl)
theorem dX6_hasVoice_10 : decode cX6_hasVoice 10 = .ok (.iload_n 1, 1) := dk_27 (dk_at dksX6_hasVoice_0 10 rfl rfl)
theorem dX6_hasVoice_11 : decode cX6_hasVoice 11 = .ok (.iload_n 2, 1) := dk_28 (dk_at dksX6_hasVoice_0 11 rfl rfl)
theorem dX6_hasVoice_12 : decode cX6_hasVoice 12 = .ok (.iconst 0, 1) := dk_3 (dk_at dksX6_hasVoice_0 12 rfl rfl)
theorem dX6_hasVoice_13 : decode cX6_hasVoice 13 = .ok (.invokevirtual 372, 3) := dk_182 1 116 (dk_at dksX6_hasVoice_0 13 rfl rfl)
theorem dX6_hasVoice_16 : decode cX6_hasVoice 16 = .ok (.aload_n 0, 1) := dk_42 (dk_at dksX6_hasVoice_0 16 rfl rfl)
theorem dX6_hasVoice_17 : decode cX6_hasVoice 17 = .ok (.iconst 0, 1) := dk_3 (dk_at dksX6_hasVoice_0 17 rfl rfl)
theorem dX6_hasVoice_18 : decode cX6_hasVoice 18 = .ok (.iconst 0, 1) := dk_3 (dk_at dksX6_hasVoice_0 18 rfl rfl)
theorem dX6_hasVoice_19 : decode cX6_hasVoice 19 = .ok (.iload_n 1, 1) := dk_27 (dk_at dksX6_hasVoice_0 19 rfl rfl)
theorem dX6_hasVoice_20 : decode cX6_hasVoice 20 = .ok (.iload_n 2, 1) := dk_28 (dk_at dksX6_hasVoice_0 20 rfl rfl)
theorem dX6_hasVoice_21 : decode cX6_hasVoice 21 = .ok (.iconst 0, 1) := dk_3 (dk_at dksX6_hasVoice_0 21 rfl rfl)
theorem dX6_hasVoice_22 : decode cX6_hasVoice 22 = .ok (.invokevirtual 360, 3) := dk_182 1 104 (dk_at dksX6_hasVoice_1 0 rfl rfl)
theorem dX6_hasVoice_25 : decode cX6_hasVoice 25 = .ok (.ldc_w 364, 3) := dk_19 1 108 (dk_at dksX6_hasVoice_1 3 rfl rfl)
theorem dX6_hasVoice_28 : decode cX6_hasVoice 28 = .ok (.if_icmp .ge 7, 3) := dk_162 0 7 (dk_at dksX6_hasVoice_1 6 rfl rfl)
theorem dX6_hasVoice_31 : decode cX6_hasVoice 31 = .ok (.iconst 1, 1) := dk_4 (dk_at dksX6_hasVoice_1 9 rfl rfl)
theorem dX6_hasVoice_32 : decode cX6_hasVoice 32 = .ok (.goto 4, 3) := dk_167 0 4 (dk_at dksX6_hasVoice_1 10 rfl rfl)
theorem dX6_hasVoice_35 : decode cX6_hasVoice 35 = .ok (.iconst 0, 1) := dk_3 (dk_at dksX6_hasVoice_1 13 rfl rfl)
theorem dX6_hasVoice_36 : decode cX6_hasVoice 36 = .ok (.ireturn, 1) := dk_172 (dk_at dksX6_hasVoice_1 14 rfl rfl)
abbrev cX6_cheapest : ByteArray := prog_24_method_107_code
def yX6_cheapest : MethodName := ⟨RX6, "cheapest", "(II)I"⟩
def dkwX6_cheapest_4 : List UInt8 := [167, 255, 196, 29, 2, 159, 0, 7, 28, 154, 0, 7, 29, 167, 0, 5, 21, 4, 172]
abbrev dktX6_cheapest_4 : List UInt8 := dkwX6_cheapest_4 ++ []
def dkwX6_cheapest_3 : List UInt8 := [159, 0, 20, 21, 6, 21, 4, 161, 0, 6, 167, 0, 10, 21, 6, 54, 4, 21, 5, 62, 132, 5, 1]
abbrev dktX6_cheapest_3 : List UInt8 := dkwX6_cheapest_3 ++ dktX6_cheapest_4
def dkwX6_cheapest_2 : List UInt8 := [27, 96, 46, 160, 0, 7, 2, 167, 0, 10, 42, 27, 21, 5, 182, 1, 151, 54, 6, 21, 6, 2]
abbrev dktX6_cheapest_2 : List UInt8 := dkwX6_cheapest_2 ++ dktX6_cheapest_3
def dkwX6_cheapest_1 : List UInt8 := [62, 19, 1, 108, 54, 4, 3, 54, 5, 21, 5, 16, 25, 162, 0, 59, 21, 5, 42, 180, 0, 28, 16, 12]
abbrev dktX6_cheapest_1 : List UInt8 := dkwX6_cheapest_1 ++ dktX6_cheapest_2
def dkwX6_cheapest_0 : List UInt8 := [42, 27, 182, 0, 124, 153, 0, 12, 28, 3, 4, 184, 0, 18, 154, 0, 5, 2, 172, 42, 182, 1, 120, 2]
abbrev dktX6_cheapest_0 : List UInt8 := dkwX6_cheapest_0 ++ dktX6_cheapest_1
theorem dksX6_cheapest_0 : cX6_cheapest.data.toList.drop 0 = dktX6_cheapest_0 := by decide +kernel
theorem dksX6_cheapest_1 : cX6_cheapest.data.toList.drop 24 = dktX6_cheapest_1 := dk_seg dksX6_cheapest_0 24 rfl rfl
theorem dksX6_cheapest_2 : cX6_cheapest.data.toList.drop 48 = dktX6_cheapest_2 := dk_seg dksX6_cheapest_1 24 rfl rfl
theorem dksX6_cheapest_3 : cX6_cheapest.data.toList.drop 70 = dktX6_cheapest_3 := dk_seg dksX6_cheapest_2 22 rfl rfl
theorem dksX6_cheapest_4 : cX6_cheapest.data.toList.drop 93 = dktX6_cheapest_4 := dk_seg dksX6_cheapest_3 23 rfl rfl
theorem dX6_cheapest_0 : decode cX6_cheapest 0 = .ok (.aload_n 0, 1) := dk_42 (dk_at dksX6_cheapest_0 0 rfl rfl)
theorem dX6_cheapest_1 : decode cX6_cheapest 1 = .ok (.iload_n 1, 1) := dk_27 (dk_at dksX6_cheapest_0 1 rfl rfl)
theorem dX6_cheapest_2 : decode cX6_cheapest 2 = .ok (.invokevirtual 124, 3) := dk_182 0 124 (dk_at dksX6_cheapest_0 2 rfl rfl)
theorem dX6_cheapest_5 : decode cX6_cheapest 5 = .ok (.ifCond .eq 12, 3) := dk_153 0 12 (dk_at dksX6_cheapest_0 5 rfl rfl)
theorem dX6_cheapest_8 : decode cX6_cheapest 8 = .ok (.iload_n 2, 1) := dk_28 (dk_at dksX6_cheapest_0 8 rfl rfl)
theorem dX6_cheapest_9 : decode cX6_cheapest 9 = .ok (.iconst 0, 1) := dk_3 (dk_at dksX6_cheapest_0 9 rfl rfl)
theorem dX6_cheapest_10 : decode cX6_cheapest 10 = .ok (.iconst 1, 1) := dk_4 (dk_at dksX6_cheapest_0 10 rfl rfl)
theorem dX6_cheapest_11 : decode cX6_cheapest 11 = .ok (.invokestatic 18, 3) := dk_184 0 18 (dk_at dksX6_cheapest_0 11 rfl rfl)
theorem dX6_cheapest_14 : decode cX6_cheapest 14 = .ok (.ifCond .ne 5, 3) := dk_154 0 5 (dk_at dksX6_cheapest_0 14 rfl rfl)
theorem dX6_cheapest_17 : decode cX6_cheapest 17 = .ok (.iconst (-1), 1) := dk_2 (dk_at dksX6_cheapest_0 17 rfl rfl)
theorem dX6_cheapest_18 : decode cX6_cheapest 18 = .ok (.ireturn, 1) := dk_172 (dk_at dksX6_cheapest_0 18 rfl rfl)
theorem dX6_cheapest_19 : decode cX6_cheapest 19 = .ok (.aload_n 0, 1) := dk_42 (dk_at dksX6_cheapest_0 19 rfl rfl)
theorem dX6_cheapest_20 : decode cX6_cheapest 20 = .ok (.invokevirtual 376, 3) := dk_182 1 120 (dk_at dksX6_cheapest_0 20 rfl rfl)
theorem dX6_cheapest_23 : decode cX6_cheapest 23 = .ok (.iconst (-1), 1) := dk_2 (dk_at dksX6_cheapest_0 23 rfl rfl)
theorem dX6_cheapest_24 : decode cX6_cheapest 24 = .ok (.istore_n 3, 1) := dk_62 (dk_at dksX6_cheapest_1 0 rfl rfl)
theorem dX6_cheapest_25 : decode cX6_cheapest 25 = .ok (.ldc_w 364, 3) := dk_19 1 108 (dk_at dksX6_cheapest_1 1 rfl rfl)
theorem dX6_cheapest_28 : decode cX6_cheapest 28 = .ok (.istore 4, 2) := dk_54 4 (dk_at dksX6_cheapest_1 4 rfl rfl)
theorem dX6_cheapest_30 : decode cX6_cheapest 30 = .ok (.iconst 0, 1) := dk_3 (dk_at dksX6_cheapest_1 6 rfl rfl)
theorem dX6_cheapest_31 : decode cX6_cheapest 31 = .ok (.istore 5, 2) := dk_54 5 (dk_at dksX6_cheapest_1 7 rfl rfl)
theorem dX6_cheapest_33 : decode cX6_cheapest 33 = .ok (.iload 5, 2) := dk_21 5 (dk_at dksX6_cheapest_1 9 rfl rfl)
theorem dX6_cheapest_35 : decode cX6_cheapest 35 = .ok (.bipush 25, 2) := dk_16 25 (dk_at dksX6_cheapest_1 11 rfl rfl)
theorem dX6_cheapest_37 : decode cX6_cheapest 37 = .ok (.if_icmp .ge 59, 3) := dk_162 0 59 (dk_at dksX6_cheapest_1 13 rfl rfl)
theorem dX6_cheapest_40 : decode cX6_cheapest 40 = .ok (.iload 5, 2) := dk_21 5 (dk_at dksX6_cheapest_1 16 rfl rfl)
theorem dX6_cheapest_42 : decode cX6_cheapest 42 = .ok (.aload_n 0, 1) := dk_42 (dk_at dksX6_cheapest_1 18 rfl rfl)
theorem dX6_cheapest_43 : decode cX6_cheapest 43 = .ok (.getfield 28, 3) := dk_180 0 28 (dk_at dksX6_cheapest_1 19 rfl rfl)
theorem dX6_cheapest_46 : decode cX6_cheapest 46 = .ok (.bipush 12, 2) := dk_16 12 (dk_at dksX6_cheapest_1 22 rfl rfl)
theorem dX6_cheapest_48 : decode cX6_cheapest 48 = .ok (.iload_n 1, 1) := dk_27 (dk_at dksX6_cheapest_2 0 rfl rfl)
theorem dX6_cheapest_49 : decode cX6_cheapest 49 = .ok (.iadd, 1) := dk_96 (dk_at dksX6_cheapest_2 1 rfl rfl)
theorem dX6_cheapest_50 : decode cX6_cheapest 50 = .ok (.iaload, 1) := dk_46 (dk_at dksX6_cheapest_2 2 rfl rfl)
theorem dX6_cheapest_51 : decode cX6_cheapest 51 = .ok (.if_icmp .ne 7, 3) := dk_160 0 7 (dk_at dksX6_cheapest_2 3 rfl rfl)
theorem dX6_cheapest_54 : decode cX6_cheapest 54 = .ok (.iconst (-1), 1) := dk_2 (dk_at dksX6_cheapest_2 6 rfl rfl)
theorem dX6_cheapest_55 : decode cX6_cheapest 55 = .ok (.goto 10, 3) := dk_167 0 10 (dk_at dksX6_cheapest_2 7 rfl rfl)
theorem dX6_cheapest_58 : decode cX6_cheapest 58 = .ok (.aload_n 0, 1) := dk_42 (dk_at dksX6_cheapest_2 10 rfl rfl)
theorem dX6_cheapest_59 : decode cX6_cheapest 59 = .ok (.iload_n 1, 1) := dk_27 (dk_at dksX6_cheapest_2 11 rfl rfl)
theorem dX6_cheapest_60 : decode cX6_cheapest 60 = .ok (.iload 5, 2) := dk_21 5 (dk_at dksX6_cheapest_2 12 rfl rfl)
theorem dX6_cheapest_62 : decode cX6_cheapest 62 = .ok (.invokevirtual 407, 3) := dk_182 1 151 (dk_at dksX6_cheapest_2 14 rfl rfl)
theorem dX6_cheapest_65 : decode cX6_cheapest 65 = .ok (.istore 6, 2) := dk_54 6 (dk_at dksX6_cheapest_2 17 rfl rfl)
theorem dX6_cheapest_67 : decode cX6_cheapest 67 = .ok (.iload 6, 2) := dk_21 6 (dk_at dksX6_cheapest_2 19 rfl rfl)
theorem dX6_cheapest_69 : decode cX6_cheapest 69 = .ok (.iconst (-1), 1) := dk_2 (dk_at dksX6_cheapest_2 21 rfl rfl)
theorem dX6_cheapest_70 : decode cX6_cheapest 70 = .ok (.if_icmp .eq 20, 3) := dk_159 0 20 (dk_at dksX6_cheapest_3 0 rfl rfl)
theorem dX6_cheapest_73 : decode cX6_cheapest 73 = .ok (.iload 6, 2) := dk_21 6 (dk_at dksX6_cheapest_3 3 rfl rfl)
theorem dX6_cheapest_75 : decode cX6_cheapest 75 = .ok (.iload 4, 2) := dk_21 4 (dk_at dksX6_cheapest_3 5 rfl rfl)
theorem dX6_cheapest_77 : decode cX6_cheapest 77 = .ok (.if_icmp .lt 6, 3) := dk_161 0 6 (dk_at dksX6_cheapest_3 7 rfl rfl)
theorem dX6_cheapest_80 : decode cX6_cheapest 80 = .ok (.goto 10, 3) := dk_167 0 10 (dk_at dksX6_cheapest_3 10 rfl rfl)
theorem dX6_cheapest_83 : decode cX6_cheapest 83 = .ok (.iload 6, 2) := dk_21 6 (dk_at dksX6_cheapest_3 13 rfl rfl)
theorem dX6_cheapest_85 : decode cX6_cheapest 85 = .ok (.istore 4, 2) := dk_54 4 (dk_at dksX6_cheapest_3 15 rfl rfl)
theorem dX6_cheapest_87 : decode cX6_cheapest 87 = .ok (.iload 5, 2) := dk_21 5 (dk_at dksX6_cheapest_3 17 rfl rfl)
theorem dX6_cheapest_89 : decode cX6_cheapest 89 = .ok (.istore_n 3, 1) := dk_62 (dk_at dksX6_cheapest_3 19 rfl rfl)
theorem dX6_cheapest_90 : decode cX6_cheapest 90 = .ok (.iinc 5 1, 3) := dk_132 5 1 (dk_at dksX6_cheapest_3 20 rfl rfl)
theorem dX6_cheapest_93 : decode cX6_cheapest 93 = .ok (.goto (-60), 3) := dk_167 255 196 (dk_at dksX6_cheapest_4 0 rfl rfl)
theorem dX6_cheapest_96 : decode cX6_cheapest 96 = .ok (.iload_n 3, 1) := dk_29 (dk_at dksX6_cheapest_4 3 rfl rfl)
theorem dX6_cheapest_97 : decode cX6_cheapest 97 = .ok (.iconst (-1), 1) := dk_2 (dk_at dksX6_cheapest_4 4 rfl rfl)
theorem dX6_cheapest_98 : decode cX6_cheapest 98 = .ok (.if_icmp .eq 7, 3) := dk_159 0 7 (dk_at dksX6_cheapest_4 5 rfl rfl)
theorem dX6_cheapest_101 : decode cX6_cheapest 101 = .ok (.iload_n 2, 1) := dk_28 (dk_at dksX6_cheapest_4 8 rfl rfl)
theorem dX6_cheapest_102 : decode cX6_cheapest 102 = .ok (.ifCond .ne 7, 3) := dk_154 0 7 (dk_at dksX6_cheapest_4 9 rfl rfl)
theorem dX6_cheapest_105 : decode cX6_cheapest 105 = .ok (.iload_n 3, 1) := dk_29 (dk_at dksX6_cheapest_4 12 rfl rfl)
theorem dX6_cheapest_106 : decode cX6_cheapest 106 = .ok (.goto 5, 3) := dk_167 0 5 (dk_at dksX6_cheapest_4 13 rfl rfl)
theorem dX6_cheapest_109 : decode cX6_cheapest 109 = .ok (.iload 4, 2) := dk_21 4 (dk_at dksX6_cheapest_4 16 rfl rfl)
theorem dX6_cheapest_111 : decode cX6_cheapest 111 = .ok (.ireturn, 1) := dk_172 (dk_at dksX6_cheapest_4 18 rfl rfl)
abbrev cX6_leastShifted : ByteArray := prog_24_method_108_code
def yX6_leastShifted : MethodName := ⟨RX6, "leastShifted", "(II)I"⟩
def dkwX6_leastShifted_2 : List UInt8 := [182, 1, 123, 54, 4, 42, 180, 0, 28, 16, 12, 27, 96, 29, 79, 21, 4, 172]
abbrev dktX6_leastShifted_2 : List UInt8 := dkwX6_leastShifted_2 ++ []
def dkwX6_leastShifted_1 : List UInt8 := [182, 1, 101, 27, 4, 96, 42, 182, 0, 112, 162, 0, 10, 42, 27, 4, 96, 182, 1, 101, 42, 3]
abbrev dktX6_leastShifted_1 : List UInt8 := dkwX6_leastShifted_1 ++ dktX6_leastShifted_2
def dkwX6_leastShifted_0 : List UInt8 := [42, 180, 0, 28, 16, 12, 27, 96, 46, 62, 42, 180, 0, 28, 16, 12, 27, 96, 28, 79, 42, 27]
abbrev dktX6_leastShifted_0 : List UInt8 := dkwX6_leastShifted_0 ++ dktX6_leastShifted_1
theorem dksX6_leastShifted_0 : cX6_leastShifted.data.toList.drop 0 = dktX6_leastShifted_0 := by decide +kernel
theorem dksX6_leastShifted_1 : cX6_leastShifted.data.toList.drop 22 = dktX6_leastShifted_1 := dk_seg dksX6_leastShifted_0 22 rfl rfl
theorem dksX6_leastShifted_2 : cX6_leastShifted.data.toList.drop 44 = dktX6_leastShifted_2 := dk_seg dksX6_leastShifted_1 22 rfl rfl
theorem dX6_leastShifted_0 : decode cX6_leastShifted 0 = .ok (.aload_n 0, 1) := dk_42 (dk_at dksX6_leastShifted_0 0 rfl rfl)
theorem dX6_leastShifted_1 : decode cX6_leastShifted 1 = .ok (.getfield 28, 3) := dk_180 0 28 (dk_at dksX6_leastShifted_0 1 rfl rfl)
theorem dX6_leastShifted_4 : decode cX6_leastShifted 4 = .ok (.bipush 12, 2) := dk_16 12 (dk_at dksX6_leastShifted_0 4 rfl rfl)
theorem dX6_leastShifted_6 : decode cX6_leastShifted 6 = .ok (.iload_n 1, 1) := dk_27 (dk_at dksX6_leastShifted_0 6 rfl rfl)
theorem dX6_leastShifted_7 : decode cX6_leastShifted 7 = .ok (.iadd, 1) := dk_96 (dk_at dksX6_leastShifted_0 7 rfl rfl)
theorem dX6_leastShifted_8 : decode cX6_leastShifted 8 = .ok (.iaload, 1) := dk_46 (dk_at dksX6_leastShifted_0 8 rfl rfl)
theorem dX6_leastShifted_9 : decode cX6_leastShifted 9 = .ok (.istore_n 3, 1) := dk_62 (dk_at dksX6_leastShifted_0 9 rfl rfl)
theorem dX6_leastShifted_10 : decode cX6_leastShifted 10 = .ok (.aload_n 0, 1) := dk_42 (dk_at dksX6_leastShifted_0 10 rfl rfl)
theorem dX6_leastShifted_11 : decode cX6_leastShifted 11 = .ok (.getfield 28, 3) := dk_180 0 28 (dk_at dksX6_leastShifted_0 11 rfl rfl)
theorem dX6_leastShifted_14 : decode cX6_leastShifted 14 = .ok (.bipush 12, 2) := dk_16 12 (dk_at dksX6_leastShifted_0 14 rfl rfl)
theorem dX6_leastShifted_16 : decode cX6_leastShifted 16 = .ok (.iload_n 1, 1) := dk_27 (dk_at dksX6_leastShifted_0 16 rfl rfl)
theorem dX6_leastShifted_17 : decode cX6_leastShifted 17 = .ok (.iadd, 1) := dk_96 (dk_at dksX6_leastShifted_0 17 rfl rfl)
theorem dX6_leastShifted_18 : decode cX6_leastShifted 18 = .ok (.iload_n 2, 1) := dk_28 (dk_at dksX6_leastShifted_0 18 rfl rfl)
theorem dX6_leastShifted_19 : decode cX6_leastShifted 19 = .ok (.iastore, 1) := dk_79 (dk_at dksX6_leastShifted_0 19 rfl rfl)
theorem dX6_leastShifted_20 : decode cX6_leastShifted 20 = .ok (.aload_n 0, 1) := dk_42 (dk_at dksX6_leastShifted_0 20 rfl rfl)
theorem dX6_leastShifted_21 : decode cX6_leastShifted 21 = .ok (.iload_n 1, 1) := dk_27 (dk_at dksX6_leastShifted_0 21 rfl rfl)
theorem dX6_leastShifted_22 : decode cX6_leastShifted 22 = .ok (.invokevirtual 357, 3) := dk_182 1 101 (dk_at dksX6_leastShifted_1 0 rfl rfl)
theorem dX6_leastShifted_25 : decode cX6_leastShifted 25 = .ok (.iload_n 1, 1) := dk_27 (dk_at dksX6_leastShifted_1 3 rfl rfl)
theorem dX6_leastShifted_26 : decode cX6_leastShifted 26 = .ok (.iconst 1, 1) := dk_4 (dk_at dksX6_leastShifted_1 4 rfl rfl)
theorem dX6_leastShifted_27 : decode cX6_leastShifted 27 = .ok (.iadd, 1) := dk_96 (dk_at dksX6_leastShifted_1 5 rfl rfl)
theorem dX6_leastShifted_28 : decode cX6_leastShifted 28 = .ok (.aload_n 0, 1) := dk_42 (dk_at dksX6_leastShifted_1 6 rfl rfl)
theorem dX6_leastShifted_29 : decode cX6_leastShifted 29 = .ok (.invokevirtual 112, 3) := dk_182 0 112 (dk_at dksX6_leastShifted_1 7 rfl rfl)
theorem dX6_leastShifted_32 : decode cX6_leastShifted 32 = .ok (.if_icmp .ge 10, 3) := dk_162 0 10 (dk_at dksX6_leastShifted_1 10 rfl rfl)
theorem dX6_leastShifted_35 : decode cX6_leastShifted 35 = .ok (.aload_n 0, 1) := dk_42 (dk_at dksX6_leastShifted_1 13 rfl rfl)
theorem dX6_leastShifted_36 : decode cX6_leastShifted 36 = .ok (.iload_n 1, 1) := dk_27 (dk_at dksX6_leastShifted_1 14 rfl rfl)
theorem dX6_leastShifted_37 : decode cX6_leastShifted 37 = .ok (.iconst 1, 1) := dk_4 (dk_at dksX6_leastShifted_1 15 rfl rfl)
theorem dX6_leastShifted_38 : decode cX6_leastShifted 38 = .ok (.iadd, 1) := dk_96 (dk_at dksX6_leastShifted_1 16 rfl rfl)
theorem dX6_leastShifted_39 : decode cX6_leastShifted 39 = .ok (.invokevirtual 357, 3) := dk_182 1 101 (dk_at dksX6_leastShifted_1 17 rfl rfl)
theorem dX6_leastShifted_42 : decode cX6_leastShifted 42 = .ok (.aload_n 0, 1) := dk_42 (dk_at dksX6_leastShifted_1 20 rfl rfl)
theorem dX6_leastShifted_43 : decode cX6_leastShifted 43 = .ok (.iconst 0, 1) := dk_3 (dk_at dksX6_leastShifted_1 21 rfl rfl)
theorem dX6_leastShifted_44 : decode cX6_leastShifted 44 = .ok (.invokevirtual 379, 3) := dk_182 1 123 (dk_at dksX6_leastShifted_2 0 rfl rfl)
theorem dX6_leastShifted_47 : decode cX6_leastShifted 47 = .ok (.istore 4, 2) := dk_54 4 (dk_at dksX6_leastShifted_2 3 rfl rfl)
theorem dX6_leastShifted_49 : decode cX6_leastShifted 49 = .ok (.aload_n 0, 1) := dk_42 (dk_at dksX6_leastShifted_2 5 rfl rfl)
theorem dX6_leastShifted_50 : decode cX6_leastShifted 50 = .ok (.getfield 28, 3) := dk_180 0 28 (dk_at dksX6_leastShifted_2 6 rfl rfl)
theorem dX6_leastShifted_53 : decode cX6_leastShifted 53 = .ok (.bipush 12, 2) := dk_16 12 (dk_at dksX6_leastShifted_2 9 rfl rfl)
theorem dX6_leastShifted_55 : decode cX6_leastShifted 55 = .ok (.iload_n 1, 1) := dk_27 (dk_at dksX6_leastShifted_2 11 rfl rfl)
theorem dX6_leastShifted_56 : decode cX6_leastShifted 56 = .ok (.iadd, 1) := dk_96 (dk_at dksX6_leastShifted_2 12 rfl rfl)
theorem dX6_leastShifted_57 : decode cX6_leastShifted 57 = .ok (.iload_n 3, 1) := dk_29 (dk_at dksX6_leastShifted_2 13 rfl rfl)
theorem dX6_leastShifted_58 : decode cX6_leastShifted 58 = .ok (.iastore, 1) := dk_79 (dk_at dksX6_leastShifted_2 14 rfl rfl)
theorem dX6_leastShifted_59 : decode cX6_leastShifted 59 = .ok (.iload 4, 2) := dk_21 4 (dk_at dksX6_leastShifted_2 15 rfl rfl)
theorem dX6_leastShifted_61 : decode cX6_leastShifted 61 = .ok (.ireturn, 1) := dk_172 (dk_at dksX6_leastShifted_2 17 rfl rfl)
abbrev cX6_compare : ByteArray := prog_24_method_109_code
def yX6_compare : MethodName := ⟨RX6, "compare", "(I)I"⟩
def dkwX6_compare_1 : List UInt8 := [27, 79, 42, 2, 3, 182, 1, 131, 62, 42, 180, 0, 28, 16, 44, 28, 79, 29, 172]
abbrev dktX6_compare_1 : List UInt8 := dkwX6_compare_1 ++ []
def dkwX6_compare_0 : List UInt8 := [42, 27, 182, 0, 255, 154, 0, 5, 2, 172, 42, 180, 0, 28, 16, 44, 46, 61, 42, 180, 0, 28, 16, 44]
abbrev dktX6_compare_0 : List UInt8 := dkwX6_compare_0 ++ dktX6_compare_1
theorem dksX6_compare_0 : cX6_compare.data.toList.drop 0 = dktX6_compare_0 := by decide +kernel
theorem dksX6_compare_1 : cX6_compare.data.toList.drop 24 = dktX6_compare_1 := dk_seg dksX6_compare_0 24 rfl rfl
theorem dX6_compare_0 : decode cX6_compare 0 = .ok (.aload_n 0, 1) := dk_42 (dk_at dksX6_compare_0 0 rfl rfl)
theorem dX6_compare_1 : decode cX6_compare 1 = .ok (.iload_n 1, 1) := dk_27 (dk_at dksX6_compare_0 1 rfl rfl)
theorem dX6_compare_2 : decode cX6_compare 2 = .ok (.invokevirtual 255, 3) := dk_182 0 255 (dk_at dksX6_compare_0 2 rfl rfl)
theorem dX6_compare_5 : decode cX6_compare 5 = .ok (.ifCond .ne 5, 3) := dk_154 0 5 (dk_at dksX6_compare_0 5 rfl rfl)
theorem dX6_compare_8 : decode cX6_compare 8 = .ok (.iconst (-1), 1) := dk_2 (dk_at dksX6_compare_0 8 rfl rfl)
theorem dX6_compare_9 : decode cX6_compare 9 = .ok (.ireturn, 1) := dk_172 (dk_at dksX6_compare_0 9 rfl rfl)
theorem dX6_compare_10 : decode cX6_compare 10 = .ok (.aload_n 0, 1) := dk_42 (dk_at dksX6_compare_0 10 rfl rfl)
theorem dX6_compare_11 : decode cX6_compare 11 = .ok (.getfield 28, 3) := dk_180 0 28 (dk_at dksX6_compare_0 11 rfl rfl)
theorem dX6_compare_14 : decode cX6_compare 14 = .ok (.bipush 44, 2) := dk_16 44 (dk_at dksX6_compare_0 14 rfl rfl)
theorem dX6_compare_16 : decode cX6_compare 16 = .ok (.iaload, 1) := dk_46 (dk_at dksX6_compare_0 16 rfl rfl)
theorem dX6_compare_17 : decode cX6_compare 17 = .ok (.istore_n 2, 1) := dk_61 (dk_at dksX6_compare_0 17 rfl rfl)
theorem dX6_compare_18 : decode cX6_compare 18 = .ok (.aload_n 0, 1) := dk_42 (dk_at dksX6_compare_0 18 rfl rfl)
theorem dX6_compare_19 : decode cX6_compare 19 = .ok (.getfield 28, 3) := dk_180 0 28 (dk_at dksX6_compare_0 19 rfl rfl)
theorem dX6_compare_22 : decode cX6_compare 22 = .ok (.bipush 44, 2) := dk_16 44 (dk_at dksX6_compare_0 22 rfl rfl)
theorem dX6_compare_24 : decode cX6_compare 24 = .ok (.iload_n 1, 1) := dk_27 (dk_at dksX6_compare_1 0 rfl rfl)
theorem dX6_compare_25 : decode cX6_compare 25 = .ok (.iastore, 1) := dk_79 (dk_at dksX6_compare_1 1 rfl rfl)
theorem dX6_compare_26 : decode cX6_compare 26 = .ok (.aload_n 0, 1) := dk_42 (dk_at dksX6_compare_1 2 rfl rfl)
theorem dX6_compare_27 : decode cX6_compare 27 = .ok (.iconst (-1), 1) := dk_2 (dk_at dksX6_compare_1 3 rfl rfl)
theorem dX6_compare_28 : decode cX6_compare 28 = .ok (.iconst 0, 1) := dk_3 (dk_at dksX6_compare_1 4 rfl rfl)
theorem dX6_compare_29 : decode cX6_compare 29 = .ok (.invokevirtual 387, 3) := dk_182 1 131 (dk_at dksX6_compare_1 5 rfl rfl)
theorem dX6_compare_32 : decode cX6_compare 32 = .ok (.istore_n 3, 1) := dk_62 (dk_at dksX6_compare_1 8 rfl rfl)
theorem dX6_compare_33 : decode cX6_compare 33 = .ok (.aload_n 0, 1) := dk_42 (dk_at dksX6_compare_1 9 rfl rfl)
theorem dX6_compare_34 : decode cX6_compare 34 = .ok (.getfield 28, 3) := dk_180 0 28 (dk_at dksX6_compare_1 10 rfl rfl)
theorem dX6_compare_37 : decode cX6_compare 37 = .ok (.bipush 44, 2) := dk_16 44 (dk_at dksX6_compare_1 13 rfl rfl)
theorem dX6_compare_39 : decode cX6_compare 39 = .ok (.iload_n 2, 1) := dk_28 (dk_at dksX6_compare_1 15 rfl rfl)
theorem dX6_compare_40 : decode cX6_compare 40 = .ok (.iastore, 1) := dk_79 (dk_at dksX6_compare_1 16 rfl rfl)
theorem dX6_compare_41 : decode cX6_compare 41 = .ok (.iload_n 3, 1) := dk_29 (dk_at dksX6_compare_1 17 rfl rfl)
theorem dX6_compare_42 : decode cX6_compare 42 = .ok (.ireturn, 1) := dk_172 (dk_at dksX6_compare_1 18 rfl rfl)
abbrev cX6_canon : ByteArray := prog_24_method_111_code
def yX6_canon : MethodName := ⟨RX6, "canon", "(II)I"⟩
def dkwX6_canon_3 : List UInt8 := [160, 0, 7, 29, 167, 0, 6, 17, 252, 24, 172]
abbrev dktX6_canon_3 : List UInt8 := dkwX6_canon_3 ++ []
def dkwX6_canon_2 : List UInt8 := [167, 0, 14, 29, 28, 160, 0, 6, 21, 4, 172, 132, 3, 1, 132, 4, 1, 167, 255, 222, 28, 2]
abbrev dktX6_canon_2 : List UInt8 := dkwX6_canon_2 ++ dktX6_canon_3
def dkwX6_canon_1 : List UInt8 := [62, 16, 232, 54, 4, 21, 4, 16, 25, 162, 0, 33, 42, 27, 21, 4, 182, 1, 154, 154, 0, 6]
abbrev dktX6_canon_1 : List UInt8 := dkwX6_canon_1 ++ dktX6_canon_2
def dkwX6_canon_0 : List UInt8 := [27, 4, 42, 182, 0, 112, 4, 100, 184, 0, 18, 153, 0, 8, 28, 2, 162, 0, 7, 17, 252, 24, 172, 3]
abbrev dktX6_canon_0 : List UInt8 := dkwX6_canon_0 ++ dktX6_canon_1
theorem dksX6_canon_0 : cX6_canon.data.toList.drop 0 = dktX6_canon_0 := by decide +kernel
theorem dksX6_canon_1 : cX6_canon.data.toList.drop 24 = dktX6_canon_1 := dk_seg dksX6_canon_0 24 rfl rfl
theorem dksX6_canon_2 : cX6_canon.data.toList.drop 46 = dktX6_canon_2 := dk_seg dksX6_canon_1 22 rfl rfl
theorem dksX6_canon_3 : cX6_canon.data.toList.drop 68 = dktX6_canon_3 := dk_seg dksX6_canon_2 22 rfl rfl
theorem dX6_canon_0 : decode cX6_canon 0 = .ok (.iload_n 1, 1) := dk_27 (dk_at dksX6_canon_0 0 rfl rfl)
theorem dX6_canon_1 : decode cX6_canon 1 = .ok (.iconst 1, 1) := dk_4 (dk_at dksX6_canon_0 1 rfl rfl)
theorem dX6_canon_2 : decode cX6_canon 2 = .ok (.aload_n 0, 1) := dk_42 (dk_at dksX6_canon_0 2 rfl rfl)
theorem dX6_canon_3 : decode cX6_canon 3 = .ok (.invokevirtual 112, 3) := dk_182 0 112 (dk_at dksX6_canon_0 3 rfl rfl)
theorem dX6_canon_6 : decode cX6_canon 6 = .ok (.iconst 1, 1) := dk_4 (dk_at dksX6_canon_0 6 rfl rfl)
theorem dX6_canon_7 : decode cX6_canon 7 = .ok (.isub, 1) := dk_100 (dk_at dksX6_canon_0 7 rfl rfl)
theorem dX6_canon_8 : decode cX6_canon 8 = .ok (.invokestatic 18, 3) := dk_184 0 18 (dk_at dksX6_canon_0 8 rfl rfl)
theorem dX6_canon_11 : decode cX6_canon 11 = .ok (.ifCond .eq 8, 3) := dk_153 0 8 (dk_at dksX6_canon_0 11 rfl rfl)
theorem dX6_canon_14 : decode cX6_canon 14 = .ok (.iload_n 2, 1) := dk_28 (dk_at dksX6_canon_0 14 rfl rfl)
theorem dX6_canon_15 : decode cX6_canon 15 = .ok (.iconst (-1), 1) := dk_2 (dk_at dksX6_canon_0 15 rfl rfl)
theorem dX6_canon_16 : decode cX6_canon 16 = .ok (.if_icmp .ge 7, 3) := dk_162 0 7 (dk_at dksX6_canon_0 16 rfl rfl)
theorem dX6_canon_19 : decode cX6_canon 19 = .ok (.sipush (-1000), 3) := dk_17 252 24 (dk_at dksX6_canon_0 19 rfl rfl)
theorem dX6_canon_22 : decode cX6_canon 22 = .ok (.ireturn, 1) := dk_172 (dk_at dksX6_canon_0 22 rfl rfl)
theorem dX6_canon_23 : decode cX6_canon 23 = .ok (.iconst 0, 1) := dk_3 (dk_at dksX6_canon_0 23 rfl rfl)
theorem dX6_canon_24 : decode cX6_canon 24 = .ok (.istore_n 3, 1) := dk_62 (dk_at dksX6_canon_1 0 rfl rfl)
theorem dX6_canon_25 : decode cX6_canon 25 = .ok (.bipush (-24), 2) := dk_16 232 (dk_at dksX6_canon_1 1 rfl rfl)
theorem dX6_canon_27 : decode cX6_canon 27 = .ok (.istore 4, 2) := dk_54 4 (dk_at dksX6_canon_1 3 rfl rfl)
theorem dX6_canon_29 : decode cX6_canon 29 = .ok (.iload 4, 2) := dk_21 4 (dk_at dksX6_canon_1 5 rfl rfl)
theorem dX6_canon_31 : decode cX6_canon 31 = .ok (.bipush 25, 2) := dk_16 25 (dk_at dksX6_canon_1 7 rfl rfl)
theorem dX6_canon_33 : decode cX6_canon 33 = .ok (.if_icmp .ge 33, 3) := dk_162 0 33 (dk_at dksX6_canon_1 9 rfl rfl)
theorem dX6_canon_36 : decode cX6_canon 36 = .ok (.aload_n 0, 1) := dk_42 (dk_at dksX6_canon_1 12 rfl rfl)
theorem dX6_canon_37 : decode cX6_canon 37 = .ok (.iload_n 1, 1) := dk_27 (dk_at dksX6_canon_1 13 rfl rfl)
theorem dX6_canon_38 : decode cX6_canon 38 = .ok (.iload 4, 2) := dk_21 4 (dk_at dksX6_canon_1 14 rfl rfl)
theorem dX6_canon_40 : decode cX6_canon 40 = .ok (.invokevirtual 410, 3) := dk_182 1 154 (dk_at dksX6_canon_1 16 rfl rfl)
theorem dX6_canon_43 : decode cX6_canon 43 = .ok (.ifCond .ne 6, 3) := dk_154 0 6 (dk_at dksX6_canon_1 19 rfl rfl)
theorem dX6_canon_46 : decode cX6_canon 46 = .ok (.goto 14, 3) := dk_167 0 14 (dk_at dksX6_canon_2 0 rfl rfl)
theorem dX6_canon_49 : decode cX6_canon 49 = .ok (.iload_n 3, 1) := dk_29 (dk_at dksX6_canon_2 3 rfl rfl)
theorem dX6_canon_50 : decode cX6_canon 50 = .ok (.iload_n 2, 1) := dk_28 (dk_at dksX6_canon_2 4 rfl rfl)
theorem dX6_canon_51 : decode cX6_canon 51 = .ok (.if_icmp .ne 6, 3) := dk_160 0 6 (dk_at dksX6_canon_2 5 rfl rfl)
theorem dX6_canon_54 : decode cX6_canon 54 = .ok (.iload 4, 2) := dk_21 4 (dk_at dksX6_canon_2 8 rfl rfl)
theorem dX6_canon_56 : decode cX6_canon 56 = .ok (.ireturn, 1) := dk_172 (dk_at dksX6_canon_2 10 rfl rfl)
theorem dX6_canon_57 : decode cX6_canon 57 = .ok (.iinc 3 1, 3) := dk_132 3 1 (dk_at dksX6_canon_2 11 rfl rfl)
theorem dX6_canon_60 : decode cX6_canon 60 = .ok (.iinc 4 1, 3) := dk_132 4 1 (dk_at dksX6_canon_2 14 rfl rfl)
theorem dX6_canon_63 : decode cX6_canon 63 = .ok (.goto (-34), 3) := dk_167 255 222 (dk_at dksX6_canon_2 17 rfl rfl)
theorem dX6_canon_66 : decode cX6_canon 66 = .ok (.iload_n 2, 1) := dk_28 (dk_at dksX6_canon_2 20 rfl rfl)
theorem dX6_canon_67 : decode cX6_canon 67 = .ok (.iconst (-1), 1) := dk_2 (dk_at dksX6_canon_2 21 rfl rfl)
theorem dX6_canon_68 : decode cX6_canon 68 = .ok (.if_icmp .ne 7, 3) := dk_160 0 7 (dk_at dksX6_canon_3 0 rfl rfl)
theorem dX6_canon_71 : decode cX6_canon 71 = .ok (.iload_n 3, 1) := dk_29 (dk_at dksX6_canon_3 3 rfl rfl)
theorem dX6_canon_72 : decode cX6_canon 72 = .ok (.goto 6, 3) := dk_167 0 6 (dk_at dksX6_canon_3 4 rfl rfl)
theorem dX6_canon_75 : decode cX6_canon 75 = .ok (.sipush (-1000), 3) := dk_17 252 24 (dk_at dksX6_canon_3 7 rfl rfl)
theorem dX6_canon_78 : decode cX6_canon 78 = .ok (.ireturn, 1) := dk_172 (dk_at dksX6_canon_3 10 rfl rfl)
abbrev cX6_isCanon : ByteArray := prog_24_method_110_code
def yX6_isCanon : MethodName := ⟨RX6, "isCanon", "(II)Z"⟩
def dkwX6_isCanon_4 : List UInt8 := [182, 0, 137, 154, 0, 7, 4, 167, 0, 4, 3, 62, 132, 4, 1, 167, 255, 153, 29, 172]
abbrev dktX6_isCanon_4 : List UInt8 := dkwX6_isCanon_4 ++ []
def dkwX6_isCanon_3 : List UInt8 := [180, 0, 28, 16, 12, 21, 4, 96, 4, 100, 27, 100, 46, 28, 96, 167, 0, 4, 3, 182, 1, 65, 42]
abbrev dktX6_isCanon_3 : List UInt8 := dkwX6_isCanon_3 ++ dktX6_isCanon_4
def dkwX6_isCanon_2 : List UInt8 := [21, 4, 21, 5, 21, 4, 27, 164, 0, 7, 4, 167, 0, 4, 3, 21, 4, 27, 164, 0, 22, 42]
abbrev dktX6_isCanon_2 : List UInt8 := dkwX6_isCanon_2 ++ dktX6_isCanon_3
def dkwX6_isCanon_1 : List UInt8 := [21, 4, 96, 27, 100, 46, 28, 96, 54, 5, 21, 5, 184, 0, 116, 62, 29, 154, 0, 6, 167, 0, 61, 42]
abbrev dktX6_isCanon_1 : List UInt8 := dkwX6_isCanon_1 ++ dktX6_isCanon_2
def dkwX6_isCanon_0 : List UInt8 := [4, 62, 27, 54, 4, 21, 4, 42, 182, 0, 112, 162, 0, 100, 29, 153, 0, 96, 42, 180, 0, 28, 16, 12]
abbrev dktX6_isCanon_0 : List UInt8 := dkwX6_isCanon_0 ++ dktX6_isCanon_1
theorem dksX6_isCanon_0 : cX6_isCanon.data.toList.drop 0 = dktX6_isCanon_0 := by decide +kernel
theorem dksX6_isCanon_1 : cX6_isCanon.data.toList.drop 24 = dktX6_isCanon_1 := dk_seg dksX6_isCanon_0 24 rfl rfl
theorem dksX6_isCanon_2 : cX6_isCanon.data.toList.drop 48 = dktX6_isCanon_2 := dk_seg dksX6_isCanon_1 24 rfl rfl
theorem dksX6_isCanon_3 : cX6_isCanon.data.toList.drop 70 = dktX6_isCanon_3 := dk_seg dksX6_isCanon_2 22 rfl rfl
theorem dksX6_isCanon_4 : cX6_isCanon.data.toList.drop 93 = dktX6_isCanon_4 := dk_seg dksX6_isCanon_3 23 rfl rfl
theorem dX6_isCanon_0 : decode cX6_isCanon 0 = .ok (.iconst 1, 1) := dk_4 (dk_at dksX6_isCanon_0 0 rfl rfl)
theorem dX6_isCanon_1 : decode cX6_isCanon 1 = .ok (.istore_n 3, 1) := dk_62 (dk_at dksX6_isCanon_0 1 rfl rfl)
theorem dX6_isCanon_2 : decode cX6_isCanon 2 = .ok (.iload_n 1, 1) := dk_27 (dk_at dksX6_isCanon_0 2 rfl rfl)
theorem dX6_isCanon_3 : decode cX6_isCanon 3 = .ok (.istore 4, 2) := dk_54 4 (dk_at dksX6_isCanon_0 3 rfl rfl)
theorem dX6_isCanon_5 : decode cX6_isCanon 5 = .ok (.iload 4, 2) := dk_21 4 (dk_at dksX6_isCanon_0 5 rfl rfl)
theorem dX6_isCanon_7 : decode cX6_isCanon 7 = .ok (.aload_n 0, 1) := dk_42 (dk_at dksX6_isCanon_0 7 rfl rfl)
theorem dX6_isCanon_8 : decode cX6_isCanon 8 = .ok (.invokevirtual 112, 3) := dk_182 0 112 (dk_at dksX6_isCanon_0 8 rfl rfl)
theorem dX6_isCanon_11 : decode cX6_isCanon 11 = .ok (.if_icmp .ge 100, 3) := dk_162 0 100 (dk_at dksX6_isCanon_0 11 rfl rfl)
theorem dX6_isCanon_14 : decode cX6_isCanon 14 = .ok (.iload_n 3, 1) := dk_29 (dk_at dksX6_isCanon_0 14 rfl rfl)
theorem dX6_isCanon_15 : decode cX6_isCanon 15 = .ok (.ifCond .eq 96, 3) := dk_153 0 96 (dk_at dksX6_isCanon_0 15 rfl rfl)
theorem dX6_isCanon_18 : decode cX6_isCanon 18 = .ok (.aload_n 0, 1) := dk_42 (dk_at dksX6_isCanon_0 18 rfl rfl)
theorem dX6_isCanon_19 : decode cX6_isCanon 19 = .ok (.getfield 28, 3) := dk_180 0 28 (dk_at dksX6_isCanon_0 19 rfl rfl)
theorem dX6_isCanon_22 : decode cX6_isCanon 22 = .ok (.bipush 12, 2) := dk_16 12 (dk_at dksX6_isCanon_0 22 rfl rfl)
theorem dX6_isCanon_24 : decode cX6_isCanon 24 = .ok (.iload 4, 2) := dk_21 4 (dk_at dksX6_isCanon_1 0 rfl rfl)
theorem dX6_isCanon_26 : decode cX6_isCanon 26 = .ok (.iadd, 1) := dk_96 (dk_at dksX6_isCanon_1 2 rfl rfl)
theorem dX6_isCanon_27 : decode cX6_isCanon 27 = .ok (.iload_n 1, 1) := dk_27 (dk_at dksX6_isCanon_1 3 rfl rfl)
theorem dX6_isCanon_28 : decode cX6_isCanon 28 = .ok (.isub, 1) := dk_100 (dk_at dksX6_isCanon_1 4 rfl rfl)
theorem dX6_isCanon_29 : decode cX6_isCanon 29 = .ok (.iaload, 1) := dk_46 (dk_at dksX6_isCanon_1 5 rfl rfl)
theorem dX6_isCanon_30 : decode cX6_isCanon 30 = .ok (.iload_n 2, 1) := dk_28 (dk_at dksX6_isCanon_1 6 rfl rfl)
theorem dX6_isCanon_31 : decode cX6_isCanon 31 = .ok (.iadd, 1) := dk_96 (dk_at dksX6_isCanon_1 7 rfl rfl)
theorem dX6_isCanon_32 : decode cX6_isCanon 32 = .ok (.istore 5, 2) := dk_54 5 (dk_at dksX6_isCanon_1 8 rfl rfl)
theorem dX6_isCanon_34 : decode cX6_isCanon 34 = .ok (.iload 5, 2) := dk_21 5 (dk_at dksX6_isCanon_1 10 rfl rfl)
theorem dX6_isCanon_36 : decode cX6_isCanon 36 = .ok (.invokestatic 116, 3) := dk_184 0 116 (dk_at dksX6_isCanon_1 12 rfl rfl)
theorem dX6_isCanon_39 : decode cX6_isCanon 39 = .ok (.istore_n 3, 1) := dk_62 (dk_at dksX6_isCanon_1 15 rfl rfl)
theorem dX6_isCanon_40 : decode cX6_isCanon 40 = .ok (.iload_n 3, 1) := dk_29 (dk_at dksX6_isCanon_1 16 rfl rfl)
theorem dX6_isCanon_41 : decode cX6_isCanon 41 = .ok (.ifCond .ne 6, 3) := dk_154 0 6 (dk_at dksX6_isCanon_1 17 rfl rfl)
theorem dX6_isCanon_44 : decode cX6_isCanon 44 = .ok (.goto 61, 3) := dk_167 0 61 (dk_at dksX6_isCanon_1 20 rfl rfl)
theorem dX6_isCanon_47 : decode cX6_isCanon 47 = .ok (.aload_n 0, 1) := dk_42 (dk_at dksX6_isCanon_1 23 rfl rfl)
theorem dX6_isCanon_48 : decode cX6_isCanon 48 = .ok (.iload 4, 2) := dk_21 4 (dk_at dksX6_isCanon_2 0 rfl rfl)
theorem dX6_isCanon_50 : decode cX6_isCanon 50 = .ok (.iload 5, 2) := dk_21 5 (dk_at dksX6_isCanon_2 2 rfl rfl)
theorem dX6_isCanon_52 : decode cX6_isCanon 52 = .ok (.iload 4, 2) := dk_21 4 (dk_at dksX6_isCanon_2 4 rfl rfl)
theorem dX6_isCanon_54 : decode cX6_isCanon 54 = .ok (.iload_n 1, 1) := dk_27 (dk_at dksX6_isCanon_2 6 rfl rfl)
theorem dX6_isCanon_55 : decode cX6_isCanon 55 = .ok (.if_icmp .le 7, 3) := dk_164 0 7 (dk_at dksX6_isCanon_2 7 rfl rfl)
theorem dX6_isCanon_58 : decode cX6_isCanon 58 = .ok (.iconst 1, 1) := dk_4 (dk_at dksX6_isCanon_2 10 rfl rfl)
theorem dX6_isCanon_59 : decode cX6_isCanon 59 = .ok (.goto 4, 3) := dk_167 0 4 (dk_at dksX6_isCanon_2 11 rfl rfl)
theorem dX6_isCanon_62 : decode cX6_isCanon 62 = .ok (.iconst 0, 1) := dk_3 (dk_at dksX6_isCanon_2 14 rfl rfl)
theorem dX6_isCanon_63 : decode cX6_isCanon 63 = .ok (.iload 4, 2) := dk_21 4 (dk_at dksX6_isCanon_2 15 rfl rfl)
theorem dX6_isCanon_65 : decode cX6_isCanon 65 = .ok (.iload_n 1, 1) := dk_27 (dk_at dksX6_isCanon_2 17 rfl rfl)
theorem dX6_isCanon_66 : decode cX6_isCanon 66 = .ok (.if_icmp .le 22, 3) := dk_164 0 22 (dk_at dksX6_isCanon_2 18 rfl rfl)
theorem dX6_isCanon_69 : decode cX6_isCanon 69 = .ok (.aload_n 0, 1) := dk_42 (dk_at dksX6_isCanon_2 21 rfl rfl)
theorem dX6_isCanon_70 : decode cX6_isCanon 70 = .ok (.getfield 28, 3) := dk_180 0 28 (dk_at dksX6_isCanon_3 0 rfl rfl)
theorem dX6_isCanon_73 : decode cX6_isCanon 73 = .ok (.bipush 12, 2) := dk_16 12 (dk_at dksX6_isCanon_3 3 rfl rfl)
theorem dX6_isCanon_75 : decode cX6_isCanon 75 = .ok (.iload 4, 2) := dk_21 4 (dk_at dksX6_isCanon_3 5 rfl rfl)
theorem dX6_isCanon_77 : decode cX6_isCanon 77 = .ok (.iadd, 1) := dk_96 (dk_at dksX6_isCanon_3 7 rfl rfl)
theorem dX6_isCanon_78 : decode cX6_isCanon 78 = .ok (.iconst 1, 1) := dk_4 (dk_at dksX6_isCanon_3 8 rfl rfl)
theorem dX6_isCanon_79 : decode cX6_isCanon 79 = .ok (.isub, 1) := dk_100 (dk_at dksX6_isCanon_3 9 rfl rfl)
theorem dX6_isCanon_80 : decode cX6_isCanon 80 = .ok (.iload_n 1, 1) := dk_27 (dk_at dksX6_isCanon_3 10 rfl rfl)
theorem dX6_isCanon_81 : decode cX6_isCanon 81 = .ok (.isub, 1) := dk_100 (dk_at dksX6_isCanon_3 11 rfl rfl)
theorem dX6_isCanon_82 : decode cX6_isCanon 82 = .ok (.iaload, 1) := dk_46 (dk_at dksX6_isCanon_3 12 rfl rfl)
theorem dX6_isCanon_83 : decode cX6_isCanon 83 = .ok (.iload_n 2, 1) := dk_28 (dk_at dksX6_isCanon_3 13 rfl rfl)
theorem dX6_isCanon_84 : decode cX6_isCanon 84 = .ok (.iadd, 1) := dk_96 (dk_at dksX6_isCanon_3 14 rfl rfl)
theorem dX6_isCanon_85 : decode cX6_isCanon 85 = .ok (.goto 4, 3) := dk_167 0 4 (dk_at dksX6_isCanon_3 15 rfl rfl)
theorem dX6_isCanon_88 : decode cX6_isCanon 88 = .ok (.iconst 0, 1) := dk_3 (dk_at dksX6_isCanon_3 18 rfl rfl)
theorem dX6_isCanon_89 : decode cX6_isCanon 89 = .ok (.invokevirtual 321, 3) := dk_182 1 65 (dk_at dksX6_isCanon_3 19 rfl rfl)
theorem dX6_isCanon_92 : decode cX6_isCanon 92 = .ok (.aload_n 0, 1) := dk_42 (dk_at dksX6_isCanon_3 22 rfl rfl)
theorem dX6_isCanon_93 : decode cX6_isCanon 93 = .ok (.invokevirtual 137, 3) := dk_182 0 137 (dk_at dksX6_isCanon_4 0 rfl rfl)
theorem dX6_isCanon_96 : decode cX6_isCanon 96 = .ok (.ifCond .ne 7, 3) := dk_154 0 7 (dk_at dksX6_isCanon_4 3 rfl rfl)
theorem dX6_isCanon_99 : decode cX6_isCanon 99 = .ok (.iconst 1, 1) := dk_4 (dk_at dksX6_isCanon_4 6 rfl rfl)
theorem dX6_isCanon_100 : decode cX6_isCanon 100 = .ok (.goto 4, 3) := dk_167 0 4 (dk_at dksX6_isCanon_4 7 rfl rfl)
theorem dX6_isCanon_103 : decode cX6_isCanon 103 = .ok (.iconst 0, 1) := dk_3 (dk_at dksX6_isCanon_4 10 rfl rfl)
theorem dX6_isCanon_104 : decode cX6_isCanon 104 = .ok (.istore_n 3, 1) := dk_62 (dk_at dksX6_isCanon_4 11 rfl rfl)
theorem dX6_isCanon_105 : decode cX6_isCanon 105 = .ok (.iinc 4 1, 3) := dk_132 4 1 (dk_at dksX6_isCanon_4 12 rfl rfl)
theorem dX6_isCanon_108 : decode cX6_isCanon 108 = .ok (.goto (-103), 3) := dk_167 255 153 (dk_at dksX6_isCanon_4 15 rfl rfl)
theorem dX6_isCanon_111 : decode cX6_isCanon 111 = .ok (.iload_n 3, 1) := dk_29 (dk_at dksX6_isCanon_4 18 rfl rfl)
theorem dX6_isCanon_112 : decode cX6_isCanon 112 = .ok (.ireturn, 1) := dk_172 (dk_at dksX6_isCanon_4 19 rfl rfl)
abbrev cX6_parallels : ByteArray := prog_24_method_114_code
def yX6_parallels : MethodName := ⟨RX6, "parallels", "(I)I"⟩
def dkwX6_parallels_2 : List UInt8 := [167, 255, 226, 28, 172]
abbrev dktX6_parallels_2 : List UInt8 := dkwX6_parallels_2 ++ []
def dkwX6_parallels_1 : List UInt8 := [28, 42, 29, 27, 182, 1, 160, 153, 0, 9, 4, 29, 120, 167, 0, 4, 3, 128, 61, 132, 3, 1]
abbrev dktX6_parallels_1 : List UInt8 := dkwX6_parallels_1 ++ dktX6_parallels_2
def dkwX6_parallels_0 : List UInt8 := [27, 3, 16, 11, 184, 0, 18, 154, 0, 5, 2, 172, 3, 61, 4, 62, 29, 42, 182, 0, 112, 162, 0, 28]
abbrev dktX6_parallels_0 : List UInt8 := dkwX6_parallels_0 ++ dktX6_parallels_1
theorem dksX6_parallels_0 : cX6_parallels.data.toList.drop 0 = dktX6_parallels_0 := by decide +kernel
theorem dksX6_parallels_1 : cX6_parallels.data.toList.drop 24 = dktX6_parallels_1 := dk_seg dksX6_parallels_0 24 rfl rfl
theorem dksX6_parallels_2 : cX6_parallels.data.toList.drop 46 = dktX6_parallels_2 := dk_seg dksX6_parallels_1 22 rfl rfl
theorem dX6_parallels_0 : decode cX6_parallels 0 = .ok (.iload_n 1, 1) := dk_27 (dk_at dksX6_parallels_0 0 rfl rfl)
theorem dX6_parallels_1 : decode cX6_parallels 1 = .ok (.iconst 0, 1) := dk_3 (dk_at dksX6_parallels_0 1 rfl rfl)
theorem dX6_parallels_2 : decode cX6_parallels 2 = .ok (.bipush 11, 2) := dk_16 11 (dk_at dksX6_parallels_0 2 rfl rfl)
theorem dX6_parallels_4 : decode cX6_parallels 4 = .ok (.invokestatic 18, 3) := dk_184 0 18 (dk_at dksX6_parallels_0 4 rfl rfl)
theorem dX6_parallels_7 : decode cX6_parallels 7 = .ok (.ifCond .ne 5, 3) := dk_154 0 5 (dk_at dksX6_parallels_0 7 rfl rfl)
theorem dX6_parallels_10 : decode cX6_parallels 10 = .ok (.iconst (-1), 1) := dk_2 (dk_at dksX6_parallels_0 10 rfl rfl)
theorem dX6_parallels_11 : decode cX6_parallels 11 = .ok (.ireturn, 1) := dk_172 (dk_at dksX6_parallels_0 11 rfl rfl)
theorem dX6_parallels_12 : decode cX6_parallels 12 = .ok (.iconst 0, 1) := dk_3 (dk_at dksX6_parallels_0 12 rfl rfl)
theorem dX6_parallels_13 : decode cX6_parallels 13 = .ok (.istore_n 2, 1) := dk_61 (dk_at dksX6_parallels_0 13 rfl rfl)
theorem dX6_parallels_14 : decode cX6_parallels 14 = .ok (.iconst 1, 1) := dk_4 (dk_at dksX6_parallels_0 14 rfl rfl)
theorem dX6_parallels_15 : decode cX6_parallels 15 = .ok (.istore_n 3, 1) := dk_62 (dk_at dksX6_parallels_0 15 rfl rfl)
theorem dX6_parallels_16 : decode cX6_parallels 16 = .ok (.iload_n 3, 1) := dk_29 (dk_at dksX6_parallels_0 16 rfl rfl)
theorem dX6_parallels_17 : decode cX6_parallels 17 = .ok (.aload_n 0, 1) := dk_42 (dk_at dksX6_parallels_0 17 rfl rfl)
theorem dX6_parallels_18 : decode cX6_parallels 18 = .ok (.invokevirtual 112, 3) := dk_182 0 112 (dk_at dksX6_parallels_0 18 rfl rfl)
theorem dX6_parallels_21 : decode cX6_parallels 21 = .ok (.if_icmp .ge 28, 3) := dk_162 0 28 (dk_at dksX6_parallels_0 21 rfl rfl)
theorem dX6_parallels_24 : decode cX6_parallels 24 = .ok (.iload_n 2, 1) := dk_28 (dk_at dksX6_parallels_1 0 rfl rfl)
theorem dX6_parallels_25 : decode cX6_parallels 25 = .ok (.aload_n 0, 1) := dk_42 (dk_at dksX6_parallels_1 1 rfl rfl)
theorem dX6_parallels_26 : decode cX6_parallels 26 = .ok (.iload_n 3, 1) := dk_29 (dk_at dksX6_parallels_1 2 rfl rfl)
theorem dX6_parallels_27 : decode cX6_parallels 27 = .ok (.iload_n 1, 1) := dk_27 (dk_at dksX6_parallels_1 3 rfl rfl)
theorem dX6_parallels_28 : decode cX6_parallels 28 = .ok (.invokevirtual 416, 3) := dk_182 1 160 (dk_at dksX6_parallels_1 4 rfl rfl)
theorem dX6_parallels_31 : decode cX6_parallels 31 = .ok (.ifCond .eq 9, 3) := dk_153 0 9 (dk_at dksX6_parallels_1 7 rfl rfl)
theorem dX6_parallels_34 : decode cX6_parallels 34 = .ok (.iconst 1, 1) := dk_4 (dk_at dksX6_parallels_1 10 rfl rfl)
theorem dX6_parallels_35 : decode cX6_parallels 35 = .ok (.iload_n 3, 1) := dk_29 (dk_at dksX6_parallels_1 11 rfl rfl)
theorem dX6_parallels_36 : decode cX6_parallels 36 = .ok (.ishl, 1) := dk_120 (dk_at dksX6_parallels_1 12 rfl rfl)
theorem dX6_parallels_37 : decode cX6_parallels 37 = .ok (.goto 4, 3) := dk_167 0 4 (dk_at dksX6_parallels_1 13 rfl rfl)
theorem dX6_parallels_40 : decode cX6_parallels 40 = .ok (.iconst 0, 1) := dk_3 (dk_at dksX6_parallels_1 16 rfl rfl)
theorem dX6_parallels_41 : decode cX6_parallels 41 = .ok (.ior, 1) := dk_128 (dk_at dksX6_parallels_1 17 rfl rfl)
theorem dX6_parallels_42 : decode cX6_parallels 42 = .ok (.istore_n 2, 1) := dk_61 (dk_at dksX6_parallels_1 18 rfl rfl)
theorem dX6_parallels_43 : decode cX6_parallels 43 = .ok (.iinc 3 1, 3) := dk_132 3 1 (dk_at dksX6_parallels_1 19 rfl rfl)
theorem dX6_parallels_46 : decode cX6_parallels 46 = .ok (.goto (-30), 3) := dk_167 255 226 (dk_at dksX6_parallels_2 0 rfl rfl)
theorem dX6_parallels_49 : decode cX6_parallels 49 = .ok (.iload_n 2, 1) := dk_28 (dk_at dksX6_parallels_2 3 rfl rfl)
theorem dX6_parallels_50 : decode cX6_parallels 50 = .ok (.ireturn, 1) := dk_172 (dk_at dksX6_parallels_2 4 rfl rfl)
abbrev cX6_isParallel : ByteArray := prog_24_method_113_code
def yX6_isParallel : MethodName := ⟨RX6, "isParallel", "(II)Z"⟩
def dkwX6_isParallel_1 : List UInt8 := [182, 0, 144, 153, 0, 7, 4, 167, 0, 4, 3, 172]
abbrev dktX6_isParallel_1 : List UInt8 := dkwX6_isParallel_1 ++ []
def dkwX6_isParallel_0 : List UInt8 := [42, 27, 182, 1, 157, 28, 160, 0, 14, 42, 27, 4, 100, 182, 1, 157, 28, 159, 0, 5, 3, 172, 42, 27]
abbrev dktX6_isParallel_0 : List UInt8 := dkwX6_isParallel_0 ++ dktX6_isParallel_1
theorem dksX6_isParallel_0 : cX6_isParallel.data.toList.drop 0 = dktX6_isParallel_0 := by decide +kernel
theorem dksX6_isParallel_1 : cX6_isParallel.data.toList.drop 24 = dktX6_isParallel_1 := dk_seg dksX6_isParallel_0 24 rfl rfl
theorem dX6_isParallel_0 : decode cX6_isParallel 0 = .ok (.aload_n 0, 1) := dk_42 (dk_at dksX6_isParallel_0 0 rfl rfl)
theorem dX6_isParallel_1 : decode cX6_isParallel 1 = .ok (.iload_n 1, 1) := dk_27 (dk_at dksX6_isParallel_0 1 rfl rfl)
theorem dX6_isParallel_2 : decode cX6_isParallel 2 = .ok (.invokevirtual 413, 3) := dk_182 1 157 (dk_at dksX6_isParallel_0 2 rfl rfl)
theorem dX6_isParallel_5 : decode cX6_isParallel 5 = .ok (.iload_n 2, 1) := dk_28 (dk_at dksX6_isParallel_0 5 rfl rfl)
theorem dX6_isParallel_6 : decode cX6_isParallel 6 = .ok (.if_icmp .ne 14, 3) := dk_160 0 14 (dk_at dksX6_isParallel_0 6 rfl rfl)
theorem dX6_isParallel_9 : decode cX6_isParallel 9 = .ok (.aload_n 0, 1) := dk_42 (dk_at dksX6_isParallel_0 9 rfl rfl)
theorem dX6_isParallel_10 : decode cX6_isParallel 10 = .ok (.iload_n 1, 1) := dk_27 (dk_at dksX6_isParallel_0 10 rfl rfl)
theorem dX6_isParallel_11 : decode cX6_isParallel 11 = .ok (.iconst 1, 1) := dk_4 (dk_at dksX6_isParallel_0 11 rfl rfl)
theorem dX6_isParallel_12 : decode cX6_isParallel 12 = .ok (.isub, 1) := dk_100 (dk_at dksX6_isParallel_0 12 rfl rfl)
theorem dX6_isParallel_13 : decode cX6_isParallel 13 = .ok (.invokevirtual 413, 3) := dk_182 1 157 (dk_at dksX6_isParallel_0 13 rfl rfl)
theorem dX6_isParallel_16 : decode cX6_isParallel 16 = .ok (.iload_n 2, 1) := dk_28 (dk_at dksX6_isParallel_0 16 rfl rfl)
theorem dX6_isParallel_17 : decode cX6_isParallel 17 = .ok (.if_icmp .eq 5, 3) := dk_159 0 5 (dk_at dksX6_isParallel_0 17 rfl rfl)
theorem dX6_isParallel_20 : decode cX6_isParallel 20 = .ok (.iconst 0, 1) := dk_3 (dk_at dksX6_isParallel_0 20 rfl rfl)
theorem dX6_isParallel_21 : decode cX6_isParallel 21 = .ok (.ireturn, 1) := dk_172 (dk_at dksX6_isParallel_0 21 rfl rfl)
theorem dX6_isParallel_22 : decode cX6_isParallel 22 = .ok (.aload_n 0, 1) := dk_42 (dk_at dksX6_isParallel_0 22 rfl rfl)
theorem dX6_isParallel_23 : decode cX6_isParallel 23 = .ok (.iload_n 1, 1) := dk_27 (dk_at dksX6_isParallel_0 23 rfl rfl)
theorem dX6_isParallel_24 : decode cX6_isParallel 24 = .ok (.invokevirtual 144, 3) := dk_182 0 144 (dk_at dksX6_isParallel_1 0 rfl rfl)
theorem dX6_isParallel_27 : decode cX6_isParallel 27 = .ok (.ifCond .eq 7, 3) := dk_153 0 7 (dk_at dksX6_isParallel_1 3 rfl rfl)
theorem dX6_isParallel_30 : decode cX6_isParallel 30 = .ok (.iconst 1, 1) := dk_4 (dk_at dksX6_isParallel_1 6 rfl rfl)
theorem dX6_isParallel_31 : decode cX6_isParallel 31 = .ok (.goto 4, 3) := dk_167 0 4 (dk_at dksX6_isParallel_1 7 rfl rfl)
theorem dX6_isParallel_34 : decode cX6_isParallel 34 = .ok (.iconst 0, 1) := dk_3 (dk_at dksX6_isParallel_1 10 rfl rfl)
theorem dX6_isParallel_35 : decode cX6_isParallel 35 = .ok (.ireturn, 1) := dk_172 (dk_at dksX6_isParallel_1 11 rfl rfl)
abbrev cX6_interval : ByteArray := prog_24_method_112_code
def yX6_interval : MethodName := ⟨RX6, "interval", "(I)I"⟩
def dkwX6_interval_0 : List UInt8 := [42, 27, 182, 0, 141, 184, 1, 69, 16, 12, 112, 172]
abbrev dktX6_interval_0 : List UInt8 := dkwX6_interval_0 ++ []
theorem dksX6_interval_0 : cX6_interval.data.toList.drop 0 = dktX6_interval_0 := by decide +kernel
theorem dX6_interval_0 : decode cX6_interval 0 = .ok (.aload_n 0, 1) := dk_42 (dk_at dksX6_interval_0 0 rfl rfl)
theorem dX6_interval_1 : decode cX6_interval 1 = .ok (.iload_n 1, 1) := dk_27 (dk_at dksX6_interval_0 1 rfl rfl)
theorem dX6_interval_2 : decode cX6_interval 2 = .ok (.invokevirtual 141, 3) := dk_182 0 141 (dk_at dksX6_interval_0 2 rfl rfl)
theorem dX6_interval_5 : decode cX6_interval 5 = .ok (.invokestatic 325, 3) := dk_184 1 69 (dk_at dksX6_interval_0 5 rfl rfl)
theorem dX6_interval_8 : decode cX6_interval 8 = .ok (.bipush 12, 2) := dk_16 12 (dk_at dksX6_interval_0 8 rfl rfl)
theorem dX6_interval_10 : decode cX6_interval 10 = .ok (.irem, 1) := dk_112 (dk_at dksX6_interval_0 10 rfl rfl)
theorem dX6_interval_11 : decode cX6_interval 11 = .ok (.ireturn, 1) := dk_172 (dk_at dksX6_interval_0 11 rfl rfl)
abbrev cX6_heard : ByteArray := prog_24_method_115_code
def yX6_heard : MethodName := ⟨RX6, "heard", "(II)I"⟩
def dkwX6_heard_4 : List UInt8 := [182, 0, 14, 172]
abbrev dktX6_heard_4 : List UInt8 := dkwX6_heard_4 ++ []
def dkwX6_heard_3 : List UInt8 := [4, 96, 28, 79, 42, 180, 0, 28, 16, 42, 92, 46, 4, 96, 79, 42, 42, 180, 0, 28, 16, 42, 46]
abbrev dktX6_heard_3 : List UInt8 := dkwX6_heard_3 ++ dktX6_heard_4
def dkwX6_heard_2 : List UInt8 := [16, 6, 160, 0, 10, 42, 16, 251, 182, 0, 106, 172, 42, 180, 0, 28, 29, 27, 79, 42, 180, 0, 28, 29]
abbrev dktX6_heard_2 : List UInt8 := dkwX6_heard_2 ++ dktX6_heard_3
def dkwX6_heard_1 : List UInt8 := [182, 0, 106, 172, 16, 25, 5, 42, 180, 0, 28, 16, 42, 46, 104, 96, 62, 42, 180, 0, 28, 16, 42, 46]
abbrev dktX6_heard_1 : List UInt8 := dkwX6_heard_1 ++ dktX6_heard_2
def dkwX6_heard_0 : List UInt8 := [27, 3, 6, 184, 0, 18, 153, 0, 15, 28, 16, 232, 17, 3, 231, 184, 0, 18, 154, 0, 9, 42, 2]
abbrev dktX6_heard_0 : List UInt8 := dkwX6_heard_0 ++ dktX6_heard_1
theorem dksX6_heard_0 : cX6_heard.data.toList.drop 0 = dktX6_heard_0 := by decide +kernel
theorem dksX6_heard_1 : cX6_heard.data.toList.drop 23 = dktX6_heard_1 := dk_seg dksX6_heard_0 23 rfl rfl
theorem dksX6_heard_2 : cX6_heard.data.toList.drop 47 = dktX6_heard_2 := dk_seg dksX6_heard_1 24 rfl rfl
theorem dksX6_heard_3 : cX6_heard.data.toList.drop 71 = dktX6_heard_3 := dk_seg dksX6_heard_2 24 rfl rfl
theorem dksX6_heard_4 : cX6_heard.data.toList.drop 94 = dktX6_heard_4 := dk_seg dksX6_heard_3 23 rfl rfl
theorem dX6_heard_0 : decode cX6_heard 0 = .ok (.iload_n 1, 1) := dk_27 (dk_at dksX6_heard_0 0 rfl rfl)
theorem dX6_heard_1 : decode cX6_heard 1 = .ok (.iconst 0, 1) := dk_3 (dk_at dksX6_heard_0 1 rfl rfl)
theorem dX6_heard_2 : decode cX6_heard 2 = .ok (.iconst 3, 1) := dk_6 (dk_at dksX6_heard_0 2 rfl rfl)
theorem dX6_heard_3 : decode cX6_heard 3 = .ok (.invokestatic 18, 3) := dk_184 0 18 (dk_at dksX6_heard_0 3 rfl rfl)
theorem dX6_heard_6 : decode cX6_heard 6 = .ok (.ifCond .eq 15, 3) := dk_153 0 15 (dk_at dksX6_heard_0 6 rfl rfl)
theorem dX6_heard_9 : decode cX6_heard 9 = .ok (.iload_n 2, 1) := dk_28 (dk_at dksX6_heard_0 9 rfl rfl)
theorem dX6_heard_10 : decode cX6_heard 10 = .ok (.bipush (-24), 2) := dk_16 232 (dk_at dksX6_heard_0 10 rfl rfl)
theorem dX6_heard_12 : decode cX6_heard 12 = .ok (.sipush 999, 3) := dk_17 3 231 (dk_at dksX6_heard_0 12 rfl rfl)
theorem dX6_heard_15 : decode cX6_heard 15 = .ok (.invokestatic 18, 3) := dk_184 0 18 (dk_at dksX6_heard_0 15 rfl rfl)
theorem dX6_heard_18 : decode cX6_heard 18 = .ok (.ifCond .ne 9, 3) := dk_154 0 9 (dk_at dksX6_heard_0 18 rfl rfl)
theorem dX6_heard_21 : decode cX6_heard 21 = .ok (.aload_n 0, 1) := dk_42 (dk_at dksX6_heard_0 21 rfl rfl)
theorem dX6_heard_22 : decode cX6_heard 22 = .ok (.iconst (-1), 1) := dk_2 (dk_at dksX6_heard_0 22 rfl rfl)
theorem dX6_heard_23 : decode cX6_heard 23 = .ok (.invokevirtual 106, 3) := dk_182 0 106 (dk_at dksX6_heard_1 0 rfl rfl)
theorem dX6_heard_26 : decode cX6_heard 26 = .ok (.ireturn, 1) := dk_172 (dk_at dksX6_heard_1 3 rfl rfl)
theorem dX6_heard_27 : decode cX6_heard 27 = .ok (.bipush 25, 2) := dk_16 25 (dk_at dksX6_heard_1 4 rfl rfl)
theorem dX6_heard_29 : decode cX6_heard 29 = .ok (.iconst 2, 1) := dk_5 (dk_at dksX6_heard_1 6 rfl rfl)
theorem dX6_heard_30 : decode cX6_heard 30 = .ok (.aload_n 0, 1) := dk_42 (dk_at dksX6_heard_1 7 rfl rfl)
theorem dX6_heard_31 : decode cX6_heard 31 = .ok (.getfield 28, 3) := dk_180 0 28 (dk_at dksX6_heard_1 8 rfl rfl)
theorem dX6_heard_34 : decode cX6_heard 34 = .ok (.bipush 42, 2) := dk_16 42 (dk_at dksX6_heard_1 11 rfl rfl)
theorem dX6_heard_36 : decode cX6_heard 36 = .ok (.iaload, 1) := dk_46 (dk_at dksX6_heard_1 13 rfl rfl)
theorem dX6_heard_37 : decode cX6_heard 37 = .ok (.imul, 1) := dk_104 (dk_at dksX6_heard_1 14 rfl rfl)
theorem dX6_heard_38 : decode cX6_heard 38 = .ok (.iadd, 1) := dk_96 (dk_at dksX6_heard_1 15 rfl rfl)
theorem dX6_heard_39 : decode cX6_heard 39 = .ok (.istore_n 3, 1) := dk_62 (dk_at dksX6_heard_1 16 rfl rfl)
theorem dX6_heard_40 : decode cX6_heard 40 = .ok (.aload_n 0, 1) := dk_42 (dk_at dksX6_heard_1 17 rfl rfl)
theorem dX6_heard_41 : decode cX6_heard 41 = .ok (.getfield 28, 3) := dk_180 0 28 (dk_at dksX6_heard_1 18 rfl rfl)
theorem dX6_heard_44 : decode cX6_heard 44 = .ok (.bipush 42, 2) := dk_16 42 (dk_at dksX6_heard_1 21 rfl rfl)
theorem dX6_heard_46 : decode cX6_heard 46 = .ok (.iaload, 1) := dk_46 (dk_at dksX6_heard_1 23 rfl rfl)
theorem dX6_heard_47 : decode cX6_heard 47 = .ok (.bipush 6, 2) := dk_16 6 (dk_at dksX6_heard_2 0 rfl rfl)
theorem dX6_heard_49 : decode cX6_heard 49 = .ok (.if_icmp .ne 10, 3) := dk_160 0 10 (dk_at dksX6_heard_2 2 rfl rfl)
theorem dX6_heard_52 : decode cX6_heard 52 = .ok (.aload_n 0, 1) := dk_42 (dk_at dksX6_heard_2 5 rfl rfl)
theorem dX6_heard_53 : decode cX6_heard 53 = .ok (.bipush (-5), 2) := dk_16 251 (dk_at dksX6_heard_2 6 rfl rfl)
theorem dX6_heard_55 : decode cX6_heard 55 = .ok (.invokevirtual 106, 3) := dk_182 0 106 (dk_at dksX6_heard_2 8 rfl rfl)
theorem dX6_heard_58 : decode cX6_heard 58 = .ok (.ireturn, 1) := dk_172 (dk_at dksX6_heard_2 11 rfl rfl)
theorem dX6_heard_59 : decode cX6_heard 59 = .ok (.aload_n 0, 1) := dk_42 (dk_at dksX6_heard_2 12 rfl rfl)
theorem dX6_heard_60 : decode cX6_heard 60 = .ok (.getfield 28, 3) := dk_180 0 28 (dk_at dksX6_heard_2 13 rfl rfl)
theorem dX6_heard_63 : decode cX6_heard 63 = .ok (.iload_n 3, 1) := dk_29 (dk_at dksX6_heard_2 16 rfl rfl)
theorem dX6_heard_64 : decode cX6_heard 64 = .ok (.iload_n 1, 1) := dk_27 (dk_at dksX6_heard_2 17 rfl rfl)
theorem dX6_heard_65 : decode cX6_heard 65 = .ok (.iastore, 1) := dk_79 (dk_at dksX6_heard_2 18 rfl rfl)
theorem dX6_heard_66 : decode cX6_heard 66 = .ok (.aload_n 0, 1) := dk_42 (dk_at dksX6_heard_2 19 rfl rfl)
theorem dX6_heard_67 : decode cX6_heard 67 = .ok (.getfield 28, 3) := dk_180 0 28 (dk_at dksX6_heard_2 20 rfl rfl)
theorem dX6_heard_70 : decode cX6_heard 70 = .ok (.iload_n 3, 1) := dk_29 (dk_at dksX6_heard_2 23 rfl rfl)
theorem dX6_heard_71 : decode cX6_heard 71 = .ok (.iconst 1, 1) := dk_4 (dk_at dksX6_heard_3 0 rfl rfl)
theorem dX6_heard_72 : decode cX6_heard 72 = .ok (.iadd, 1) := dk_96 (dk_at dksX6_heard_3 1 rfl rfl)
theorem dX6_heard_73 : decode cX6_heard 73 = .ok (.iload_n 2, 1) := dk_28 (dk_at dksX6_heard_3 2 rfl rfl)
theorem dX6_heard_74 : decode cX6_heard 74 = .ok (.iastore, 1) := dk_79 (dk_at dksX6_heard_3 3 rfl rfl)
theorem dX6_heard_75 : decode cX6_heard 75 = .ok (.aload_n 0, 1) := dk_42 (dk_at dksX6_heard_3 4 rfl rfl)
theorem dX6_heard_76 : decode cX6_heard 76 = .ok (.getfield 28, 3) := dk_180 0 28 (dk_at dksX6_heard_3 5 rfl rfl)
theorem dX6_heard_79 : decode cX6_heard 79 = .ok (.bipush 42, 2) := dk_16 42 (dk_at dksX6_heard_3 8 rfl rfl)
theorem dX6_heard_81 : decode cX6_heard 81 = .ok (.dup2, 1) := dk_92 (dk_at dksX6_heard_3 10 rfl rfl)
theorem dX6_heard_82 : decode cX6_heard 82 = .ok (.iaload, 1) := dk_46 (dk_at dksX6_heard_3 11 rfl rfl)
theorem dX6_heard_83 : decode cX6_heard 83 = .ok (.iconst 1, 1) := dk_4 (dk_at dksX6_heard_3 12 rfl rfl)
theorem dX6_heard_84 : decode cX6_heard 84 = .ok (.iadd, 1) := dk_96 (dk_at dksX6_heard_3 13 rfl rfl)
theorem dX6_heard_85 : decode cX6_heard 85 = .ok (.iastore, 1) := dk_79 (dk_at dksX6_heard_3 14 rfl rfl)
theorem dX6_heard_86 : decode cX6_heard 86 = .ok (.aload_n 0, 1) := dk_42 (dk_at dksX6_heard_3 15 rfl rfl)
theorem dX6_heard_87 : decode cX6_heard 87 = .ok (.aload_n 0, 1) := dk_42 (dk_at dksX6_heard_3 16 rfl rfl)
theorem dX6_heard_88 : decode cX6_heard 88 = .ok (.getfield 28, 3) := dk_180 0 28 (dk_at dksX6_heard_3 17 rfl rfl)
theorem dX6_heard_91 : decode cX6_heard 91 = .ok (.bipush 42, 2) := dk_16 42 (dk_at dksX6_heard_3 20 rfl rfl)
theorem dX6_heard_93 : decode cX6_heard 93 = .ok (.iaload, 1) := dk_46 (dk_at dksX6_heard_3 22 rfl rfl)
theorem dX6_heard_94 : decode cX6_heard 94 = .ok (.invokevirtual 14, 3) := dk_182 0 14 (dk_at dksX6_heard_4 0 rfl rfl)
theorem dX6_heard_97 : decode cX6_heard 97 = .ok (.ireturn, 1) := dk_172 (dk_at dksX6_heard_4 3 rfl rfl)
abbrev cX6_forget : ByteArray := prog_24_method_116_code
def yX6_forget : MethodName := ⟨RX6, "forget", "()I"⟩
def dkwX6_forget_0 : List UInt8 := [42, 180, 0, 28, 16, 42, 46, 60, 42, 180, 0, 28, 16, 42, 3, 79, 27, 172]
abbrev dktX6_forget_0 : List UInt8 := dkwX6_forget_0 ++ []
theorem dksX6_forget_0 : cX6_forget.data.toList.drop 0 = dktX6_forget_0 := by decide +kernel
theorem dX6_forget_0 : decode cX6_forget 0 = .ok (.aload_n 0, 1) := dk_42 (dk_at dksX6_forget_0 0 rfl rfl)
theorem dX6_forget_1 : decode cX6_forget 1 = .ok (.getfield 28, 3) := dk_180 0 28 (dk_at dksX6_forget_0 1 rfl rfl)
theorem dX6_forget_4 : decode cX6_forget 4 = .ok (.bipush 42, 2) := dk_16 42 (dk_at dksX6_forget_0 4 rfl rfl)
theorem dX6_forget_6 : decode cX6_forget 6 = .ok (.iaload, 1) := dk_46 (dk_at dksX6_forget_0 6 rfl rfl)
theorem dX6_forget_7 : decode cX6_forget 7 = .ok (.istore_n 1, 1) := dk_60 (dk_at dksX6_forget_0 7 rfl rfl)
theorem dX6_forget_8 : decode cX6_forget 8 = .ok (.aload_n 0, 1) := dk_42 (dk_at dksX6_forget_0 8 rfl rfl)
theorem dX6_forget_9 : decode cX6_forget 9 = .ok (.getfield 28, 3) := dk_180 0 28 (dk_at dksX6_forget_0 9 rfl rfl)
theorem dX6_forget_12 : decode cX6_forget 12 = .ok (.bipush 42, 2) := dk_16 42 (dk_at dksX6_forget_0 12 rfl rfl)
theorem dX6_forget_14 : decode cX6_forget 14 = .ok (.iconst 0, 1) := dk_3 (dk_at dksX6_forget_0 14 rfl rfl)
theorem dX6_forget_15 : decode cX6_forget 15 = .ok (.iastore, 1) := dk_79 (dk_at dksX6_forget_0 15 rfl rfl)
theorem dX6_forget_16 : decode cX6_forget 16 = .ok (.iload_n 1, 1) := dk_27 (dk_at dksX6_forget_0 16 rfl rfl)
theorem dX6_forget_17 : decode cX6_forget 17 = .ok (.ireturn, 1) := dk_172 (dk_at dksX6_forget_0 17 rfl rfl)
abbrev cX6_canBe : ByteArray := prog_24_method_119_code
def yX6_canBe : MethodName := ⟨RX6, "canBe", "()I"⟩
def dkwX6_canBe_1 : List UInt8 := [153, 0, 9, 4, 28, 120, 167, 0, 4, 3, 128, 60, 132, 2, 1, 167, 255, 227, 27, 172]
abbrev dktX6_canBe_1 : List UInt8 := dkwX6_canBe_1 ++ []
def dkwX6_canBe_0 : List UInt8 := [42, 182, 1, 163, 3, 60, 3, 61, 28, 42, 182, 0, 112, 162, 0, 27, 27, 42, 28, 182, 1, 166]
abbrev dktX6_canBe_0 : List UInt8 := dkwX6_canBe_0 ++ dktX6_canBe_1
theorem dksX6_canBe_0 : cX6_canBe.data.toList.drop 0 = dktX6_canBe_0 := by decide +kernel
theorem dksX6_canBe_1 : cX6_canBe.data.toList.drop 22 = dktX6_canBe_1 := dk_seg dksX6_canBe_0 22 rfl rfl
theorem dX6_canBe_0 : decode cX6_canBe 0 = .ok (.aload_n 0, 1) := dk_42 (dk_at dksX6_canBe_0 0 rfl rfl)
theorem dX6_canBe_1 : decode cX6_canBe 1 = .ok (.invokevirtual 419, 3) := dk_182 1 163 (dk_at dksX6_canBe_0 1 rfl rfl)
theorem dX6_canBe_4 : decode cX6_canBe 4 = .ok (.iconst 0, 1) := dk_3 (dk_at dksX6_canBe_0 4 rfl rfl)
theorem dX6_canBe_5 : decode cX6_canBe 5 = .ok (.istore_n 1, 1) := dk_60 (dk_at dksX6_canBe_0 5 rfl rfl)
theorem dX6_canBe_6 : decode cX6_canBe 6 = .ok (.iconst 0, 1) := dk_3 (dk_at dksX6_canBe_0 6 rfl rfl)
theorem dX6_canBe_7 : decode cX6_canBe 7 = .ok (.istore_n 2, 1) := dk_61 (dk_at dksX6_canBe_0 7 rfl rfl)
theorem dX6_canBe_8 : decode cX6_canBe 8 = .ok (.iload_n 2, 1) := dk_28 (dk_at dksX6_canBe_0 8 rfl rfl)
theorem dX6_canBe_9 : decode cX6_canBe 9 = .ok (.aload_n 0, 1) := dk_42 (dk_at dksX6_canBe_0 9 rfl rfl)
theorem dX6_canBe_10 : decode cX6_canBe 10 = .ok (.invokevirtual 112, 3) := dk_182 0 112 (dk_at dksX6_canBe_0 10 rfl rfl)
theorem dX6_canBe_13 : decode cX6_canBe 13 = .ok (.if_icmp .ge 27, 3) := dk_162 0 27 (dk_at dksX6_canBe_0 13 rfl rfl)
theorem dX6_canBe_16 : decode cX6_canBe 16 = .ok (.iload_n 1, 1) := dk_27 (dk_at dksX6_canBe_0 16 rfl rfl)
theorem dX6_canBe_17 : decode cX6_canBe 17 = .ok (.aload_n 0, 1) := dk_42 (dk_at dksX6_canBe_0 17 rfl rfl)
theorem dX6_canBe_18 : decode cX6_canBe 18 = .ok (.iload_n 2, 1) := dk_28 (dk_at dksX6_canBe_0 18 rfl rfl)
theorem dX6_canBe_19 : decode cX6_canBe 19 = .ok (.invokevirtual 422, 3) := dk_182 1 166 (dk_at dksX6_canBe_0 19 rfl rfl)
theorem dX6_canBe_22 : decode cX6_canBe 22 = .ok (.ifCond .eq 9, 3) := dk_153 0 9 (dk_at dksX6_canBe_1 0 rfl rfl)
theorem dX6_canBe_25 : decode cX6_canBe 25 = .ok (.iconst 1, 1) := dk_4 (dk_at dksX6_canBe_1 3 rfl rfl)
theorem dX6_canBe_26 : decode cX6_canBe 26 = .ok (.iload_n 2, 1) := dk_28 (dk_at dksX6_canBe_1 4 rfl rfl)
theorem dX6_canBe_27 : decode cX6_canBe 27 = .ok (.ishl, 1) := dk_120 (dk_at dksX6_canBe_1 5 rfl rfl)
theorem dX6_canBe_28 : decode cX6_canBe 28 = .ok (.goto 4, 3) := dk_167 0 4 (dk_at dksX6_canBe_1 6 rfl rfl)
theorem dX6_canBe_31 : decode cX6_canBe 31 = .ok (.iconst 0, 1) := dk_3 (dk_at dksX6_canBe_1 9 rfl rfl)
theorem dX6_canBe_32 : decode cX6_canBe 32 = .ok (.ior, 1) := dk_128 (dk_at dksX6_canBe_1 10 rfl rfl)
theorem dX6_canBe_33 : decode cX6_canBe 33 = .ok (.istore_n 1, 1) := dk_60 (dk_at dksX6_canBe_1 11 rfl rfl)
theorem dX6_canBe_34 : decode cX6_canBe 34 = .ok (.iinc 2 1, 3) := dk_132 2 1 (dk_at dksX6_canBe_1 12 rfl rfl)
theorem dX6_canBe_37 : decode cX6_canBe 37 = .ok (.goto (-29), 3) := dk_167 255 227 (dk_at dksX6_canBe_1 15 rfl rfl)
theorem dX6_canBe_40 : decode cX6_canBe 40 = .ok (.iload_n 1, 1) := dk_27 (dk_at dksX6_canBe_1 18 rfl rfl)
theorem dX6_canBe_41 : decode cX6_canBe 41 = .ok (.ireturn, 1) := dk_172 (dk_at dksX6_canBe_1 19 rfl rfl)
abbrev cX6_laysFacts : ByteArray := prog_24_method_117_code
def yX6_laysFacts : MethodName := ⟨RX6, "laysFacts", "()V"⟩
def dkwX6_laysFacts_3 : List UInt8 := [132, 1, 1, 167, 255, 184, 177]
abbrev dktX6_laysFacts_3 : List UInt8 := dkwX6_laysFacts_3 ++ []
def dkwX6_laysFacts_2 : List UInt8 := [27, 104, 5, 96, 42, 182, 0, 131, 79, 42, 180, 0, 88, 7, 27, 104, 6, 96, 42, 182, 0, 134, 79]
abbrev dktX6_laysFacts_2 : List UInt8 := dkwX6_laysFacts_2 ++ dktX6_laysFacts_3
def dkwX6_laysFacts_1 : List UInt8 := [182, 0, 141, 79, 42, 180, 0, 88, 7, 27, 104, 4, 96, 42, 27, 182, 0, 144, 79, 42, 180, 0, 88, 7]
abbrev dktX6_laysFacts_1 : List UInt8 := dkwX6_laysFacts_1 ++ dktX6_laysFacts_2
def dkwX6_laysFacts_0 : List UInt8 := [3, 60, 27, 42, 182, 0, 112, 162, 0, 70, 42, 27, 182, 0, 127, 42, 180, 0, 88, 7, 27, 104, 42, 27]
abbrev dktX6_laysFacts_0 : List UInt8 := dkwX6_laysFacts_0 ++ dktX6_laysFacts_1
theorem dksX6_laysFacts_0 : cX6_laysFacts.data.toList.drop 0 = dktX6_laysFacts_0 := by decide +kernel
theorem dksX6_laysFacts_1 : cX6_laysFacts.data.toList.drop 24 = dktX6_laysFacts_1 := dk_seg dksX6_laysFacts_0 24 rfl rfl
theorem dksX6_laysFacts_2 : cX6_laysFacts.data.toList.drop 48 = dktX6_laysFacts_2 := dk_seg dksX6_laysFacts_1 24 rfl rfl
theorem dksX6_laysFacts_3 : cX6_laysFacts.data.toList.drop 71 = dktX6_laysFacts_3 := dk_seg dksX6_laysFacts_2 23 rfl rfl
theorem dX6_laysFacts_0 : decode cX6_laysFacts 0 = .ok (.iconst 0, 1) := dk_3 (dk_at dksX6_laysFacts_0 0 rfl rfl)
theorem dX6_laysFacts_1 : decode cX6_laysFacts 1 = .ok (.istore_n 1, 1) := dk_60 (dk_at dksX6_laysFacts_0 1 rfl rfl)
theorem dX6_laysFacts_2 : decode cX6_laysFacts 2 = .ok (.iload_n 1, 1) := dk_27 (dk_at dksX6_laysFacts_0 2 rfl rfl)
theorem dX6_laysFacts_3 : decode cX6_laysFacts 3 = .ok (.aload_n 0, 1) := dk_42 (dk_at dksX6_laysFacts_0 3 rfl rfl)
theorem dX6_laysFacts_4 : decode cX6_laysFacts 4 = .ok (.invokevirtual 112, 3) := dk_182 0 112 (dk_at dksX6_laysFacts_0 4 rfl rfl)
theorem dX6_laysFacts_7 : decode cX6_laysFacts 7 = .ok (.if_icmp .ge 70, 3) := dk_162 0 70 (dk_at dksX6_laysFacts_0 7 rfl rfl)
theorem dX6_laysFacts_10 : decode cX6_laysFacts 10 = .ok (.aload_n 0, 1) := dk_42 (dk_at dksX6_laysFacts_0 10 rfl rfl)
theorem dX6_laysFacts_11 : decode cX6_laysFacts 11 = .ok (.iload_n 1, 1) := dk_27 (dk_at dksX6_laysFacts_0 11 rfl rfl)
theorem dX6_laysFacts_12 : decode cX6_laysFacts 12 = .ok (.invokevirtual 127, 3) := dk_182 0 127 (dk_at dksX6_laysFacts_0 12 rfl rfl)
theorem dX6_laysFacts_15 : decode cX6_laysFacts 15 = .ok (.aload_n 0, 1) := dk_42 (dk_at dksX6_laysFacts_0 15 rfl rfl)
theorem dX6_laysFacts_16 : decode cX6_laysFacts 16 = .ok (.getfield 88, 3) := dk_180 0 88 (dk_at dksX6_laysFacts_0 16 rfl rfl)
theorem dX6_laysFacts_19 : decode cX6_laysFacts 19 = .ok (.iconst 4, 1) := dk_7 (dk_at dksX6_laysFacts_0 19 rfl rfl)
theorem dX6_laysFacts_20 : decode cX6_laysFacts 20 = .ok (.iload_n 1, 1) := dk_27 (dk_at dksX6_laysFacts_0 20 rfl rfl)
theorem dX6_laysFacts_21 : decode cX6_laysFacts 21 = .ok (.imul, 1) := dk_104 (dk_at dksX6_laysFacts_0 21 rfl rfl)
theorem dX6_laysFacts_22 : decode cX6_laysFacts 22 = .ok (.aload_n 0, 1) := dk_42 (dk_at dksX6_laysFacts_0 22 rfl rfl)
theorem dX6_laysFacts_23 : decode cX6_laysFacts 23 = .ok (.iload_n 1, 1) := dk_27 (dk_at dksX6_laysFacts_0 23 rfl rfl)
theorem dX6_laysFacts_24 : decode cX6_laysFacts 24 = .ok (.invokevirtual 141, 3) := dk_182 0 141 (dk_at dksX6_laysFacts_1 0 rfl rfl)
theorem dX6_laysFacts_27 : decode cX6_laysFacts 27 = .ok (.iastore, 1) := dk_79 (dk_at dksX6_laysFacts_1 3 rfl rfl)
theorem dX6_laysFacts_28 : decode cX6_laysFacts 28 = .ok (.aload_n 0, 1) := dk_42 (dk_at dksX6_laysFacts_1 4 rfl rfl)
theorem dX6_laysFacts_29 : decode cX6_laysFacts 29 = .ok (.getfield 88, 3) := dk_180 0 88 (dk_at dksX6_laysFacts_1 5 rfl rfl)
theorem dX6_laysFacts_32 : decode cX6_laysFacts 32 = .ok (.iconst 4, 1) := dk_7 (dk_at dksX6_laysFacts_1 8 rfl rfl)
theorem dX6_laysFacts_33 : decode cX6_laysFacts 33 = .ok (.iload_n 1, 1) := dk_27 (dk_at dksX6_laysFacts_1 9 rfl rfl)
theorem dX6_laysFacts_34 : decode cX6_laysFacts 34 = .ok (.imul, 1) := dk_104 (dk_at dksX6_laysFacts_1 10 rfl rfl)
theorem dX6_laysFacts_35 : decode cX6_laysFacts 35 = .ok (.iconst 1, 1) := dk_4 (dk_at dksX6_laysFacts_1 11 rfl rfl)
theorem dX6_laysFacts_36 : decode cX6_laysFacts 36 = .ok (.iadd, 1) := dk_96 (dk_at dksX6_laysFacts_1 12 rfl rfl)
theorem dX6_laysFacts_37 : decode cX6_laysFacts 37 = .ok (.aload_n 0, 1) := dk_42 (dk_at dksX6_laysFacts_1 13 rfl rfl)
theorem dX6_laysFacts_38 : decode cX6_laysFacts 38 = .ok (.iload_n 1, 1) := dk_27 (dk_at dksX6_laysFacts_1 14 rfl rfl)
theorem dX6_laysFacts_39 : decode cX6_laysFacts 39 = .ok (.invokevirtual 144, 3) := dk_182 0 144 (dk_at dksX6_laysFacts_1 15 rfl rfl)
theorem dX6_laysFacts_42 : decode cX6_laysFacts 42 = .ok (.iastore, 1) := dk_79 (dk_at dksX6_laysFacts_1 18 rfl rfl)
theorem dX6_laysFacts_43 : decode cX6_laysFacts 43 = .ok (.aload_n 0, 1) := dk_42 (dk_at dksX6_laysFacts_1 19 rfl rfl)
theorem dX6_laysFacts_44 : decode cX6_laysFacts 44 = .ok (.getfield 88, 3) := dk_180 0 88 (dk_at dksX6_laysFacts_1 20 rfl rfl)
theorem dX6_laysFacts_47 : decode cX6_laysFacts 47 = .ok (.iconst 4, 1) := dk_7 (dk_at dksX6_laysFacts_1 23 rfl rfl)
theorem dX6_laysFacts_48 : decode cX6_laysFacts 48 = .ok (.iload_n 1, 1) := dk_27 (dk_at dksX6_laysFacts_2 0 rfl rfl)
theorem dX6_laysFacts_49 : decode cX6_laysFacts 49 = .ok (.imul, 1) := dk_104 (dk_at dksX6_laysFacts_2 1 rfl rfl)
theorem dX6_laysFacts_50 : decode cX6_laysFacts 50 = .ok (.iconst 2, 1) := dk_5 (dk_at dksX6_laysFacts_2 2 rfl rfl)
theorem dX6_laysFacts_51 : decode cX6_laysFacts 51 = .ok (.iadd, 1) := dk_96 (dk_at dksX6_laysFacts_2 3 rfl rfl)
theorem dX6_laysFacts_52 : decode cX6_laysFacts 52 = .ok (.aload_n 0, 1) := dk_42 (dk_at dksX6_laysFacts_2 4 rfl rfl)
theorem dX6_laysFacts_53 : decode cX6_laysFacts 53 = .ok (.invokevirtual 131, 3) := dk_182 0 131 (dk_at dksX6_laysFacts_2 5 rfl rfl)
theorem dX6_laysFacts_56 : decode cX6_laysFacts 56 = .ok (.iastore, 1) := dk_79 (dk_at dksX6_laysFacts_2 8 rfl rfl)
theorem dX6_laysFacts_57 : decode cX6_laysFacts 57 = .ok (.aload_n 0, 1) := dk_42 (dk_at dksX6_laysFacts_2 9 rfl rfl)
theorem dX6_laysFacts_58 : decode cX6_laysFacts 58 = .ok (.getfield 88, 3) := dk_180 0 88 (dk_at dksX6_laysFacts_2 10 rfl rfl)
theorem dX6_laysFacts_61 : decode cX6_laysFacts 61 = .ok (.iconst 4, 1) := dk_7 (dk_at dksX6_laysFacts_2 13 rfl rfl)
theorem dX6_laysFacts_62 : decode cX6_laysFacts 62 = .ok (.iload_n 1, 1) := dk_27 (dk_at dksX6_laysFacts_2 14 rfl rfl)
theorem dX6_laysFacts_63 : decode cX6_laysFacts 63 = .ok (.imul, 1) := dk_104 (dk_at dksX6_laysFacts_2 15 rfl rfl)
theorem dX6_laysFacts_64 : decode cX6_laysFacts 64 = .ok (.iconst 3, 1) := dk_6 (dk_at dksX6_laysFacts_2 16 rfl rfl)
theorem dX6_laysFacts_65 : decode cX6_laysFacts 65 = .ok (.iadd, 1) := dk_96 (dk_at dksX6_laysFacts_2 17 rfl rfl)
theorem dX6_laysFacts_66 : decode cX6_laysFacts 66 = .ok (.aload_n 0, 1) := dk_42 (dk_at dksX6_laysFacts_2 18 rfl rfl)
theorem dX6_laysFacts_67 : decode cX6_laysFacts 67 = .ok (.invokevirtual 134, 3) := dk_182 0 134 (dk_at dksX6_laysFacts_2 19 rfl rfl)
theorem dX6_laysFacts_70 : decode cX6_laysFacts 70 = .ok (.iastore, 1) := dk_79 (dk_at dksX6_laysFacts_2 22 rfl rfl)
theorem dX6_laysFacts_71 : decode cX6_laysFacts 71 = .ok (.iinc 1 1, 3) := dk_132 1 1 (dk_at dksX6_laysFacts_3 0 rfl rfl)
theorem dX6_laysFacts_74 : decode cX6_laysFacts 74 = .ok (.goto (-72), 3) := dk_167 255 184 (dk_at dksX6_laysFacts_3 3 rfl rfl)
theorem dX6_laysFacts_77 : decode cX6_laysFacts 77 = .ok (.return_, 1) := dk_177 (dk_at dksX6_laysFacts_3 6 rfl rfl)
abbrev cX6_isSo : ByteArray := prog_24_method_118_code
def yX6_isSo : MethodName := ⟨RX6, "isSo", "(I)Z"⟩
def dkwX6_isSo_2 : List UInt8 := [96, 4, 96, 46, 160, 0, 7, 4, 167, 0, 4, 3, 61, 132, 3, 1, 167, 255, 196, 28, 172]
abbrev dktX6_isSo_2 : List UInt8 := dkwX6_isSo_2 ++ []
def dkwX6_isSo_1 : List UInt8 := [27, 104, 42, 180, 0, 28, 16, 25, 5, 29, 104, 96, 46, 96, 46, 42, 180, 0, 28, 16, 25, 5, 29, 104]
abbrev dktX6_isSo_1 : List UInt8 := dkwX6_isSo_1 ++ dktX6_isSo_2
def dkwX6_isSo_0 : List UInt8 := [4, 61, 3, 62, 29, 42, 180, 0, 28, 16, 42, 46, 162, 0, 55, 28, 153, 0, 43, 42, 180, 0, 88, 7]
abbrev dktX6_isSo_0 : List UInt8 := dkwX6_isSo_0 ++ dktX6_isSo_1
theorem dksX6_isSo_0 : cX6_isSo.data.toList.drop 0 = dktX6_isSo_0 := by decide +kernel
theorem dksX6_isSo_1 : cX6_isSo.data.toList.drop 24 = dktX6_isSo_1 := dk_seg dksX6_isSo_0 24 rfl rfl
theorem dksX6_isSo_2 : cX6_isSo.data.toList.drop 48 = dktX6_isSo_2 := dk_seg dksX6_isSo_1 24 rfl rfl
theorem dX6_isSo_0 : decode cX6_isSo 0 = .ok (.iconst 1, 1) := dk_4 (dk_at dksX6_isSo_0 0 rfl rfl)
theorem dX6_isSo_1 : decode cX6_isSo 1 = .ok (.istore_n 2, 1) := dk_61 (dk_at dksX6_isSo_0 1 rfl rfl)
theorem dX6_isSo_2 : decode cX6_isSo 2 = .ok (.iconst 0, 1) := dk_3 (dk_at dksX6_isSo_0 2 rfl rfl)
theorem dX6_isSo_3 : decode cX6_isSo 3 = .ok (.istore_n 3, 1) := dk_62 (dk_at dksX6_isSo_0 3 rfl rfl)
theorem dX6_isSo_4 : decode cX6_isSo 4 = .ok (.iload_n 3, 1) := dk_29 (dk_at dksX6_isSo_0 4 rfl rfl)
theorem dX6_isSo_5 : decode cX6_isSo 5 = .ok (.aload_n 0, 1) := dk_42 (dk_at dksX6_isSo_0 5 rfl rfl)
theorem dX6_isSo_6 : decode cX6_isSo 6 = .ok (.getfield 28, 3) := dk_180 0 28 (dk_at dksX6_isSo_0 6 rfl rfl)
theorem dX6_isSo_9 : decode cX6_isSo 9 = .ok (.bipush 42, 2) := dk_16 42 (dk_at dksX6_isSo_0 9 rfl rfl)
theorem dX6_isSo_11 : decode cX6_isSo 11 = .ok (.iaload, 1) := dk_46 (dk_at dksX6_isSo_0 11 rfl rfl)
theorem dX6_isSo_12 : decode cX6_isSo 12 = .ok (.if_icmp .ge 55, 3) := dk_162 0 55 (dk_at dksX6_isSo_0 12 rfl rfl)
theorem dX6_isSo_15 : decode cX6_isSo 15 = .ok (.iload_n 2, 1) := dk_28 (dk_at dksX6_isSo_0 15 rfl rfl)
theorem dX6_isSo_16 : decode cX6_isSo 16 = .ok (.ifCond .eq 43, 3) := dk_153 0 43 (dk_at dksX6_isSo_0 16 rfl rfl)
theorem dX6_isSo_19 : decode cX6_isSo 19 = .ok (.aload_n 0, 1) := dk_42 (dk_at dksX6_isSo_0 19 rfl rfl)
theorem dX6_isSo_20 : decode cX6_isSo 20 = .ok (.getfield 88, 3) := dk_180 0 88 (dk_at dksX6_isSo_0 20 rfl rfl)
theorem dX6_isSo_23 : decode cX6_isSo 23 = .ok (.iconst 4, 1) := dk_7 (dk_at dksX6_isSo_0 23 rfl rfl)
theorem dX6_isSo_24 : decode cX6_isSo 24 = .ok (.iload_n 1, 1) := dk_27 (dk_at dksX6_isSo_1 0 rfl rfl)
theorem dX6_isSo_25 : decode cX6_isSo 25 = .ok (.imul, 1) := dk_104 (dk_at dksX6_isSo_1 1 rfl rfl)
theorem dX6_isSo_26 : decode cX6_isSo 26 = .ok (.aload_n 0, 1) := dk_42 (dk_at dksX6_isSo_1 2 rfl rfl)
theorem dX6_isSo_27 : decode cX6_isSo 27 = .ok (.getfield 28, 3) := dk_180 0 28 (dk_at dksX6_isSo_1 3 rfl rfl)
theorem dX6_isSo_30 : decode cX6_isSo 30 = .ok (.bipush 25, 2) := dk_16 25 (dk_at dksX6_isSo_1 6 rfl rfl)
theorem dX6_isSo_32 : decode cX6_isSo 32 = .ok (.iconst 2, 1) := dk_5 (dk_at dksX6_isSo_1 8 rfl rfl)
theorem dX6_isSo_33 : decode cX6_isSo 33 = .ok (.iload_n 3, 1) := dk_29 (dk_at dksX6_isSo_1 9 rfl rfl)
theorem dX6_isSo_34 : decode cX6_isSo 34 = .ok (.imul, 1) := dk_104 (dk_at dksX6_isSo_1 10 rfl rfl)
theorem dX6_isSo_35 : decode cX6_isSo 35 = .ok (.iadd, 1) := dk_96 (dk_at dksX6_isSo_1 11 rfl rfl)
theorem dX6_isSo_36 : decode cX6_isSo 36 = .ok (.iaload, 1) := dk_46 (dk_at dksX6_isSo_1 12 rfl rfl)
theorem dX6_isSo_37 : decode cX6_isSo 37 = .ok (.iadd, 1) := dk_96 (dk_at dksX6_isSo_1 13 rfl rfl)
theorem dX6_isSo_38 : decode cX6_isSo 38 = .ok (.iaload, 1) := dk_46 (dk_at dksX6_isSo_1 14 rfl rfl)
theorem dX6_isSo_39 : decode cX6_isSo 39 = .ok (.aload_n 0, 1) := dk_42 (dk_at dksX6_isSo_1 15 rfl rfl)
theorem dX6_isSo_40 : decode cX6_isSo 40 = .ok (.getfield 28, 3) := dk_180 0 28 (dk_at dksX6_isSo_1 16 rfl rfl)
theorem dX6_isSo_43 : decode cX6_isSo 43 = .ok (.bipush 25, 2) := dk_16 25 (dk_at dksX6_isSo_1 19 rfl rfl)
theorem dX6_isSo_45 : decode cX6_isSo 45 = .ok (.iconst 2, 1) := dk_5 (dk_at dksX6_isSo_1 21 rfl rfl)
theorem dX6_isSo_46 : decode cX6_isSo 46 = .ok (.iload_n 3, 1) := dk_29 (dk_at dksX6_isSo_1 22 rfl rfl)
theorem dX6_isSo_47 : decode cX6_isSo 47 = .ok (.imul, 1) := dk_104 (dk_at dksX6_isSo_1 23 rfl rfl)
theorem dX6_isSo_48 : decode cX6_isSo 48 = .ok (.iadd, 1) := dk_96 (dk_at dksX6_isSo_2 0 rfl rfl)
theorem dX6_isSo_49 : decode cX6_isSo 49 = .ok (.iconst 1, 1) := dk_4 (dk_at dksX6_isSo_2 1 rfl rfl)
theorem dX6_isSo_50 : decode cX6_isSo 50 = .ok (.iadd, 1) := dk_96 (dk_at dksX6_isSo_2 2 rfl rfl)
theorem dX6_isSo_51 : decode cX6_isSo 51 = .ok (.iaload, 1) := dk_46 (dk_at dksX6_isSo_2 3 rfl rfl)
theorem dX6_isSo_52 : decode cX6_isSo 52 = .ok (.if_icmp .ne 7, 3) := dk_160 0 7 (dk_at dksX6_isSo_2 4 rfl rfl)
theorem dX6_isSo_55 : decode cX6_isSo 55 = .ok (.iconst 1, 1) := dk_4 (dk_at dksX6_isSo_2 7 rfl rfl)
theorem dX6_isSo_56 : decode cX6_isSo 56 = .ok (.goto 4, 3) := dk_167 0 4 (dk_at dksX6_isSo_2 8 rfl rfl)
theorem dX6_isSo_59 : decode cX6_isSo 59 = .ok (.iconst 0, 1) := dk_3 (dk_at dksX6_isSo_2 11 rfl rfl)
theorem dX6_isSo_60 : decode cX6_isSo 60 = .ok (.istore_n 2, 1) := dk_61 (dk_at dksX6_isSo_2 12 rfl rfl)
theorem dX6_isSo_61 : decode cX6_isSo 61 = .ok (.iinc 3 1, 3) := dk_132 3 1 (dk_at dksX6_isSo_2 13 rfl rfl)
theorem dX6_isSo_64 : decode cX6_isSo 64 = .ok (.goto (-60), 3) := dk_167 255 196 (dk_at dksX6_isSo_2 16 rfl rfl)
theorem dX6_isSo_67 : decode cX6_isSo 67 = .ok (.iload_n 2, 1) := dk_28 (dk_at dksX6_isSo_2 19 rfl rfl)
theorem dX6_isSo_68 : decode cX6_isSo 68 = .ok (.ireturn, 1) := dk_172 (dk_at dksX6_isSo_2 20 rfl rfl)
abbrev cX6_listen : ByteArray := prog_24_method_121_code
def yX6_listen : MethodName := ⟨RX6, "listen", "(I)I"⟩
def dkwX6_listen_3 : List UInt8 := [2, 159, 0, 7, 27, 154, 0, 7, 29, 167, 0, 5, 21, 4, 172]
abbrev dktX6_listen_3 : List UInt8 := dkwX6_listen_3 ++ []
def dkwX6_listen_2 : List UInt8 := [21, 6, 21, 4, 161, 0, 6, 167, 0, 10, 21, 6, 54, 4, 21, 5, 62, 132, 5, 1, 167, 255, 214, 29]
abbrev dktX6_listen_2 : List UInt8 := dkwX6_listen_2 ++ dktX6_listen_3
def dkwX6_listen_1 : List UInt8 := [54, 5, 21, 5, 7, 162, 0, 42, 28, 184, 1, 175, 158, 0, 35, 42, 28, 21, 5, 182, 1, 178, 54, 6]
abbrev dktX6_listen_1 : List UInt8 := dkwX6_listen_1 ++ dktX6_listen_2
def dkwX6_listen_0 : List UInt8 := [27, 3, 4, 184, 0, 18, 154, 0, 5, 2, 172, 42, 182, 1, 172, 61, 2, 62, 19, 1, 108, 54, 4, 3]
abbrev dktX6_listen_0 : List UInt8 := dkwX6_listen_0 ++ dktX6_listen_1
theorem dksX6_listen_0 : cX6_listen.data.toList.drop 0 = dktX6_listen_0 := by decide +kernel
theorem dksX6_listen_1 : cX6_listen.data.toList.drop 24 = dktX6_listen_1 := dk_seg dksX6_listen_0 24 rfl rfl
theorem dksX6_listen_2 : cX6_listen.data.toList.drop 48 = dktX6_listen_2 := dk_seg dksX6_listen_1 24 rfl rfl
theorem dksX6_listen_3 : cX6_listen.data.toList.drop 72 = dktX6_listen_3 := dk_seg dksX6_listen_2 24 rfl rfl
theorem dX6_listen_0 : decode cX6_listen 0 = .ok (.iload_n 1, 1) := dk_27 (dk_at dksX6_listen_0 0 rfl rfl)
theorem dX6_listen_1 : decode cX6_listen 1 = .ok (.iconst 0, 1) := dk_3 (dk_at dksX6_listen_0 1 rfl rfl)
theorem dX6_listen_2 : decode cX6_listen 2 = .ok (.iconst 1, 1) := dk_4 (dk_at dksX6_listen_0 2 rfl rfl)
theorem dX6_listen_3 : decode cX6_listen 3 = .ok (.invokestatic 18, 3) := dk_184 0 18 (dk_at dksX6_listen_0 3 rfl rfl)
theorem dX6_listen_6 : decode cX6_listen 6 = .ok (.ifCond .ne 5, 3) := dk_154 0 5 (dk_at dksX6_listen_0 6 rfl rfl)
theorem dX6_listen_9 : decode cX6_listen 9 = .ok (.iconst (-1), 1) := dk_2 (dk_at dksX6_listen_0 9 rfl rfl)
theorem dX6_listen_10 : decode cX6_listen 10 = .ok (.ireturn, 1) := dk_172 (dk_at dksX6_listen_0 10 rfl rfl)
theorem dX6_listen_11 : decode cX6_listen 11 = .ok (.aload_n 0, 1) := dk_42 (dk_at dksX6_listen_0 11 rfl rfl)
theorem dX6_listen_12 : decode cX6_listen 12 = .ok (.invokevirtual 428, 3) := dk_182 1 172 (dk_at dksX6_listen_0 12 rfl rfl)
theorem dX6_listen_15 : decode cX6_listen 15 = .ok (.istore_n 2, 1) := dk_61 (dk_at dksX6_listen_0 15 rfl rfl)
theorem dX6_listen_16 : decode cX6_listen 16 = .ok (.iconst (-1), 1) := dk_2 (dk_at dksX6_listen_0 16 rfl rfl)
theorem dX6_listen_17 : decode cX6_listen 17 = .ok (.istore_n 3, 1) := dk_62 (dk_at dksX6_listen_0 17 rfl rfl)
theorem dX6_listen_18 : decode cX6_listen 18 = .ok (.ldc_w 364, 3) := dk_19 1 108 (dk_at dksX6_listen_0 18 rfl rfl)
theorem dX6_listen_21 : decode cX6_listen 21 = .ok (.istore 4, 2) := dk_54 4 (dk_at dksX6_listen_0 21 rfl rfl)
theorem dX6_listen_23 : decode cX6_listen 23 = .ok (.iconst 0, 1) := dk_3 (dk_at dksX6_listen_0 23 rfl rfl)
theorem dX6_listen_24 : decode cX6_listen 24 = .ok (.istore 5, 2) := dk_54 5 (dk_at dksX6_listen_1 0 rfl rfl)
theorem dX6_listen_26 : decode cX6_listen 26 = .ok (.iload 5, 2) := dk_21 5 (dk_at dksX6_listen_1 2 rfl rfl)
theorem dX6_listen_28 : decode cX6_listen 28 = .ok (.iconst 4, 1) := dk_7 (dk_at dksX6_listen_1 4 rfl rfl)
theorem dX6_listen_29 : decode cX6_listen 29 = .ok (.if_icmp .ge 42, 3) := dk_162 0 42 (dk_at dksX6_listen_1 5 rfl rfl)
theorem dX6_listen_32 : decode cX6_listen 32 = .ok (.iload_n 2, 1) := dk_28 (dk_at dksX6_listen_1 8 rfl rfl)
theorem dX6_listen_33 : decode cX6_listen 33 = .ok (.invokestatic 431, 3) := dk_184 1 175 (dk_at dksX6_listen_1 9 rfl rfl)
theorem dX6_listen_36 : decode cX6_listen 36 = .ok (.ifCond .le 35, 3) := dk_158 0 35 (dk_at dksX6_listen_1 12 rfl rfl)
theorem dX6_listen_39 : decode cX6_listen 39 = .ok (.aload_n 0, 1) := dk_42 (dk_at dksX6_listen_1 15 rfl rfl)
theorem dX6_listen_40 : decode cX6_listen 40 = .ok (.iload_n 2, 1) := dk_28 (dk_at dksX6_listen_1 16 rfl rfl)
theorem dX6_listen_41 : decode cX6_listen 41 = .ok (.iload 5, 2) := dk_21 5 (dk_at dksX6_listen_1 17 rfl rfl)
theorem dX6_listen_43 : decode cX6_listen 43 = .ok (.invokevirtual 434, 3) := dk_182 1 178 (dk_at dksX6_listen_1 19 rfl rfl)
theorem dX6_listen_46 : decode cX6_listen 46 = .ok (.istore 6, 2) := dk_54 6 (dk_at dksX6_listen_1 22 rfl rfl)
theorem dX6_listen_48 : decode cX6_listen 48 = .ok (.iload 6, 2) := dk_21 6 (dk_at dksX6_listen_2 0 rfl rfl)
theorem dX6_listen_50 : decode cX6_listen 50 = .ok (.iload 4, 2) := dk_21 4 (dk_at dksX6_listen_2 2 rfl rfl)
theorem dX6_listen_52 : decode cX6_listen 52 = .ok (.if_icmp .lt 6, 3) := dk_161 0 6 (dk_at dksX6_listen_2 4 rfl rfl)
theorem dX6_listen_55 : decode cX6_listen 55 = .ok (.goto 10, 3) := dk_167 0 10 (dk_at dksX6_listen_2 7 rfl rfl)
theorem dX6_listen_58 : decode cX6_listen 58 = .ok (.iload 6, 2) := dk_21 6 (dk_at dksX6_listen_2 10 rfl rfl)
theorem dX6_listen_60 : decode cX6_listen 60 = .ok (.istore 4, 2) := dk_54 4 (dk_at dksX6_listen_2 12 rfl rfl)
theorem dX6_listen_62 : decode cX6_listen 62 = .ok (.iload 5, 2) := dk_21 5 (dk_at dksX6_listen_2 14 rfl rfl)
theorem dX6_listen_64 : decode cX6_listen 64 = .ok (.istore_n 3, 1) := dk_62 (dk_at dksX6_listen_2 16 rfl rfl)
theorem dX6_listen_65 : decode cX6_listen 65 = .ok (.iinc 5 1, 3) := dk_132 5 1 (dk_at dksX6_listen_2 17 rfl rfl)
theorem dX6_listen_68 : decode cX6_listen 68 = .ok (.goto (-42), 3) := dk_167 255 214 (dk_at dksX6_listen_2 20 rfl rfl)
theorem dX6_listen_71 : decode cX6_listen 71 = .ok (.iload_n 3, 1) := dk_29 (dk_at dksX6_listen_2 23 rfl rfl)
theorem dX6_listen_72 : decode cX6_listen 72 = .ok (.iconst (-1), 1) := dk_2 (dk_at dksX6_listen_3 0 rfl rfl)
theorem dX6_listen_73 : decode cX6_listen 73 = .ok (.if_icmp .eq 7, 3) := dk_159 0 7 (dk_at dksX6_listen_3 1 rfl rfl)
theorem dX6_listen_76 : decode cX6_listen 76 = .ok (.iload_n 1, 1) := dk_27 (dk_at dksX6_listen_3 4 rfl rfl)
theorem dX6_listen_77 : decode cX6_listen 77 = .ok (.ifCond .ne 7, 3) := dk_154 0 7 (dk_at dksX6_listen_3 5 rfl rfl)
theorem dX6_listen_80 : decode cX6_listen 80 = .ok (.iload_n 3, 1) := dk_29 (dk_at dksX6_listen_3 8 rfl rfl)
theorem dX6_listen_81 : decode cX6_listen 81 = .ok (.goto 5, 3) := dk_167 0 5 (dk_at dksX6_listen_3 9 rfl rfl)
theorem dX6_listen_84 : decode cX6_listen 84 = .ok (.iload 4, 2) := dk_21 4 (dk_at dksX6_listen_3 12 rfl rfl)
theorem dX6_listen_86 : decode cX6_listen 86 = .ok (.ireturn, 1) := dk_172 (dk_at dksX6_listen_3 14 rfl rfl)
abbrev cX6_ones : ByteArray := prog_24_method_9_code
def yX6_ones : MethodName := ⟨RX6, "ones", "(I)I"⟩
def dkwX6_ones_1 : List UInt8 := [27, 172]
abbrev dktX6_ones_1 : List UInt8 := dkwX6_ones_1 ++ []
def dkwX6_ones_0 : List UInt8 := [3, 60, 3, 61, 28, 16, 12, 162, 0, 17, 27, 26, 28, 122, 4, 126, 96, 60, 132, 2, 1, 167, 255, 239]
abbrev dktX6_ones_0 : List UInt8 := dkwX6_ones_0 ++ dktX6_ones_1
theorem dksX6_ones_0 : cX6_ones.data.toList.drop 0 = dktX6_ones_0 := by decide +kernel
theorem dksX6_ones_1 : cX6_ones.data.toList.drop 24 = dktX6_ones_1 := dk_seg dksX6_ones_0 24 rfl rfl
theorem dX6_ones_0 : decode cX6_ones 0 = .ok (.iconst 0, 1) := dk_3 (dk_at dksX6_ones_0 0 rfl rfl)
theorem dX6_ones_1 : decode cX6_ones 1 = .ok (.istore_n 1, 1) := dk_60 (dk_at dksX6_ones_0 1 rfl rfl)
theorem dX6_ones_2 : decode cX6_ones 2 = .ok (.iconst 0, 1) := dk_3 (dk_at dksX6_ones_0 2 rfl rfl)
theorem dX6_ones_3 : decode cX6_ones 3 = .ok (.istore_n 2, 1) := dk_61 (dk_at dksX6_ones_0 3 rfl rfl)
theorem dX6_ones_4 : decode cX6_ones 4 = .ok (.iload_n 2, 1) := dk_28 (dk_at dksX6_ones_0 4 rfl rfl)
theorem dX6_ones_5 : decode cX6_ones 5 = .ok (.bipush 12, 2) := dk_16 12 (dk_at dksX6_ones_0 5 rfl rfl)
theorem dX6_ones_7 : decode cX6_ones 7 = .ok (.if_icmp .ge 17, 3) := dk_162 0 17 (dk_at dksX6_ones_0 7 rfl rfl)
theorem dX6_ones_10 : decode cX6_ones 10 = .ok (.iload_n 1, 1) := dk_27 (dk_at dksX6_ones_0 10 rfl rfl)
theorem dX6_ones_11 : decode cX6_ones 11 = .ok (.iload_n 0, 1) := dk_26 (dk_at dksX6_ones_0 11 rfl rfl)
theorem dX6_ones_12 : decode cX6_ones 12 = .ok (.iload_n 2, 1) := dk_28 (dk_at dksX6_ones_0 12 rfl rfl)
theorem dX6_ones_13 : decode cX6_ones 13 = .ok (.ishr, 1) := dk_122 (dk_at dksX6_ones_0 13 rfl rfl)
theorem dX6_ones_14 : decode cX6_ones 14 = .ok (.iconst 1, 1) := dk_4 (dk_at dksX6_ones_0 14 rfl rfl)
theorem dX6_ones_15 : decode cX6_ones 15 = .ok (.iand, 1) := dk_126 (dk_at dksX6_ones_0 15 rfl rfl)
theorem dX6_ones_16 : decode cX6_ones 16 = .ok (.iadd, 1) := dk_96 (dk_at dksX6_ones_0 16 rfl rfl)
theorem dX6_ones_17 : decode cX6_ones 17 = .ok (.istore_n 1, 1) := dk_60 (dk_at dksX6_ones_0 17 rfl rfl)
theorem dX6_ones_18 : decode cX6_ones 18 = .ok (.iinc 2 1, 3) := dk_132 2 1 (dk_at dksX6_ones_0 18 rfl rfl)
theorem dX6_ones_21 : decode cX6_ones 21 = .ok (.goto (-17), 3) := dk_167 255 239 (dk_at dksX6_ones_0 21 rfl rfl)
theorem dX6_ones_24 : decode cX6_ones 24 = .ok (.iload_n 1, 1) := dk_27 (dk_at dksX6_ones_1 0 rfl rfl)
theorem dX6_ones_25 : decode cX6_ones 25 = .ok (.ireturn, 1) := dk_172 (dk_at dksX6_ones_1 1 rfl rfl)
abbrev cX6_mostAlike : ByteArray := prog_24_method_120_code
def yX6_mostAlike : MethodName := ⟨RX6, "mostAlike", "(II)I"⟩
def dkwX6_mostAlike_4 : List UInt8 := [167, 0, 4, 29, 62, 132, 4, 1, 167, 255, 159, 29, 172]
abbrev dktX6_mostAlike_4 : List UInt8 := dkwX6_mostAlike_4 ++ []
def dkwX6_mostAlike_3 : List UInt8 := [54, 5, 132, 6, 1, 167, 255, 200, 27, 21, 4, 184, 1, 169, 153, 0, 12, 29, 21, 5, 184, 1, 141]
abbrev dktX6_mostAlike_3 : List UInt8 := dkwX6_mostAlike_3 ++ dktX6_mostAlike_4
def dkwX6_mostAlike_2 : List UInt8 := [104, 28, 96, 46, 42, 180, 0, 88, 7, 21, 6, 104, 28, 96, 46, 160, 0, 7, 4, 167, 0, 4, 3, 96]
abbrev dktX6_mostAlike_2 : List UInt8 := dkwX6_mostAlike_2 ++ dktX6_mostAlike_3
def dkwX6_mostAlike_1 : List UInt8 := [182, 0, 112, 162, 0, 53, 21, 5, 27, 21, 6, 184, 1, 169, 153, 0, 32, 42, 180, 0, 88, 7, 21, 4]
abbrev dktX6_mostAlike_1 : List UInt8 := dkwX6_mostAlike_1 ++ dktX6_mostAlike_2
def dkwX6_mostAlike_0 : List UInt8 := [3, 62, 3, 54, 4, 21, 4, 42, 182, 0, 112, 162, 0, 94, 3, 54, 5, 3, 54, 6, 21, 6, 42]
abbrev dktX6_mostAlike_0 : List UInt8 := dkwX6_mostAlike_0 ++ dktX6_mostAlike_1
theorem dksX6_mostAlike_0 : cX6_mostAlike.data.toList.drop 0 = dktX6_mostAlike_0 := by decide +kernel
theorem dksX6_mostAlike_1 : cX6_mostAlike.data.toList.drop 23 = dktX6_mostAlike_1 := dk_seg dksX6_mostAlike_0 23 rfl rfl
theorem dksX6_mostAlike_2 : cX6_mostAlike.data.toList.drop 47 = dktX6_mostAlike_2 := dk_seg dksX6_mostAlike_1 24 rfl rfl
theorem dksX6_mostAlike_3 : cX6_mostAlike.data.toList.drop 71 = dktX6_mostAlike_3 := dk_seg dksX6_mostAlike_2 24 rfl rfl
theorem dksX6_mostAlike_4 : cX6_mostAlike.data.toList.drop 94 = dktX6_mostAlike_4 := dk_seg dksX6_mostAlike_3 23 rfl rfl
theorem dX6_mostAlike_0 : decode cX6_mostAlike 0 = .ok (.iconst 0, 1) := dk_3 (dk_at dksX6_mostAlike_0 0 rfl rfl)
theorem dX6_mostAlike_1 : decode cX6_mostAlike 1 = .ok (.istore_n 3, 1) := dk_62 (dk_at dksX6_mostAlike_0 1 rfl rfl)
theorem dX6_mostAlike_2 : decode cX6_mostAlike 2 = .ok (.iconst 0, 1) := dk_3 (dk_at dksX6_mostAlike_0 2 rfl rfl)
theorem dX6_mostAlike_3 : decode cX6_mostAlike 3 = .ok (.istore 4, 2) := dk_54 4 (dk_at dksX6_mostAlike_0 3 rfl rfl)
theorem dX6_mostAlike_5 : decode cX6_mostAlike 5 = .ok (.iload 4, 2) := dk_21 4 (dk_at dksX6_mostAlike_0 5 rfl rfl)
theorem dX6_mostAlike_7 : decode cX6_mostAlike 7 = .ok (.aload_n 0, 1) := dk_42 (dk_at dksX6_mostAlike_0 7 rfl rfl)
theorem dX6_mostAlike_8 : decode cX6_mostAlike 8 = .ok (.invokevirtual 112, 3) := dk_182 0 112 (dk_at dksX6_mostAlike_0 8 rfl rfl)
theorem dX6_mostAlike_11 : decode cX6_mostAlike 11 = .ok (.if_icmp .ge 94, 3) := dk_162 0 94 (dk_at dksX6_mostAlike_0 11 rfl rfl)
theorem dX6_mostAlike_14 : decode cX6_mostAlike 14 = .ok (.iconst 0, 1) := dk_3 (dk_at dksX6_mostAlike_0 14 rfl rfl)
theorem dX6_mostAlike_15 : decode cX6_mostAlike 15 = .ok (.istore 5, 2) := dk_54 5 (dk_at dksX6_mostAlike_0 15 rfl rfl)
theorem dX6_mostAlike_17 : decode cX6_mostAlike 17 = .ok (.iconst 0, 1) := dk_3 (dk_at dksX6_mostAlike_0 17 rfl rfl)
theorem dX6_mostAlike_18 : decode cX6_mostAlike 18 = .ok (.istore 6, 2) := dk_54 6 (dk_at dksX6_mostAlike_0 18 rfl rfl)
theorem dX6_mostAlike_20 : decode cX6_mostAlike 20 = .ok (.iload 6, 2) := dk_21 6 (dk_at dksX6_mostAlike_0 20 rfl rfl)
theorem dX6_mostAlike_22 : decode cX6_mostAlike 22 = .ok (.aload_n 0, 1) := dk_42 (dk_at dksX6_mostAlike_0 22 rfl rfl)
theorem dX6_mostAlike_23 : decode cX6_mostAlike 23 = .ok (.invokevirtual 112, 3) := dk_182 0 112 (dk_at dksX6_mostAlike_1 0 rfl rfl)
theorem dX6_mostAlike_26 : decode cX6_mostAlike 26 = .ok (.if_icmp .ge 53, 3) := dk_162 0 53 (dk_at dksX6_mostAlike_1 3 rfl rfl)
theorem dX6_mostAlike_29 : decode cX6_mostAlike 29 = .ok (.iload 5, 2) := dk_21 5 (dk_at dksX6_mostAlike_1 6 rfl rfl)
theorem dX6_mostAlike_31 : decode cX6_mostAlike 31 = .ok (.iload_n 1, 1) := dk_27 (dk_at dksX6_mostAlike_1 8 rfl rfl)
theorem dX6_mostAlike_32 : decode cX6_mostAlike 32 = .ok (.iload 6, 2) := dk_21 6 (dk_at dksX6_mostAlike_1 9 rfl rfl)
theorem dX6_mostAlike_34 : decode cX6_mostAlike 34 = .ok (.invokestatic 425, 3) := dk_184 1 169 (dk_at dksX6_mostAlike_1 11 rfl rfl)
theorem dX6_mostAlike_37 : decode cX6_mostAlike 37 = .ok (.ifCond .eq 32, 3) := dk_153 0 32 (dk_at dksX6_mostAlike_1 14 rfl rfl)
theorem dX6_mostAlike_40 : decode cX6_mostAlike 40 = .ok (.aload_n 0, 1) := dk_42 (dk_at dksX6_mostAlike_1 17 rfl rfl)
theorem dX6_mostAlike_41 : decode cX6_mostAlike 41 = .ok (.getfield 88, 3) := dk_180 0 88 (dk_at dksX6_mostAlike_1 18 rfl rfl)
theorem dX6_mostAlike_44 : decode cX6_mostAlike 44 = .ok (.iconst 4, 1) := dk_7 (dk_at dksX6_mostAlike_1 21 rfl rfl)
theorem dX6_mostAlike_45 : decode cX6_mostAlike 45 = .ok (.iload 4, 2) := dk_21 4 (dk_at dksX6_mostAlike_1 22 rfl rfl)
theorem dX6_mostAlike_47 : decode cX6_mostAlike 47 = .ok (.imul, 1) := dk_104 (dk_at dksX6_mostAlike_2 0 rfl rfl)
theorem dX6_mostAlike_48 : decode cX6_mostAlike 48 = .ok (.iload_n 2, 1) := dk_28 (dk_at dksX6_mostAlike_2 1 rfl rfl)
theorem dX6_mostAlike_49 : decode cX6_mostAlike 49 = .ok (.iadd, 1) := dk_96 (dk_at dksX6_mostAlike_2 2 rfl rfl)
theorem dX6_mostAlike_50 : decode cX6_mostAlike 50 = .ok (.iaload, 1) := dk_46 (dk_at dksX6_mostAlike_2 3 rfl rfl)
theorem dX6_mostAlike_51 : decode cX6_mostAlike 51 = .ok (.aload_n 0, 1) := dk_42 (dk_at dksX6_mostAlike_2 4 rfl rfl)
theorem dX6_mostAlike_52 : decode cX6_mostAlike 52 = .ok (.getfield 88, 3) := dk_180 0 88 (dk_at dksX6_mostAlike_2 5 rfl rfl)
theorem dX6_mostAlike_55 : decode cX6_mostAlike 55 = .ok (.iconst 4, 1) := dk_7 (dk_at dksX6_mostAlike_2 8 rfl rfl)
theorem dX6_mostAlike_56 : decode cX6_mostAlike 56 = .ok (.iload 6, 2) := dk_21 6 (dk_at dksX6_mostAlike_2 9 rfl rfl)
theorem dX6_mostAlike_58 : decode cX6_mostAlike 58 = .ok (.imul, 1) := dk_104 (dk_at dksX6_mostAlike_2 11 rfl rfl)
theorem dX6_mostAlike_59 : decode cX6_mostAlike 59 = .ok (.iload_n 2, 1) := dk_28 (dk_at dksX6_mostAlike_2 12 rfl rfl)
theorem dX6_mostAlike_60 : decode cX6_mostAlike 60 = .ok (.iadd, 1) := dk_96 (dk_at dksX6_mostAlike_2 13 rfl rfl)
theorem dX6_mostAlike_61 : decode cX6_mostAlike 61 = .ok (.iaload, 1) := dk_46 (dk_at dksX6_mostAlike_2 14 rfl rfl)
theorem dX6_mostAlike_62 : decode cX6_mostAlike 62 = .ok (.if_icmp .ne 7, 3) := dk_160 0 7 (dk_at dksX6_mostAlike_2 15 rfl rfl)
theorem dX6_mostAlike_65 : decode cX6_mostAlike 65 = .ok (.iconst 1, 1) := dk_4 (dk_at dksX6_mostAlike_2 18 rfl rfl)
theorem dX6_mostAlike_66 : decode cX6_mostAlike 66 = .ok (.goto 4, 3) := dk_167 0 4 (dk_at dksX6_mostAlike_2 19 rfl rfl)
theorem dX6_mostAlike_69 : decode cX6_mostAlike 69 = .ok (.iconst 0, 1) := dk_3 (dk_at dksX6_mostAlike_2 22 rfl rfl)
theorem dX6_mostAlike_70 : decode cX6_mostAlike 70 = .ok (.iadd, 1) := dk_96 (dk_at dksX6_mostAlike_2 23 rfl rfl)
theorem dX6_mostAlike_71 : decode cX6_mostAlike 71 = .ok (.istore 5, 2) := dk_54 5 (dk_at dksX6_mostAlike_3 0 rfl rfl)
theorem dX6_mostAlike_73 : decode cX6_mostAlike 73 = .ok (.iinc 6 1, 3) := dk_132 6 1 (dk_at dksX6_mostAlike_3 2 rfl rfl)
theorem dX6_mostAlike_76 : decode cX6_mostAlike 76 = .ok (.goto (-56), 3) := dk_167 255 200 (dk_at dksX6_mostAlike_3 5 rfl rfl)
theorem dX6_mostAlike_79 : decode cX6_mostAlike 79 = .ok (.iload_n 1, 1) := dk_27 (dk_at dksX6_mostAlike_3 8 rfl rfl)
theorem dX6_mostAlike_80 : decode cX6_mostAlike 80 = .ok (.iload 4, 2) := dk_21 4 (dk_at dksX6_mostAlike_3 9 rfl rfl)
theorem dX6_mostAlike_82 : decode cX6_mostAlike 82 = .ok (.invokestatic 425, 3) := dk_184 1 169 (dk_at dksX6_mostAlike_3 11 rfl rfl)
theorem dX6_mostAlike_85 : decode cX6_mostAlike 85 = .ok (.ifCond .eq 12, 3) := dk_153 0 12 (dk_at dksX6_mostAlike_3 14 rfl rfl)
theorem dX6_mostAlike_88 : decode cX6_mostAlike 88 = .ok (.iload_n 3, 1) := dk_29 (dk_at dksX6_mostAlike_3 17 rfl rfl)
theorem dX6_mostAlike_89 : decode cX6_mostAlike 89 = .ok (.iload 5, 2) := dk_21 5 (dk_at dksX6_mostAlike_3 18 rfl rfl)
theorem dX6_mostAlike_91 : decode cX6_mostAlike 91 = .ok (.invokestatic 397, 3) := dk_184 1 141 (dk_at dksX6_mostAlike_3 20 rfl rfl)
theorem dX6_mostAlike_94 : decode cX6_mostAlike 94 = .ok (.goto 4, 3) := dk_167 0 4 (dk_at dksX6_mostAlike_4 0 rfl rfl)
theorem dX6_mostAlike_97 : decode cX6_mostAlike 97 = .ok (.iload_n 3, 1) := dk_29 (dk_at dksX6_mostAlike_4 3 rfl rfl)
theorem dX6_mostAlike_98 : decode cX6_mostAlike 98 = .ok (.istore_n 3, 1) := dk_62 (dk_at dksX6_mostAlike_4 4 rfl rfl)
theorem dX6_mostAlike_99 : decode cX6_mostAlike 99 = .ok (.iinc 4 1, 3) := dk_132 4 1 (dk_at dksX6_mostAlike_4 5 rfl rfl)
theorem dX6_mostAlike_102 : decode cX6_mostAlike 102 = .ok (.goto (-97), 3) := dk_167 255 159 (dk_at dksX6_mostAlike_4 8 rfl rfl)
theorem dX6_mostAlike_105 : decode cX6_mostAlike 105 = .ok (.iload_n 3, 1) := dk_29 (dk_at dksX6_mostAlike_4 11 rfl rfl)
theorem dX6_mostAlike_106 : decode cX6_mostAlike 106 = .ok (.ireturn, 1) := dk_172 (dk_at dksX6_mostAlike_4 12 rfl rfl)
abbrev cX6_isIn : ByteArray := prog_24_method_8_code
def yX6_isIn : MethodName := ⟨RX6, "isIn", "(II)Z"⟩
def dkwX6_isIn_0 : List UInt8 := [26, 27, 122, 4, 126, 4, 160, 0, 7, 4, 167, 0, 4, 3, 172]
abbrev dktX6_isIn_0 : List UInt8 := dkwX6_isIn_0 ++ []
theorem dksX6_isIn_0 : cX6_isIn.data.toList.drop 0 = dktX6_isIn_0 := by decide +kernel
theorem dX6_isIn_0 : decode cX6_isIn 0 = .ok (.iload_n 0, 1) := dk_26 (dk_at dksX6_isIn_0 0 rfl rfl)
theorem dX6_isIn_1 : decode cX6_isIn 1 = .ok (.iload_n 1, 1) := dk_27 (dk_at dksX6_isIn_0 1 rfl rfl)
theorem dX6_isIn_2 : decode cX6_isIn 2 = .ok (.ishr, 1) := dk_122 (dk_at dksX6_isIn_0 2 rfl rfl)
theorem dX6_isIn_3 : decode cX6_isIn 3 = .ok (.iconst 1, 1) := dk_4 (dk_at dksX6_isIn_0 3 rfl rfl)
theorem dX6_isIn_4 : decode cX6_isIn 4 = .ok (.iand, 1) := dk_126 (dk_at dksX6_isIn_0 4 rfl rfl)
theorem dX6_isIn_5 : decode cX6_isIn 5 = .ok (.iconst 1, 1) := dk_4 (dk_at dksX6_isIn_0 5 rfl rfl)
theorem dX6_isIn_6 : decode cX6_isIn 6 = .ok (.if_icmp .ne 7, 3) := dk_160 0 7 (dk_at dksX6_isIn_0 6 rfl rfl)
theorem dX6_isIn_9 : decode cX6_isIn 9 = .ok (.iconst 1, 1) := dk_4 (dk_at dksX6_isIn_0 9 rfl rfl)
theorem dX6_isIn_10 : decode cX6_isIn 10 = .ok (.goto 4, 3) := dk_167 0 4 (dk_at dksX6_isIn_0 10 rfl rfl)
theorem dX6_isIn_13 : decode cX6_isIn 13 = .ok (.iconst 0, 1) := dk_3 (dk_at dksX6_isIn_0 13 rfl rfl)
theorem dX6_isIn_14 : decode cX6_isIn 14 = .ok (.ireturn, 1) := dk_172 (dk_at dksX6_isIn_0 14 rfl rfl)
abbrev cX6_few : ByteArray := prog_24_method_122_code
def yX6_few : MethodName := ⟨RX6, "few", "(II)J"⟩
def dkwX6_few_7 : List UInt8 := [132, 5, 1, 167, 255, 237, 33, 173]
abbrev dktX6_few_7 : List UInt8 := dkwX6_few_7 ++ []
def dkwX6_few_6 : List UInt8 := [167, 255, 170, 9, 66, 3, 54, 5, 21, 5, 27, 162, 0, 19, 33, 42, 180, 0, 91, 21, 5, 47, 97, 66]
abbrev dktX6_few_6 : List UInt8 := dkwX6_few_6 ++ dktX6_few_7
def dkwX6_few_5 : List UInt8 := [180, 0, 28, 16, 37, 46, 100, 133, 105, 20, 1, 185, 109, 80, 132, 4, 255, 167, 255, 186, 132, 3, 1]
abbrev dktX6_few_5 : List UInt8 := dkwX6_few_5 ++ dktX6_few_6
def dkwX6_few_4 : List UInt8 := [133, 105, 20, 1, 185, 109, 97, 80, 42, 180, 0, 91, 21, 4, 42, 180, 0, 91, 21, 4, 47, 16, 10, 42]
abbrev dktX6_few_4 : List UInt8 := dkwX6_few_4 ++ dktX6_few_5
def dkwX6_few_3 : List UInt8 := [42, 180, 0, 91, 21, 4, 4, 96, 92, 47, 42, 180, 0, 91, 21, 4, 47, 42, 180, 0, 28, 16, 37, 46]
abbrev dktX6_few_3 : List UInt8 := dkwX6_few_3 ++ dktX6_few_4
def dkwX6_few_2 : List UInt8 := [80, 132, 3, 1, 167, 255, 230, 3, 62, 29, 28, 162, 0, 87, 27, 4, 100, 54, 4, 21, 4, 155, 0, 71]
abbrev dktX6_few_2 : List UInt8 := dkwX6_few_2 ++ dktX6_few_3
def dkwX6_few_1 : List UInt8 := [3, 62, 29, 16, 20, 163, 0, 26, 42, 180, 0, 91, 29, 29, 154, 0, 9, 20, 1, 183, 167, 0, 4, 9]
abbrev dktX6_few_1 : List UInt8 := dkwX6_few_1 ++ dktX6_few_2
def dkwX6_few_0 : List UInt8 := [27, 4, 16, 20, 184, 0, 18, 153, 0, 13, 28, 3, 16, 99, 184, 0, 18, 154, 0, 7, 20, 1, 181, 173]
abbrev dktX6_few_0 : List UInt8 := dkwX6_few_0 ++ dktX6_few_1
theorem dksX6_few_0 : cX6_few.data.toList.drop 0 = dktX6_few_0 := by decide +kernel
theorem dksX6_few_1 : cX6_few.data.toList.drop 24 = dktX6_few_1 := dk_seg dksX6_few_0 24 rfl rfl
theorem dksX6_few_2 : cX6_few.data.toList.drop 48 = dktX6_few_2 := dk_seg dksX6_few_1 24 rfl rfl
theorem dksX6_few_3 : cX6_few.data.toList.drop 72 = dktX6_few_3 := dk_seg dksX6_few_2 24 rfl rfl
theorem dksX6_few_4 : cX6_few.data.toList.drop 96 = dktX6_few_4 := dk_seg dksX6_few_3 24 rfl rfl
theorem dksX6_few_5 : cX6_few.data.toList.drop 120 = dktX6_few_5 := dk_seg dksX6_few_4 24 rfl rfl
theorem dksX6_few_6 : cX6_few.data.toList.drop 143 = dktX6_few_6 := dk_seg dksX6_few_5 23 rfl rfl
theorem dksX6_few_7 : cX6_few.data.toList.drop 167 = dktX6_few_7 := dk_seg dksX6_few_6 24 rfl rfl
theorem dX6_few_0 : decode cX6_few 0 = .ok (.iload_n 1, 1) := dk_27 (dk_at dksX6_few_0 0 rfl rfl)
theorem dX6_few_1 : decode cX6_few 1 = .ok (.iconst 1, 1) := dk_4 (dk_at dksX6_few_0 1 rfl rfl)
theorem dX6_few_2 : decode cX6_few 2 = .ok (.bipush 20, 2) := dk_16 20 (dk_at dksX6_few_0 2 rfl rfl)
theorem dX6_few_4 : decode cX6_few 4 = .ok (.invokestatic 18, 3) := dk_184 0 18 (dk_at dksX6_few_0 4 rfl rfl)
theorem dX6_few_7 : decode cX6_few 7 = .ok (.ifCond .eq 13, 3) := dk_153 0 13 (dk_at dksX6_few_0 7 rfl rfl)
theorem dX6_few_10 : decode cX6_few 10 = .ok (.iload_n 2, 1) := dk_28 (dk_at dksX6_few_0 10 rfl rfl)
theorem dX6_few_11 : decode cX6_few 11 = .ok (.iconst 0, 1) := dk_3 (dk_at dksX6_few_0 11 rfl rfl)
theorem dX6_few_12 : decode cX6_few 12 = .ok (.bipush 99, 2) := dk_16 99 (dk_at dksX6_few_0 12 rfl rfl)
theorem dX6_few_14 : decode cX6_few 14 = .ok (.invokestatic 18, 3) := dk_184 0 18 (dk_at dksX6_few_0 14 rfl rfl)
theorem dX6_few_17 : decode cX6_few 17 = .ok (.ifCond .ne 7, 3) := dk_154 0 7 (dk_at dksX6_few_0 17 rfl rfl)
theorem dX6_few_20 : decode cX6_few 20 = .ok (.ldc2_w 437, 3) := dk_20 1 181 (dk_at dksX6_few_0 20 rfl rfl)
theorem dX6_few_23 : decode cX6_few 23 = .ok (.lreturn, 1) := dk_173 (dk_at dksX6_few_0 23 rfl rfl)
theorem dX6_few_24 : decode cX6_few 24 = .ok (.iconst 0, 1) := dk_3 (dk_at dksX6_few_1 0 rfl rfl)
theorem dX6_few_25 : decode cX6_few 25 = .ok (.istore_n 3, 1) := dk_62 (dk_at dksX6_few_1 1 rfl rfl)
theorem dX6_few_26 : decode cX6_few 26 = .ok (.iload_n 3, 1) := dk_29 (dk_at dksX6_few_1 2 rfl rfl)
theorem dX6_few_27 : decode cX6_few 27 = .ok (.bipush 20, 2) := dk_16 20 (dk_at dksX6_few_1 3 rfl rfl)
theorem dX6_few_29 : decode cX6_few 29 = .ok (.if_icmp .gt 26, 3) := dk_163 0 26 (dk_at dksX6_few_1 5 rfl rfl)
theorem dX6_few_32 : decode cX6_few 32 = .ok (.aload_n 0, 1) := dk_42 (dk_at dksX6_few_1 8 rfl rfl)
theorem dX6_few_33 : decode cX6_few 33 = .ok (.getfield 91, 3) := dk_180 0 91 (dk_at dksX6_few_1 9 rfl rfl)
theorem dX6_few_36 : decode cX6_few 36 = .ok (.iload_n 3, 1) := dk_29 (dk_at dksX6_few_1 12 rfl rfl)
theorem dX6_few_37 : decode cX6_few 37 = .ok (.iload_n 3, 1) := dk_29 (dk_at dksX6_few_1 13 rfl rfl)
theorem dX6_few_38 : decode cX6_few 38 = .ok (.ifCond .ne 9, 3) := dk_154 0 9 (dk_at dksX6_few_1 14 rfl rfl)
theorem dX6_few_41 : decode cX6_few 41 = .ok (.ldc2_w 439, 3) := dk_20 1 183 (dk_at dksX6_few_1 17 rfl rfl)
theorem dX6_few_44 : decode cX6_few 44 = .ok (.goto 4, 3) := dk_167 0 4 (dk_at dksX6_few_1 20 rfl rfl)
theorem dX6_few_47 : decode cX6_few 47 = .ok (.lconst 0, 1) := dk_9 (dk_at dksX6_few_1 23 rfl rfl)
theorem dX6_few_48 : decode cX6_few 48 = .ok (.lastore, 1) := dk_80 (dk_at dksX6_few_2 0 rfl rfl)
theorem dX6_few_49 : decode cX6_few 49 = .ok (.iinc 3 1, 3) := dk_132 3 1 (dk_at dksX6_few_2 1 rfl rfl)
theorem dX6_few_52 : decode cX6_few 52 = .ok (.goto (-26), 3) := dk_167 255 230 (dk_at dksX6_few_2 4 rfl rfl)
theorem dX6_few_55 : decode cX6_few 55 = .ok (.iconst 0, 1) := dk_3 (dk_at dksX6_few_2 7 rfl rfl)
theorem dX6_few_56 : decode cX6_few 56 = .ok (.istore_n 3, 1) := dk_62 (dk_at dksX6_few_2 8 rfl rfl)
theorem dX6_few_57 : decode cX6_few 57 = .ok (.iload_n 3, 1) := dk_29 (dk_at dksX6_few_2 9 rfl rfl)
theorem dX6_few_58 : decode cX6_few 58 = .ok (.iload_n 2, 1) := dk_28 (dk_at dksX6_few_2 10 rfl rfl)
theorem dX6_few_59 : decode cX6_few 59 = .ok (.if_icmp .ge 87, 3) := dk_162 0 87 (dk_at dksX6_few_2 11 rfl rfl)
theorem dX6_few_62 : decode cX6_few 62 = .ok (.iload_n 1, 1) := dk_27 (dk_at dksX6_few_2 14 rfl rfl)
theorem dX6_few_63 : decode cX6_few 63 = .ok (.iconst 1, 1) := dk_4 (dk_at dksX6_few_2 15 rfl rfl)
theorem dX6_few_64 : decode cX6_few 64 = .ok (.isub, 1) := dk_100 (dk_at dksX6_few_2 16 rfl rfl)
theorem dX6_few_65 : decode cX6_few 65 = .ok (.istore 4, 2) := dk_54 4 (dk_at dksX6_few_2 17 rfl rfl)
theorem dX6_few_67 : decode cX6_few 67 = .ok (.iload 4, 2) := dk_21 4 (dk_at dksX6_few_2 19 rfl rfl)
theorem dX6_few_69 : decode cX6_few 69 = .ok (.ifCond .lt 71, 3) := dk_155 0 71 (dk_at dksX6_few_2 21 rfl rfl)
theorem dX6_few_72 : decode cX6_few 72 = .ok (.aload_n 0, 1) := dk_42 (dk_at dksX6_few_3 0 rfl rfl)
theorem dX6_few_73 : decode cX6_few 73 = .ok (.getfield 91, 3) := dk_180 0 91 (dk_at dksX6_few_3 1 rfl rfl)
theorem dX6_few_76 : decode cX6_few 76 = .ok (.iload 4, 2) := dk_21 4 (dk_at dksX6_few_3 4 rfl rfl)
theorem dX6_few_78 : decode cX6_few 78 = .ok (.iconst 1, 1) := dk_4 (dk_at dksX6_few_3 6 rfl rfl)
theorem dX6_few_79 : decode cX6_few 79 = .ok (.iadd, 1) := dk_96 (dk_at dksX6_few_3 7 rfl rfl)
theorem dX6_few_80 : decode cX6_few 80 = .ok (.dup2, 1) := dk_92 (dk_at dksX6_few_3 8 rfl rfl)
theorem dX6_few_81 : decode cX6_few 81 = .ok (.laload, 1) := dk_47 (dk_at dksX6_few_3 9 rfl rfl)
theorem dX6_few_82 : decode cX6_few 82 = .ok (.aload_n 0, 1) := dk_42 (dk_at dksX6_few_3 10 rfl rfl)
theorem dX6_few_83 : decode cX6_few 83 = .ok (.getfield 91, 3) := dk_180 0 91 (dk_at dksX6_few_3 11 rfl rfl)
theorem dX6_few_86 : decode cX6_few 86 = .ok (.iload 4, 2) := dk_21 4 (dk_at dksX6_few_3 14 rfl rfl)
theorem dX6_few_88 : decode cX6_few 88 = .ok (.laload, 1) := dk_47 (dk_at dksX6_few_3 16 rfl rfl)
theorem dX6_few_89 : decode cX6_few 89 = .ok (.aload_n 0, 1) := dk_42 (dk_at dksX6_few_3 17 rfl rfl)
theorem dX6_few_90 : decode cX6_few 90 = .ok (.getfield 28, 3) := dk_180 0 28 (dk_at dksX6_few_3 18 rfl rfl)
theorem dX6_few_93 : decode cX6_few 93 = .ok (.bipush 37, 2) := dk_16 37 (dk_at dksX6_few_3 21 rfl rfl)
theorem dX6_few_95 : decode cX6_few 95 = .ok (.iaload, 1) := dk_46 (dk_at dksX6_few_3 23 rfl rfl)
theorem dX6_few_96 : decode cX6_few 96 = .ok (.i2l, 1) := dk_133 (dk_at dksX6_few_4 0 rfl rfl)
theorem dX6_few_97 : decode cX6_few 97 = .ok (.lmul, 1) := dk_105 (dk_at dksX6_few_4 1 rfl rfl)
theorem dX6_few_98 : decode cX6_few 98 = .ok (.ldc2_w 441, 3) := dk_20 1 185 (dk_at dksX6_few_4 2 rfl rfl)
theorem dX6_few_101 : decode cX6_few 101 = .ok (.ldiv, 1) := dk_109 (dk_at dksX6_few_4 5 rfl rfl)
theorem dX6_few_102 : decode cX6_few 102 = .ok (.ladd, 1) := dk_97 (dk_at dksX6_few_4 6 rfl rfl)
theorem dX6_few_103 : decode cX6_few 103 = .ok (.lastore, 1) := dk_80 (dk_at dksX6_few_4 7 rfl rfl)
theorem dX6_few_104 : decode cX6_few 104 = .ok (.aload_n 0, 1) := dk_42 (dk_at dksX6_few_4 8 rfl rfl)
theorem dX6_few_105 : decode cX6_few 105 = .ok (.getfield 91, 3) := dk_180 0 91 (dk_at dksX6_few_4 9 rfl rfl)
theorem dX6_few_108 : decode cX6_few 108 = .ok (.iload 4, 2) := dk_21 4 (dk_at dksX6_few_4 12 rfl rfl)
theorem dX6_few_110 : decode cX6_few 110 = .ok (.aload_n 0, 1) := dk_42 (dk_at dksX6_few_4 14 rfl rfl)
theorem dX6_few_111 : decode cX6_few 111 = .ok (.getfield 91, 3) := dk_180 0 91 (dk_at dksX6_few_4 15 rfl rfl)
theorem dX6_few_114 : decode cX6_few 114 = .ok (.iload 4, 2) := dk_21 4 (dk_at dksX6_few_4 18 rfl rfl)
theorem dX6_few_116 : decode cX6_few 116 = .ok (.laload, 1) := dk_47 (dk_at dksX6_few_4 20 rfl rfl)
theorem dX6_few_117 : decode cX6_few 117 = .ok (.bipush 10, 2) := dk_16 10 (dk_at dksX6_few_4 21 rfl rfl)
theorem dX6_few_119 : decode cX6_few 119 = .ok (.aload_n 0, 1) := dk_42 (dk_at dksX6_few_4 23 rfl rfl)
theorem dX6_few_120 : decode cX6_few 120 = .ok (.getfield 28, 3) := dk_180 0 28 (dk_at dksX6_few_5 0 rfl rfl)
theorem dX6_few_123 : decode cX6_few 123 = .ok (.bipush 37, 2) := dk_16 37 (dk_at dksX6_few_5 3 rfl rfl)
theorem dX6_few_125 : decode cX6_few 125 = .ok (.iaload, 1) := dk_46 (dk_at dksX6_few_5 5 rfl rfl)
theorem dX6_few_126 : decode cX6_few 126 = .ok (.isub, 1) := dk_100 (dk_at dksX6_few_5 6 rfl rfl)
theorem dX6_few_127 : decode cX6_few 127 = .ok (.i2l, 1) := dk_133 (dk_at dksX6_few_5 7 rfl rfl)
theorem dX6_few_128 : decode cX6_few 128 = .ok (.lmul, 1) := dk_105 (dk_at dksX6_few_5 8 rfl rfl)
theorem dX6_few_129 : decode cX6_few 129 = .ok (.ldc2_w 441, 3) := dk_20 1 185 (dk_at dksX6_few_5 9 rfl rfl)
theorem dX6_few_132 : decode cX6_few 132 = .ok (.ldiv, 1) := dk_109 (dk_at dksX6_few_5 12 rfl rfl)
theorem dX6_few_133 : decode cX6_few 133 = .ok (.lastore, 1) := dk_80 (dk_at dksX6_few_5 13 rfl rfl)
theorem dX6_few_134 : decode cX6_few 134 = .ok (.iinc 4 (-1), 3) := dk_132 4 255 (dk_at dksX6_few_5 14 rfl rfl)
theorem dX6_few_137 : decode cX6_few 137 = .ok (.goto (-70), 3) := dk_167 255 186 (dk_at dksX6_few_5 17 rfl rfl)
theorem dX6_few_140 : decode cX6_few 140 = .ok (.iinc 3 1, 3) := dk_132 3 1 (dk_at dksX6_few_5 20 rfl rfl)
theorem dX6_few_143 : decode cX6_few 143 = .ok (.goto (-86), 3) := dk_167 255 170 (dk_at dksX6_few_6 0 rfl rfl)
theorem dX6_few_146 : decode cX6_few 146 = .ok (.lconst 0, 1) := dk_9 (dk_at dksX6_few_6 3 rfl rfl)
theorem dX6_few_147 : decode cX6_few 147 = .ok (.lstore_n 3, 1) := dk_66 (dk_at dksX6_few_6 4 rfl rfl)
theorem dX6_few_148 : decode cX6_few 148 = .ok (.iconst 0, 1) := dk_3 (dk_at dksX6_few_6 5 rfl rfl)
theorem dX6_few_149 : decode cX6_few 149 = .ok (.istore 5, 2) := dk_54 5 (dk_at dksX6_few_6 6 rfl rfl)
theorem dX6_few_151 : decode cX6_few 151 = .ok (.iload 5, 2) := dk_21 5 (dk_at dksX6_few_6 8 rfl rfl)
theorem dX6_few_153 : decode cX6_few 153 = .ok (.iload_n 1, 1) := dk_27 (dk_at dksX6_few_6 10 rfl rfl)
theorem dX6_few_154 : decode cX6_few 154 = .ok (.if_icmp .ge 19, 3) := dk_162 0 19 (dk_at dksX6_few_6 11 rfl rfl)
theorem dX6_few_157 : decode cX6_few 157 = .ok (.lload_n 3, 1) := dk_33 (dk_at dksX6_few_6 14 rfl rfl)
theorem dX6_few_158 : decode cX6_few 158 = .ok (.aload_n 0, 1) := dk_42 (dk_at dksX6_few_6 15 rfl rfl)
theorem dX6_few_159 : decode cX6_few 159 = .ok (.getfield 91, 3) := dk_180 0 91 (dk_at dksX6_few_6 16 rfl rfl)
theorem dX6_few_162 : decode cX6_few 162 = .ok (.iload 5, 2) := dk_21 5 (dk_at dksX6_few_6 19 rfl rfl)
theorem dX6_few_164 : decode cX6_few 164 = .ok (.laload, 1) := dk_47 (dk_at dksX6_few_6 21 rfl rfl)
theorem dX6_few_165 : decode cX6_few 165 = .ok (.ladd, 1) := dk_97 (dk_at dksX6_few_6 22 rfl rfl)
theorem dX6_few_166 : decode cX6_few 166 = .ok (.lstore_n 3, 1) := dk_66 (dk_at dksX6_few_6 23 rfl rfl)
theorem dX6_few_167 : decode cX6_few 167 = .ok (.iinc 5 1, 3) := dk_132 5 1 (dk_at dksX6_few_7 0 rfl rfl)
theorem dX6_few_170 : decode cX6_few 170 = .ok (.goto (-19), 3) := dk_167 255 237 (dk_at dksX6_few_7 3 rfl rfl)
theorem dX6_few_173 : decode cX6_few 173 = .ok (.lload_n 3, 1) := dk_33 (dk_at dksX6_few_7 6 rfl rfl)
theorem dX6_few_174 : decode cX6_few 174 = .ok (.lreturn, 1) := dk_173 (dk_at dksX6_few_7 7 rfl rfl)
abbrev cX6_stopped : ByteArray := prog_24_method_123_code
def yX6_stopped : MethodName := ⟨RX6, "stopped", "()I"⟩
theorem dX6_stopped_0 : decode cX6_stopped 0 = .ok (.aload_n 0, 1) := by decide +kernel
theorem dX6_stopped_1 : decode cX6_stopped 1 = .ok (.getfield 94, 3) := by decide +kernel
theorem dX6_stopped_4 : decode cX6_stopped 4 = .ok (.ireturn, 1) := by decide +kernel
abbrev cX6_orders : ByteArray := prog_24_method_124_code
def yX6_orders : MethodName := ⟨RX6, "orders", "()I"⟩
def dkwX6_orders_7 : List UInt8 := [182, 0, 106, 172, 132, 3, 1, 167, 255, 181, 42, 42, 180, 1, 41, 182, 0, 14, 172]
abbrev dktX6_orders_7 : List UInt8 := dkwX6_orders_7 ++ []
def dkwX6_orders_6 : List UInt8 := [21, 4, 46, 79, 132, 4, 1, 167, 255, 231, 42, 27, 181, 0, 11, 42, 29, 181, 0, 94, 42, 16, 253]
abbrev dktX6_orders_6 : List UInt8 := dkwX6_orders_6 ++ dktX6_orders_7
def dkwX6_orders_5 : List UInt8 := [182, 1, 196, 3, 54, 4, 21, 4, 17, 1, 160, 162, 0, 23, 42, 180, 0, 66, 21, 4, 42, 180, 0, 69]
abbrev dktX6_orders_5 : List UInt8 := dkwX6_orders_5 ++ dktX6_orders_6
def dkwX6_orders_4 : List UInt8 := [62, 42, 180, 1, 190, 28, 162, 0, 73, 42, 28, 182, 1, 193, 153, 0, 6, 167, 0, 56, 42, 4]
abbrev dktX6_orders_4 : List UInt8 := dkwX6_orders_4 ++ dktX6_orders_5
def dkwX6_orders_3 : List UInt8 := [181, 1, 44, 42, 17, 9, 96, 181, 1, 190, 42, 180, 1, 190, 42, 180, 0, 28, 16, 51, 46, 96, 61, 3]
abbrev dktX6_orders_3 : List UInt8 := dkwX6_orders_3 ++ dktX6_orders_4
def dkwX6_orders_2 : List UInt8 := [132, 1, 1, 167, 255, 234, 42, 180, 0, 11, 60, 42, 16, 6, 182, 0, 252, 42, 3, 181, 1, 41, 42, 2]
abbrev dktX6_orders_2 : List UInt8 := dkwX6_orders_2 ++ dktX6_orders_3
def dkwX6_orders_1 : List UInt8 := [182, 1, 187, 3, 60, 27, 17, 1, 160, 162, 0, 21, 42, 180, 0, 69, 27, 42, 180, 0, 66, 27, 46, 79]
abbrev dktX6_orders_1 : List UInt8 := dkwX6_orders_1 ++ dktX6_orders_2
def dkwX6_orders_0 : List UInt8 := [42, 2, 181, 0, 94, 42, 4, 182, 0, 248, 154, 0, 10, 42, 16, 250, 182, 0, 106, 172, 42, 4]
abbrev dktX6_orders_0 : List UInt8 := dkwX6_orders_0 ++ dktX6_orders_1
theorem dksX6_orders_0 : cX6_orders.data.toList.drop 0 = dktX6_orders_0 := by decide +kernel
theorem dksX6_orders_1 : cX6_orders.data.toList.drop 22 = dktX6_orders_1 := dk_seg dksX6_orders_0 22 rfl rfl
theorem dksX6_orders_2 : cX6_orders.data.toList.drop 46 = dktX6_orders_2 := dk_seg dksX6_orders_1 24 rfl rfl
theorem dksX6_orders_3 : cX6_orders.data.toList.drop 70 = dktX6_orders_3 := dk_seg dksX6_orders_2 24 rfl rfl
theorem dksX6_orders_4 : cX6_orders.data.toList.drop 94 = dktX6_orders_4 := dk_seg dksX6_orders_3 24 rfl rfl
theorem dksX6_orders_5 : cX6_orders.data.toList.drop 116 = dktX6_orders_5 := dk_seg dksX6_orders_4 22 rfl rfl
theorem dksX6_orders_6 : cX6_orders.data.toList.drop 140 = dktX6_orders_6 := dk_seg dksX6_orders_5 24 rfl rfl
theorem dksX6_orders_7 : cX6_orders.data.toList.drop 163 = dktX6_orders_7 := dk_seg dksX6_orders_6 23 rfl rfl
theorem dX6_orders_0 : decode cX6_orders 0 = .ok (.aload_n 0, 1) := dk_42 (dk_at dksX6_orders_0 0 rfl rfl)
theorem dX6_orders_1 : decode cX6_orders 1 = .ok (.iconst (-1), 1) := dk_2 (dk_at dksX6_orders_0 1 rfl rfl)
theorem dX6_orders_2 : decode cX6_orders 2 = .ok (.putfield 94, 3) := dk_181 0 94 (dk_at dksX6_orders_0 2 rfl rfl)
theorem dX6_orders_5 : decode cX6_orders 5 = .ok (.aload_n 0, 1) := dk_42 (dk_at dksX6_orders_0 5 rfl rfl)
theorem dX6_orders_6 : decode cX6_orders 6 = .ok (.iconst 1, 1) := dk_4 (dk_at dksX6_orders_0 6 rfl rfl)
theorem dX6_orders_7 : decode cX6_orders 7 = .ok (.invokevirtual 248, 3) := dk_182 0 248 (dk_at dksX6_orders_0 7 rfl rfl)
theorem dX6_orders_10 : decode cX6_orders 10 = .ok (.ifCond .ne 10, 3) := dk_154 0 10 (dk_at dksX6_orders_0 10 rfl rfl)
theorem dX6_orders_13 : decode cX6_orders 13 = .ok (.aload_n 0, 1) := dk_42 (dk_at dksX6_orders_0 13 rfl rfl)
theorem dX6_orders_14 : decode cX6_orders 14 = .ok (.bipush (-6), 2) := dk_16 250 (dk_at dksX6_orders_0 14 rfl rfl)
theorem dX6_orders_16 : decode cX6_orders 16 = .ok (.invokevirtual 106, 3) := dk_182 0 106 (dk_at dksX6_orders_0 16 rfl rfl)
theorem dX6_orders_19 : decode cX6_orders 19 = .ok (.ireturn, 1) := dk_172 (dk_at dksX6_orders_0 19 rfl rfl)
theorem dX6_orders_20 : decode cX6_orders 20 = .ok (.aload_n 0, 1) := dk_42 (dk_at dksX6_orders_0 20 rfl rfl)
theorem dX6_orders_21 : decode cX6_orders 21 = .ok (.iconst 1, 1) := dk_4 (dk_at dksX6_orders_0 21 rfl rfl)
theorem dX6_orders_22 : decode cX6_orders 22 = .ok (.invokevirtual 443, 3) := dk_182 1 187 (dk_at dksX6_orders_1 0 rfl rfl)
theorem dX6_orders_25 : decode cX6_orders 25 = .ok (.iconst 0, 1) := dk_3 (dk_at dksX6_orders_1 3 rfl rfl)
theorem dX6_orders_26 : decode cX6_orders 26 = .ok (.istore_n 1, 1) := dk_60 (dk_at dksX6_orders_1 4 rfl rfl)
theorem dX6_orders_27 : decode cX6_orders 27 = .ok (.iload_n 1, 1) := dk_27 (dk_at dksX6_orders_1 5 rfl rfl)
theorem dX6_orders_28 : decode cX6_orders 28 = .ok (.sipush 416, 3) := dk_17 1 160 (dk_at dksX6_orders_1 6 rfl rfl)
theorem dX6_orders_31 : decode cX6_orders 31 = .ok (.if_icmp .ge 21, 3) := dk_162 0 21 (dk_at dksX6_orders_1 9 rfl rfl)
theorem dX6_orders_34 : decode cX6_orders 34 = .ok (.aload_n 0, 1) := dk_42 (dk_at dksX6_orders_1 12 rfl rfl)
theorem dX6_orders_35 : decode cX6_orders 35 = .ok (.getfield 69, 3) := dk_180 0 69 (dk_at dksX6_orders_1 13 rfl rfl)
theorem dX6_orders_38 : decode cX6_orders 38 = .ok (.iload_n 1, 1) := dk_27 (dk_at dksX6_orders_1 16 rfl rfl)
theorem dX6_orders_39 : decode cX6_orders 39 = .ok (.aload_n 0, 1) := dk_42 (dk_at dksX6_orders_1 17 rfl rfl)
theorem dX6_orders_40 : decode cX6_orders 40 = .ok (.getfield 66, 3) := dk_180 0 66 (dk_at dksX6_orders_1 18 rfl rfl)
theorem dX6_orders_43 : decode cX6_orders 43 = .ok (.iload_n 1, 1) := dk_27 (dk_at dksX6_orders_1 21 rfl rfl)
theorem dX6_orders_44 : decode cX6_orders 44 = .ok (.iaload, 1) := dk_46 (dk_at dksX6_orders_1 22 rfl rfl)
theorem dX6_orders_45 : decode cX6_orders 45 = .ok (.iastore, 1) := dk_79 (dk_at dksX6_orders_1 23 rfl rfl)
theorem dX6_orders_46 : decode cX6_orders 46 = .ok (.iinc 1 1, 3) := dk_132 1 1 (dk_at dksX6_orders_2 0 rfl rfl)
theorem dX6_orders_49 : decode cX6_orders 49 = .ok (.goto (-22), 3) := dk_167 255 234 (dk_at dksX6_orders_2 3 rfl rfl)
theorem dX6_orders_52 : decode cX6_orders 52 = .ok (.aload_n 0, 1) := dk_42 (dk_at dksX6_orders_2 6 rfl rfl)
theorem dX6_orders_53 : decode cX6_orders 53 = .ok (.getfield 11, 3) := dk_180 0 11 (dk_at dksX6_orders_2 7 rfl rfl)
theorem dX6_orders_56 : decode cX6_orders 56 = .ok (.istore_n 1, 1) := dk_60 (dk_at dksX6_orders_2 10 rfl rfl)
theorem dX6_orders_57 : decode cX6_orders 57 = .ok (.aload_n 0, 1) := dk_42 (dk_at dksX6_orders_2 11 rfl rfl)
theorem dX6_orders_58 : decode cX6_orders 58 = .ok (.bipush 6, 2) := dk_16 6 (dk_at dksX6_orders_2 12 rfl rfl)
theorem dX6_orders_60 : decode cX6_orders 60 = .ok (.invokevirtual 252, 3) := dk_182 0 252 (dk_at dksX6_orders_2 14 rfl rfl)
theorem dX6_orders_63 : decode cX6_orders 63 = .ok (.aload_n 0, 1) := dk_42 (dk_at dksX6_orders_2 17 rfl rfl)
theorem dX6_orders_64 : decode cX6_orders 64 = .ok (.iconst 0, 1) := dk_3 (dk_at dksX6_orders_2 18 rfl rfl)
theorem dX6_orders_65 : decode cX6_orders 65 = .ok (.putfield 297, 3) := dk_181 1 41 (dk_at dksX6_orders_2 19 rfl rfl)
theorem dX6_orders_68 : decode cX6_orders 68 = .ok (.aload_n 0, 1) := dk_42 (dk_at dksX6_orders_2 22 rfl rfl)
theorem dX6_orders_69 : decode cX6_orders 69 = .ok (.iconst (-1), 1) := dk_2 (dk_at dksX6_orders_2 23 rfl rfl)
theorem dX6_orders_70 : decode cX6_orders 70 = .ok (.putfield 300, 3) := dk_181 1 44 (dk_at dksX6_orders_3 0 rfl rfl)
theorem dX6_orders_73 : decode cX6_orders 73 = .ok (.aload_n 0, 1) := dk_42 (dk_at dksX6_orders_3 3 rfl rfl)
theorem dX6_orders_74 : decode cX6_orders 74 = .ok (.sipush 2400, 3) := dk_17 9 96 (dk_at dksX6_orders_3 4 rfl rfl)
theorem dX6_orders_77 : decode cX6_orders 77 = .ok (.putfield 446, 3) := dk_181 1 190 (dk_at dksX6_orders_3 7 rfl rfl)
theorem dX6_orders_80 : decode cX6_orders 80 = .ok (.aload_n 0, 1) := dk_42 (dk_at dksX6_orders_3 10 rfl rfl)
theorem dX6_orders_81 : decode cX6_orders 81 = .ok (.getfield 446, 3) := dk_180 1 190 (dk_at dksX6_orders_3 11 rfl rfl)
theorem dX6_orders_84 : decode cX6_orders 84 = .ok (.aload_n 0, 1) := dk_42 (dk_at dksX6_orders_3 14 rfl rfl)
theorem dX6_orders_85 : decode cX6_orders 85 = .ok (.getfield 28, 3) := dk_180 0 28 (dk_at dksX6_orders_3 15 rfl rfl)
theorem dX6_orders_88 : decode cX6_orders 88 = .ok (.bipush 51, 2) := dk_16 51 (dk_at dksX6_orders_3 18 rfl rfl)
theorem dX6_orders_90 : decode cX6_orders 90 = .ok (.iaload, 1) := dk_46 (dk_at dksX6_orders_3 20 rfl rfl)
theorem dX6_orders_91 : decode cX6_orders 91 = .ok (.iadd, 1) := dk_96 (dk_at dksX6_orders_3 21 rfl rfl)
theorem dX6_orders_92 : decode cX6_orders 92 = .ok (.istore_n 2, 1) := dk_61 (dk_at dksX6_orders_3 22 rfl rfl)
theorem dX6_orders_93 : decode cX6_orders 93 = .ok (.iconst 0, 1) := dk_3 (dk_at dksX6_orders_3 23 rfl rfl)
theorem dX6_orders_94 : decode cX6_orders 94 = .ok (.istore_n 3, 1) := dk_62 (dk_at dksX6_orders_4 0 rfl rfl)
theorem dX6_orders_95 : decode cX6_orders 95 = .ok (.aload_n 0, 1) := dk_42 (dk_at dksX6_orders_4 1 rfl rfl)
theorem dX6_orders_96 : decode cX6_orders 96 = .ok (.getfield 446, 3) := dk_180 1 190 (dk_at dksX6_orders_4 2 rfl rfl)
theorem dX6_orders_99 : decode cX6_orders 99 = .ok (.iload_n 2, 1) := dk_28 (dk_at dksX6_orders_4 5 rfl rfl)
theorem dX6_orders_100 : decode cX6_orders 100 = .ok (.if_icmp .ge 73, 3) := dk_162 0 73 (dk_at dksX6_orders_4 6 rfl rfl)
theorem dX6_orders_103 : decode cX6_orders 103 = .ok (.aload_n 0, 1) := dk_42 (dk_at dksX6_orders_4 9 rfl rfl)
theorem dX6_orders_104 : decode cX6_orders 104 = .ok (.iload_n 2, 1) := dk_28 (dk_at dksX6_orders_4 10 rfl rfl)
theorem dX6_orders_105 : decode cX6_orders 105 = .ok (.invokevirtual 449, 3) := dk_182 1 193 (dk_at dksX6_orders_4 11 rfl rfl)
theorem dX6_orders_108 : decode cX6_orders 108 = .ok (.ifCond .eq 6, 3) := dk_153 0 6 (dk_at dksX6_orders_4 14 rfl rfl)
theorem dX6_orders_111 : decode cX6_orders 111 = .ok (.goto 56, 3) := dk_167 0 56 (dk_at dksX6_orders_4 17 rfl rfl)
theorem dX6_orders_114 : decode cX6_orders 114 = .ok (.aload_n 0, 1) := dk_42 (dk_at dksX6_orders_4 20 rfl rfl)
theorem dX6_orders_115 : decode cX6_orders 115 = .ok (.iconst 1, 1) := dk_4 (dk_at dksX6_orders_4 21 rfl rfl)
theorem dX6_orders_116 : decode cX6_orders 116 = .ok (.invokevirtual 452, 3) := dk_182 1 196 (dk_at dksX6_orders_5 0 rfl rfl)
theorem dX6_orders_119 : decode cX6_orders 119 = .ok (.iconst 0, 1) := dk_3 (dk_at dksX6_orders_5 3 rfl rfl)
theorem dX6_orders_120 : decode cX6_orders 120 = .ok (.istore 4, 2) := dk_54 4 (dk_at dksX6_orders_5 4 rfl rfl)
theorem dX6_orders_122 : decode cX6_orders 122 = .ok (.iload 4, 2) := dk_21 4 (dk_at dksX6_orders_5 6 rfl rfl)
theorem dX6_orders_124 : decode cX6_orders 124 = .ok (.sipush 416, 3) := dk_17 1 160 (dk_at dksX6_orders_5 8 rfl rfl)
theorem dX6_orders_127 : decode cX6_orders 127 = .ok (.if_icmp .ge 23, 3) := dk_162 0 23 (dk_at dksX6_orders_5 11 rfl rfl)
theorem dX6_orders_130 : decode cX6_orders 130 = .ok (.aload_n 0, 1) := dk_42 (dk_at dksX6_orders_5 14 rfl rfl)
theorem dX6_orders_131 : decode cX6_orders 131 = .ok (.getfield 66, 3) := dk_180 0 66 (dk_at dksX6_orders_5 15 rfl rfl)
theorem dX6_orders_134 : decode cX6_orders 134 = .ok (.iload 4, 2) := dk_21 4 (dk_at dksX6_orders_5 18 rfl rfl)
theorem dX6_orders_136 : decode cX6_orders 136 = .ok (.aload_n 0, 1) := dk_42 (dk_at dksX6_orders_5 20 rfl rfl)
theorem dX6_orders_137 : decode cX6_orders 137 = .ok (.getfield 69, 3) := dk_180 0 69 (dk_at dksX6_orders_5 21 rfl rfl)
theorem dX6_orders_140 : decode cX6_orders 140 = .ok (.iload 4, 2) := dk_21 4 (dk_at dksX6_orders_6 0 rfl rfl)
theorem dX6_orders_142 : decode cX6_orders 142 = .ok (.iaload, 1) := dk_46 (dk_at dksX6_orders_6 2 rfl rfl)
theorem dX6_orders_143 : decode cX6_orders 143 = .ok (.iastore, 1) := dk_79 (dk_at dksX6_orders_6 3 rfl rfl)
theorem dX6_orders_144 : decode cX6_orders 144 = .ok (.iinc 4 1, 3) := dk_132 4 1 (dk_at dksX6_orders_6 4 rfl rfl)
theorem dX6_orders_147 : decode cX6_orders 147 = .ok (.goto (-25), 3) := dk_167 255 231 (dk_at dksX6_orders_6 7 rfl rfl)
theorem dX6_orders_150 : decode cX6_orders 150 = .ok (.aload_n 0, 1) := dk_42 (dk_at dksX6_orders_6 10 rfl rfl)
theorem dX6_orders_151 : decode cX6_orders 151 = .ok (.iload_n 1, 1) := dk_27 (dk_at dksX6_orders_6 11 rfl rfl)
theorem dX6_orders_152 : decode cX6_orders 152 = .ok (.putfield 11, 3) := dk_181 0 11 (dk_at dksX6_orders_6 12 rfl rfl)
theorem dX6_orders_155 : decode cX6_orders 155 = .ok (.aload_n 0, 1) := dk_42 (dk_at dksX6_orders_6 15 rfl rfl)
theorem dX6_orders_156 : decode cX6_orders 156 = .ok (.iload_n 3, 1) := dk_29 (dk_at dksX6_orders_6 16 rfl rfl)
theorem dX6_orders_157 : decode cX6_orders 157 = .ok (.putfield 94, 3) := dk_181 0 94 (dk_at dksX6_orders_6 17 rfl rfl)
theorem dX6_orders_160 : decode cX6_orders 160 = .ok (.aload_n 0, 1) := dk_42 (dk_at dksX6_orders_6 20 rfl rfl)
theorem dX6_orders_161 : decode cX6_orders 161 = .ok (.bipush (-3), 2) := dk_16 253 (dk_at dksX6_orders_6 21 rfl rfl)
theorem dX6_orders_163 : decode cX6_orders 163 = .ok (.invokevirtual 106, 3) := dk_182 0 106 (dk_at dksX6_orders_7 0 rfl rfl)
theorem dX6_orders_166 : decode cX6_orders 166 = .ok (.ireturn, 1) := dk_172 (dk_at dksX6_orders_7 3 rfl rfl)
theorem dX6_orders_167 : decode cX6_orders 167 = .ok (.iinc 3 1, 3) := dk_132 3 1 (dk_at dksX6_orders_7 4 rfl rfl)
theorem dX6_orders_170 : decode cX6_orders 170 = .ok (.goto (-75), 3) := dk_167 255 181 (dk_at dksX6_orders_7 7 rfl rfl)
theorem dX6_orders_173 : decode cX6_orders 173 = .ok (.aload_n 0, 1) := dk_42 (dk_at dksX6_orders_7 10 rfl rfl)
theorem dX6_orders_174 : decode cX6_orders 174 = .ok (.aload_n 0, 1) := dk_42 (dk_at dksX6_orders_7 11 rfl rfl)
theorem dX6_orders_175 : decode cX6_orders 175 = .ok (.getfield 297, 3) := dk_180 1 41 (dk_at dksX6_orders_7 12 rfl rfl)
theorem dX6_orders_178 : decode cX6_orders 178 = .ok (.invokevirtual 14, 3) := dk_182 0 14 (dk_at dksX6_orders_7 15 rfl rfl)
theorem dX6_orders_181 : decode cX6_orders 181 = .ok (.ireturn, 1) := dk_172 (dk_at dksX6_orders_7 18 rfl rfl)
abbrev cX6_laysAside : ByteArray := prog_24_method_12_code
def yX6_laysAside : MethodName := ⟨RX6, "laysAside", "(I)V"⟩
def dkwX6_laysAside_1 : List UInt8 := [79, 132, 2, 1, 167, 255, 230, 177]
abbrev dktX6_laysAside_1 : List UInt8 := dkwX6_laysAside_1 ++ []
def dkwX6_laysAside_0 : List UInt8 := [3, 61, 28, 16, 25, 162, 0, 26, 42, 180, 0, 38, 16, 25, 27, 104, 28, 96, 42, 180, 0, 28, 28, 46]
abbrev dktX6_laysAside_0 : List UInt8 := dkwX6_laysAside_0 ++ dktX6_laysAside_1
theorem dksX6_laysAside_0 : cX6_laysAside.data.toList.drop 0 = dktX6_laysAside_0 := by decide +kernel
theorem dksX6_laysAside_1 : cX6_laysAside.data.toList.drop 24 = dktX6_laysAside_1 := dk_seg dksX6_laysAside_0 24 rfl rfl
theorem dX6_laysAside_0 : decode cX6_laysAside 0 = .ok (.iconst 0, 1) := dk_3 (dk_at dksX6_laysAside_0 0 rfl rfl)
theorem dX6_laysAside_1 : decode cX6_laysAside 1 = .ok (.istore_n 2, 1) := dk_61 (dk_at dksX6_laysAside_0 1 rfl rfl)
theorem dX6_laysAside_2 : decode cX6_laysAside 2 = .ok (.iload_n 2, 1) := dk_28 (dk_at dksX6_laysAside_0 2 rfl rfl)
theorem dX6_laysAside_3 : decode cX6_laysAside 3 = .ok (.bipush 25, 2) := dk_16 25 (dk_at dksX6_laysAside_0 3 rfl rfl)
theorem dX6_laysAside_5 : decode cX6_laysAside 5 = .ok (.if_icmp .ge 26, 3) := dk_162 0 26 (dk_at dksX6_laysAside_0 5 rfl rfl)
theorem dX6_laysAside_8 : decode cX6_laysAside 8 = .ok (.aload_n 0, 1) := dk_42 (dk_at dksX6_laysAside_0 8 rfl rfl)
theorem dX6_laysAside_9 : decode cX6_laysAside 9 = .ok (.getfield 38, 3) := dk_180 0 38 (dk_at dksX6_laysAside_0 9 rfl rfl)
theorem dX6_laysAside_12 : decode cX6_laysAside 12 = .ok (.bipush 25, 2) := dk_16 25 (dk_at dksX6_laysAside_0 12 rfl rfl)
theorem dX6_laysAside_14 : decode cX6_laysAside 14 = .ok (.iload_n 1, 1) := dk_27 (dk_at dksX6_laysAside_0 14 rfl rfl)
theorem dX6_laysAside_15 : decode cX6_laysAside 15 = .ok (.imul, 1) := dk_104 (dk_at dksX6_laysAside_0 15 rfl rfl)
theorem dX6_laysAside_16 : decode cX6_laysAside 16 = .ok (.iload_n 2, 1) := dk_28 (dk_at dksX6_laysAside_0 16 rfl rfl)
theorem dX6_laysAside_17 : decode cX6_laysAside 17 = .ok (.iadd, 1) := dk_96 (dk_at dksX6_laysAside_0 17 rfl rfl)
theorem dX6_laysAside_18 : decode cX6_laysAside 18 = .ok (.aload_n 0, 1) := dk_42 (dk_at dksX6_laysAside_0 18 rfl rfl)
theorem dX6_laysAside_19 : decode cX6_laysAside 19 = .ok (.getfield 28, 3) := dk_180 0 28 (dk_at dksX6_laysAside_0 19 rfl rfl)
theorem dX6_laysAside_22 : decode cX6_laysAside 22 = .ok (.iload_n 2, 1) := dk_28 (dk_at dksX6_laysAside_0 22 rfl rfl)
theorem dX6_laysAside_23 : decode cX6_laysAside 23 = .ok (.iaload, 1) := dk_46 (dk_at dksX6_laysAside_0 23 rfl rfl)
theorem dX6_laysAside_24 : decode cX6_laysAside 24 = .ok (.iastore, 1) := dk_79 (dk_at dksX6_laysAside_1 0 rfl rfl)
theorem dX6_laysAside_25 : decode cX6_laysAside 25 = .ok (.iinc 2 1, 3) := dk_132 2 1 (dk_at dksX6_laysAside_1 1 rfl rfl)
theorem dX6_laysAside_28 : decode cX6_laysAside 28 = .ok (.goto (-26), 3) := dk_167 255 230 (dk_at dksX6_laysAside_1 4 rfl rfl)
theorem dX6_laysAside_31 : decode cX6_laysAside 31 = .ok (.return_, 1) := dk_177 (dk_at dksX6_laysAside_1 7 rfl rfl)
abbrev cX6_runs : ByteArray := prog_24_method_128_code
def yX6_runs : MethodName := ⟨RX6, "runs", "(I)Z"⟩
def dkwX6_runs_3 : List UInt8 := [132, 4, 1, 167, 255, 205, 42, 29, 181, 1, 190, 4, 172]
abbrev dktX6_runs_3 : List UInt8 := dkwX6_runs_3 ++ []
def dkwX6_runs_2 : List UInt8 := [153, 0, 10, 42, 182, 1, 221, 156, 0, 5, 3, 172, 42, 89, 180, 1, 41, 4, 96, 181, 1, 41]
abbrev dktX6_runs_2 : List UInt8 := dkwX6_runs_2 ++ dktX6_runs_3
def dkwX6_runs_1 : List UInt8 := [162, 0, 51, 42, 27, 4, 182, 1, 217, 42, 180, 1, 208, 154, 0, 6, 167, 0, 29, 42, 180, 1, 202]
abbrev dktX6_runs_1 : List UInt8 := dkwX6_runs_1 ++ dktX6_runs_2
def dkwX6_runs_0 : List UInt8 := [42, 27, 3, 182, 1, 217, 42, 180, 1, 205, 61, 42, 180, 1, 5, 62, 3, 54, 4, 21, 4, 28]
abbrev dktX6_runs_0 : List UInt8 := dkwX6_runs_0 ++ dktX6_runs_1
theorem dksX6_runs_0 : cX6_runs.data.toList.drop 0 = dktX6_runs_0 := by decide +kernel
theorem dksX6_runs_1 : cX6_runs.data.toList.drop 22 = dktX6_runs_1 := dk_seg dksX6_runs_0 22 rfl rfl
theorem dksX6_runs_2 : cX6_runs.data.toList.drop 45 = dktX6_runs_2 := dk_seg dksX6_runs_1 23 rfl rfl
theorem dksX6_runs_3 : cX6_runs.data.toList.drop 67 = dktX6_runs_3 := dk_seg dksX6_runs_2 22 rfl rfl
theorem dX6_runs_0 : decode cX6_runs 0 = .ok (.aload_n 0, 1) := dk_42 (dk_at dksX6_runs_0 0 rfl rfl)
theorem dX6_runs_1 : decode cX6_runs 1 = .ok (.iload_n 1, 1) := dk_27 (dk_at dksX6_runs_0 1 rfl rfl)
theorem dX6_runs_2 : decode cX6_runs 2 = .ok (.iconst 0, 1) := dk_3 (dk_at dksX6_runs_0 2 rfl rfl)
theorem dX6_runs_3 : decode cX6_runs 3 = .ok (.invokevirtual 473, 3) := dk_182 1 217 (dk_at dksX6_runs_0 3 rfl rfl)
theorem dX6_runs_6 : decode cX6_runs 6 = .ok (.aload_n 0, 1) := dk_42 (dk_at dksX6_runs_0 6 rfl rfl)
theorem dX6_runs_7 : decode cX6_runs 7 = .ok (.getfield 461, 3) := dk_180 1 205 (dk_at dksX6_runs_0 7 rfl rfl)
theorem dX6_runs_10 : decode cX6_runs 10 = .ok (.istore_n 2, 1) := dk_61 (dk_at dksX6_runs_0 10 rfl rfl)
theorem dX6_runs_11 : decode cX6_runs 11 = .ok (.aload_n 0, 1) := dk_42 (dk_at dksX6_runs_0 11 rfl rfl)
theorem dX6_runs_12 : decode cX6_runs 12 = .ok (.getfield 261, 3) := dk_180 1 5 (dk_at dksX6_runs_0 12 rfl rfl)
theorem dX6_runs_15 : decode cX6_runs 15 = .ok (.istore_n 3, 1) := dk_62 (dk_at dksX6_runs_0 15 rfl rfl)
theorem dX6_runs_16 : decode cX6_runs 16 = .ok (.iconst 0, 1) := dk_3 (dk_at dksX6_runs_0 16 rfl rfl)
theorem dX6_runs_17 : decode cX6_runs 17 = .ok (.istore 4, 2) := dk_54 4 (dk_at dksX6_runs_0 17 rfl rfl)
theorem dX6_runs_19 : decode cX6_runs 19 = .ok (.iload 4, 2) := dk_21 4 (dk_at dksX6_runs_0 19 rfl rfl)
theorem dX6_runs_21 : decode cX6_runs 21 = .ok (.iload_n 2, 1) := dk_28 (dk_at dksX6_runs_0 21 rfl rfl)
theorem dX6_runs_22 : decode cX6_runs 22 = .ok (.if_icmp .ge 51, 3) := dk_162 0 51 (dk_at dksX6_runs_1 0 rfl rfl)
theorem dX6_runs_25 : decode cX6_runs 25 = .ok (.aload_n 0, 1) := dk_42 (dk_at dksX6_runs_1 3 rfl rfl)
theorem dX6_runs_26 : decode cX6_runs 26 = .ok (.iload_n 1, 1) := dk_27 (dk_at dksX6_runs_1 4 rfl rfl)
theorem dX6_runs_27 : decode cX6_runs 27 = .ok (.iconst 1, 1) := dk_4 (dk_at dksX6_runs_1 5 rfl rfl)
theorem dX6_runs_28 : decode cX6_runs 28 = .ok (.invokevirtual 473, 3) := dk_182 1 217 (dk_at dksX6_runs_1 6 rfl rfl)
theorem dX6_runs_31 : decode cX6_runs 31 = .ok (.aload_n 0, 1) := dk_42 (dk_at dksX6_runs_1 9 rfl rfl)
theorem dX6_runs_32 : decode cX6_runs 32 = .ok (.getfield 464, 3) := dk_180 1 208 (dk_at dksX6_runs_1 10 rfl rfl)
theorem dX6_runs_35 : decode cX6_runs 35 = .ok (.ifCond .ne 6, 3) := dk_154 0 6 (dk_at dksX6_runs_1 13 rfl rfl)
theorem dX6_runs_38 : decode cX6_runs 38 = .ok (.goto 29, 3) := dk_167 0 29 (dk_at dksX6_runs_1 16 rfl rfl)
theorem dX6_runs_41 : decode cX6_runs 41 = .ok (.aload_n 0, 1) := dk_42 (dk_at dksX6_runs_1 19 rfl rfl)
theorem dX6_runs_42 : decode cX6_runs 42 = .ok (.getfield 458, 3) := dk_180 1 202 (dk_at dksX6_runs_1 20 rfl rfl)
theorem dX6_runs_45 : decode cX6_runs 45 = .ok (.ifCond .eq 10, 3) := dk_153 0 10 (dk_at dksX6_runs_2 0 rfl rfl)
theorem dX6_runs_48 : decode cX6_runs 48 = .ok (.aload_n 0, 1) := dk_42 (dk_at dksX6_runs_2 3 rfl rfl)
theorem dX6_runs_49 : decode cX6_runs 49 = .ok (.invokevirtual 477, 3) := dk_182 1 221 (dk_at dksX6_runs_2 4 rfl rfl)
theorem dX6_runs_52 : decode cX6_runs 52 = .ok (.ifCond .ge 5, 3) := dk_156 0 5 (dk_at dksX6_runs_2 7 rfl rfl)
theorem dX6_runs_55 : decode cX6_runs 55 = .ok (.iconst 0, 1) := dk_3 (dk_at dksX6_runs_2 10 rfl rfl)
theorem dX6_runs_56 : decode cX6_runs 56 = .ok (.ireturn, 1) := dk_172 (dk_at dksX6_runs_2 11 rfl rfl)
theorem dX6_runs_57 : decode cX6_runs 57 = .ok (.aload_n 0, 1) := dk_42 (dk_at dksX6_runs_2 12 rfl rfl)
theorem dX6_runs_58 : decode cX6_runs 58 = .ok (.dup, 1) := dk_89 (dk_at dksX6_runs_2 13 rfl rfl)
theorem dX6_runs_59 : decode cX6_runs 59 = .ok (.getfield 297, 3) := dk_180 1 41 (dk_at dksX6_runs_2 14 rfl rfl)
theorem dX6_runs_62 : decode cX6_runs 62 = .ok (.iconst 1, 1) := dk_4 (dk_at dksX6_runs_2 17 rfl rfl)
theorem dX6_runs_63 : decode cX6_runs 63 = .ok (.iadd, 1) := dk_96 (dk_at dksX6_runs_2 18 rfl rfl)
theorem dX6_runs_64 : decode cX6_runs 64 = .ok (.putfield 297, 3) := dk_181 1 41 (dk_at dksX6_runs_2 19 rfl rfl)
theorem dX6_runs_67 : decode cX6_runs 67 = .ok (.iinc 4 1, 3) := dk_132 4 1 (dk_at dksX6_runs_3 0 rfl rfl)
theorem dX6_runs_70 : decode cX6_runs 70 = .ok (.goto (-51), 3) := dk_167 255 205 (dk_at dksX6_runs_3 3 rfl rfl)
theorem dX6_runs_73 : decode cX6_runs 73 = .ok (.aload_n 0, 1) := dk_42 (dk_at dksX6_runs_3 6 rfl rfl)
theorem dX6_runs_74 : decode cX6_runs 74 = .ok (.iload_n 3, 1) := dk_29 (dk_at dksX6_runs_3 7 rfl rfl)
theorem dX6_runs_75 : decode cX6_runs 75 = .ok (.putfield 446, 3) := dk_181 1 190 (dk_at dksX6_runs_3 8 rfl rfl)
theorem dX6_runs_78 : decode cX6_runs 78 = .ok (.iconst 1, 1) := dk_4 (dk_at dksX6_runs_3 11 rfl rfl)
theorem dX6_runs_79 : decode cX6_runs 79 = .ok (.ireturn, 1) := dk_172 (dk_at dksX6_runs_3 12 rfl rfl)
abbrev cX6_goesAlong : ByteArray := prog_24_method_125_code
def yX6_goesAlong : MethodName := ⟨RX6, "goesAlong", "(IZ)V"⟩
def dkwX6_goesAlong_11 : List UInt8 := [154, 0, 7, 4, 167, 0, 4, 3, 181, 1, 208, 42, 89, 180, 1, 5, 4, 96, 181, 1, 5, 177]
abbrev dktX6_goesAlong_11 : List UInt8 := dkwX6_goesAlong_11 ++ []
def dkwX6_goesAlong_10 : List UInt8 := [153, 0, 7, 4, 167, 0, 4, 3, 181, 1, 208, 42, 42, 180, 1, 208, 153, 0, 14, 42, 180, 1, 15]
abbrev dktX6_goesAlong_10 : List UInt8 := dkwX6_goesAlong_10 ++ dktX6_goesAlong_11
def dkwX6_goesAlong_9 : List UInt8 := [181, 1, 5, 42, 3, 181, 1, 15, 42, 42, 7, 182, 1, 29, 153, 0, 11, 42, 28, 182, 1, 62]
abbrev dktX6_goesAlong_9 : List UInt8 := dkwX6_goesAlong_9 ++ dktX6_goesAlong_10
def dkwX6_goesAlong_8 : List UInt8 := [42, 180, 0, 28, 17, 11, 36, 42, 180, 1, 5, 96, 46, 181, 1, 205, 42, 89, 180, 1, 5, 4, 96]
abbrev dktX6_goesAlong_8 : List UInt8 := dkwX6_goesAlong_8 ++ dktX6_goesAlong_9
def dkwX6_goesAlong_7 : List UInt8 := [181, 1, 202, 132, 4, 1, 167, 255, 192, 42, 4, 181, 1, 205, 42, 16, 27, 182, 1, 29, 153, 0, 30, 42]
abbrev dktX6_goesAlong_7 : List UInt8 := dkwX6_goesAlong_7 ++ dktX6_goesAlong_8
def dkwX6_goesAlong_6 : List UInt8 := [182, 1, 32, 80, 42, 42, 180, 1, 202, 153, 0, 14, 42, 180, 1, 15, 154, 0, 7, 4, 167, 0, 4, 3]
abbrev dktX6_goesAlong_6 : List UInt8 := dkwX6_goesAlong_6 ++ dktX6_goesAlong_7
def dkwX6_goesAlong_5 : List UInt8 := [89, 180, 1, 5, 4, 96, 181, 1, 5, 42, 3, 181, 1, 15, 42, 180, 0, 97, 21, 4, 42, 28]
abbrev dktX6_goesAlong_5 : List UInt8 := dkwX6_goesAlong_5 ++ dktX6_goesAlong_6
def dkwX6_goesAlong_4 : List UInt8 := [160, 0, 7, 5, 167, 0, 4, 3, 62, 3, 54, 4, 21, 4, 29, 162, 0, 64, 21, 4, 158, 0, 13, 42]
abbrev dktX6_goesAlong_4 : List UInt8 := dkwX6_goesAlong_4 ++ dktX6_goesAlong_5
def dkwX6_goesAlong_3 : List UInt8 := [96, 181, 1, 5, 42, 4, 181, 1, 202, 42, 180, 1, 199, 16, 22, 159, 0, 12, 42, 180, 1, 199, 16, 23]
abbrev dktX6_goesAlong_3 : List UInt8 := dkwX6_goesAlong_3 ++ dktX6_goesAlong_4
def dkwX6_goesAlong_2 : List UInt8 := [180, 1, 190, 181, 1, 5, 42, 42, 42, 180, 1, 5, 182, 1, 8, 181, 1, 199, 42, 89, 180, 1, 5, 4]
abbrev dktX6_goesAlong_2 : List UInt8 := dkwX6_goesAlong_2 ++ dktX6_goesAlong_3
def dkwX6_goesAlong_1 : List UInt8 := [182, 1, 76, 167, 0, 4, 3, 181, 1, 50, 42, 4, 181, 1, 35, 42, 27, 181, 1, 2, 42, 42]
abbrev dktX6_goesAlong_1 : List UInt8 := dkwX6_goesAlong_1 ++ dktX6_goesAlong_2
def dkwX6_goesAlong_0 : List UInt8 := [42, 28, 153, 0, 11, 42, 5, 182, 1, 76, 167, 0, 4, 3, 181, 1, 47, 42, 28, 153, 0, 11, 42, 3]
abbrev dktX6_goesAlong_0 : List UInt8 := dkwX6_goesAlong_0 ++ dktX6_goesAlong_1
theorem dksX6_goesAlong_0 : cX6_goesAlong.data.toList.drop 0 = dktX6_goesAlong_0 := by decide +kernel
theorem dksX6_goesAlong_1 : cX6_goesAlong.data.toList.drop 24 = dktX6_goesAlong_1 := dk_seg dksX6_goesAlong_0 24 rfl rfl
theorem dksX6_goesAlong_2 : cX6_goesAlong.data.toList.drop 46 = dktX6_goesAlong_2 := dk_seg dksX6_goesAlong_1 22 rfl rfl
theorem dksX6_goesAlong_3 : cX6_goesAlong.data.toList.drop 70 = dktX6_goesAlong_3 := dk_seg dksX6_goesAlong_2 24 rfl rfl
theorem dksX6_goesAlong_4 : cX6_goesAlong.data.toList.drop 94 = dktX6_goesAlong_4 := dk_seg dksX6_goesAlong_3 24 rfl rfl
theorem dksX6_goesAlong_5 : cX6_goesAlong.data.toList.drop 118 = dktX6_goesAlong_5 := dk_seg dksX6_goesAlong_4 24 rfl rfl
theorem dksX6_goesAlong_6 : cX6_goesAlong.data.toList.drop 140 = dktX6_goesAlong_6 := dk_seg dksX6_goesAlong_5 22 rfl rfl
theorem dksX6_goesAlong_7 : cX6_goesAlong.data.toList.drop 164 = dktX6_goesAlong_7 := dk_seg dksX6_goesAlong_6 24 rfl rfl
theorem dksX6_goesAlong_8 : cX6_goesAlong.data.toList.drop 188 = dktX6_goesAlong_8 := dk_seg dksX6_goesAlong_7 24 rfl rfl
theorem dksX6_goesAlong_9 : cX6_goesAlong.data.toList.drop 211 = dktX6_goesAlong_9 := dk_seg dksX6_goesAlong_8 23 rfl rfl
theorem dksX6_goesAlong_10 : cX6_goesAlong.data.toList.drop 233 = dktX6_goesAlong_10 := dk_seg dksX6_goesAlong_9 22 rfl rfl
theorem dksX6_goesAlong_11 : cX6_goesAlong.data.toList.drop 256 = dktX6_goesAlong_11 := dk_seg dksX6_goesAlong_10 23 rfl rfl
theorem dX6_goesAlong_0 : decode cX6_goesAlong 0 = .ok (.aload_n 0, 1) := dk_42 (dk_at dksX6_goesAlong_0 0 rfl rfl)
theorem dX6_goesAlong_1 : decode cX6_goesAlong 1 = .ok (.iload_n 2, 1) := dk_28 (dk_at dksX6_goesAlong_0 1 rfl rfl)
theorem dX6_goesAlong_2 : decode cX6_goesAlong 2 = .ok (.ifCond .eq 11, 3) := dk_153 0 11 (dk_at dksX6_goesAlong_0 2 rfl rfl)
theorem dX6_goesAlong_5 : decode cX6_goesAlong 5 = .ok (.aload_n 0, 1) := dk_42 (dk_at dksX6_goesAlong_0 5 rfl rfl)
theorem dX6_goesAlong_6 : decode cX6_goesAlong 6 = .ok (.iconst 2, 1) := dk_5 (dk_at dksX6_goesAlong_0 6 rfl rfl)
theorem dX6_goesAlong_7 : decode cX6_goesAlong 7 = .ok (.invokevirtual 332, 3) := dk_182 1 76 (dk_at dksX6_goesAlong_0 7 rfl rfl)
theorem dX6_goesAlong_10 : decode cX6_goesAlong 10 = .ok (.goto 4, 3) := dk_167 0 4 (dk_at dksX6_goesAlong_0 10 rfl rfl)
theorem dX6_goesAlong_13 : decode cX6_goesAlong 13 = .ok (.iconst 0, 1) := dk_3 (dk_at dksX6_goesAlong_0 13 rfl rfl)
theorem dX6_goesAlong_14 : decode cX6_goesAlong 14 = .ok (.putfield 303, 3) := dk_181 1 47 (dk_at dksX6_goesAlong_0 14 rfl rfl)
theorem dX6_goesAlong_17 : decode cX6_goesAlong 17 = .ok (.aload_n 0, 1) := dk_42 (dk_at dksX6_goesAlong_0 17 rfl rfl)
theorem dX6_goesAlong_18 : decode cX6_goesAlong 18 = .ok (.iload_n 2, 1) := dk_28 (dk_at dksX6_goesAlong_0 18 rfl rfl)
theorem dX6_goesAlong_19 : decode cX6_goesAlong 19 = .ok (.ifCond .eq 11, 3) := dk_153 0 11 (dk_at dksX6_goesAlong_0 19 rfl rfl)
theorem dX6_goesAlong_22 : decode cX6_goesAlong 22 = .ok (.aload_n 0, 1) := dk_42 (dk_at dksX6_goesAlong_0 22 rfl rfl)
theorem dX6_goesAlong_23 : decode cX6_goesAlong 23 = .ok (.iconst 0, 1) := dk_3 (dk_at dksX6_goesAlong_0 23 rfl rfl)
theorem dX6_goesAlong_24 : decode cX6_goesAlong 24 = .ok (.invokevirtual 332, 3) := dk_182 1 76 (dk_at dksX6_goesAlong_1 0 rfl rfl)
theorem dX6_goesAlong_27 : decode cX6_goesAlong 27 = .ok (.goto 4, 3) := dk_167 0 4 (dk_at dksX6_goesAlong_1 3 rfl rfl)
theorem dX6_goesAlong_30 : decode cX6_goesAlong 30 = .ok (.iconst 0, 1) := dk_3 (dk_at dksX6_goesAlong_1 6 rfl rfl)
theorem dX6_goesAlong_31 : decode cX6_goesAlong 31 = .ok (.putfield 306, 3) := dk_181 1 50 (dk_at dksX6_goesAlong_1 7 rfl rfl)
theorem dX6_goesAlong_34 : decode cX6_goesAlong 34 = .ok (.aload_n 0, 1) := dk_42 (dk_at dksX6_goesAlong_1 10 rfl rfl)
theorem dX6_goesAlong_35 : decode cX6_goesAlong 35 = .ok (.iconst 1, 1) := dk_4 (dk_at dksX6_goesAlong_1 11 rfl rfl)
theorem dX6_goesAlong_36 : decode cX6_goesAlong 36 = .ok (.putfield 291, 3) := dk_181 1 35 (dk_at dksX6_goesAlong_1 12 rfl rfl)
theorem dX6_goesAlong_39 : decode cX6_goesAlong 39 = .ok (.aload_n 0, 1) := dk_42 (dk_at dksX6_goesAlong_1 15 rfl rfl)
theorem dX6_goesAlong_40 : decode cX6_goesAlong 40 = .ok (.iload_n 1, 1) := dk_27 (dk_at dksX6_goesAlong_1 16 rfl rfl)
theorem dX6_goesAlong_41 : decode cX6_goesAlong 41 = .ok (.putfield 258, 3) := dk_181 1 2 (dk_at dksX6_goesAlong_1 17 rfl rfl)
theorem dX6_goesAlong_44 : decode cX6_goesAlong 44 = .ok (.aload_n 0, 1) := dk_42 (dk_at dksX6_goesAlong_1 20 rfl rfl)
theorem dX6_goesAlong_45 : decode cX6_goesAlong 45 = .ok (.aload_n 0, 1) := dk_42 (dk_at dksX6_goesAlong_1 21 rfl rfl)
theorem dX6_goesAlong_46 : decode cX6_goesAlong 46 = .ok (.getfield 446, 3) := dk_180 1 190 (dk_at dksX6_goesAlong_2 0 rfl rfl)
theorem dX6_goesAlong_49 : decode cX6_goesAlong 49 = .ok (.putfield 261, 3) := dk_181 1 5 (dk_at dksX6_goesAlong_2 3 rfl rfl)
theorem dX6_goesAlong_52 : decode cX6_goesAlong 52 = .ok (.aload_n 0, 1) := dk_42 (dk_at dksX6_goesAlong_2 6 rfl rfl)
theorem dX6_goesAlong_53 : decode cX6_goesAlong 53 = .ok (.aload_n 0, 1) := dk_42 (dk_at dksX6_goesAlong_2 7 rfl rfl)
theorem dX6_goesAlong_54 : decode cX6_goesAlong 54 = .ok (.aload_n 0, 1) := dk_42 (dk_at dksX6_goesAlong_2 8 rfl rfl)
theorem dX6_goesAlong_55 : decode cX6_goesAlong 55 = .ok (.getfield 261, 3) := dk_180 1 5 (dk_at dksX6_goesAlong_2 9 rfl rfl)
theorem dX6_goesAlong_58 : decode cX6_goesAlong 58 = .ok (.invokevirtual 264, 3) := dk_182 1 8 (dk_at dksX6_goesAlong_2 12 rfl rfl)
theorem dX6_goesAlong_61 : decode cX6_goesAlong 61 = .ok (.putfield 455, 3) := dk_181 1 199 (dk_at dksX6_goesAlong_2 15 rfl rfl)
theorem dX6_goesAlong_64 : decode cX6_goesAlong 64 = .ok (.aload_n 0, 1) := dk_42 (dk_at dksX6_goesAlong_2 18 rfl rfl)
theorem dX6_goesAlong_65 : decode cX6_goesAlong 65 = .ok (.dup, 1) := dk_89 (dk_at dksX6_goesAlong_2 19 rfl rfl)
theorem dX6_goesAlong_66 : decode cX6_goesAlong 66 = .ok (.getfield 261, 3) := dk_180 1 5 (dk_at dksX6_goesAlong_2 20 rfl rfl)
theorem dX6_goesAlong_69 : decode cX6_goesAlong 69 = .ok (.iconst 1, 1) := dk_4 (dk_at dksX6_goesAlong_2 23 rfl rfl)
theorem dX6_goesAlong_70 : decode cX6_goesAlong 70 = .ok (.iadd, 1) := dk_96 (dk_at dksX6_goesAlong_3 0 rfl rfl)
theorem dX6_goesAlong_71 : decode cX6_goesAlong 71 = .ok (.putfield 261, 3) := dk_181 1 5 (dk_at dksX6_goesAlong_3 1 rfl rfl)
theorem dX6_goesAlong_74 : decode cX6_goesAlong 74 = .ok (.aload_n 0, 1) := dk_42 (dk_at dksX6_goesAlong_3 4 rfl rfl)
theorem dX6_goesAlong_75 : decode cX6_goesAlong 75 = .ok (.iconst 1, 1) := dk_4 (dk_at dksX6_goesAlong_3 5 rfl rfl)
theorem dX6_goesAlong_76 : decode cX6_goesAlong 76 = .ok (.putfield 458, 3) := dk_181 1 202 (dk_at dksX6_goesAlong_3 6 rfl rfl)
theorem dX6_goesAlong_79 : decode cX6_goesAlong 79 = .ok (.aload_n 0, 1) := dk_42 (dk_at dksX6_goesAlong_3 9 rfl rfl)
theorem dX6_goesAlong_80 : decode cX6_goesAlong 80 = .ok (.getfield 455, 3) := dk_180 1 199 (dk_at dksX6_goesAlong_3 10 rfl rfl)
theorem dX6_goesAlong_83 : decode cX6_goesAlong 83 = .ok (.bipush 22, 2) := dk_16 22 (dk_at dksX6_goesAlong_3 13 rfl rfl)
theorem dX6_goesAlong_85 : decode cX6_goesAlong 85 = .ok (.if_icmp .eq 12, 3) := dk_159 0 12 (dk_at dksX6_goesAlong_3 15 rfl rfl)
theorem dX6_goesAlong_88 : decode cX6_goesAlong 88 = .ok (.aload_n 0, 1) := dk_42 (dk_at dksX6_goesAlong_3 18 rfl rfl)
theorem dX6_goesAlong_89 : decode cX6_goesAlong 89 = .ok (.getfield 455, 3) := dk_180 1 199 (dk_at dksX6_goesAlong_3 19 rfl rfl)
theorem dX6_goesAlong_92 : decode cX6_goesAlong 92 = .ok (.bipush 23, 2) := dk_16 23 (dk_at dksX6_goesAlong_3 22 rfl rfl)
theorem dX6_goesAlong_94 : decode cX6_goesAlong 94 = .ok (.if_icmp .ne 7, 3) := dk_160 0 7 (dk_at dksX6_goesAlong_4 0 rfl rfl)
theorem dX6_goesAlong_97 : decode cX6_goesAlong 97 = .ok (.iconst 2, 1) := dk_5 (dk_at dksX6_goesAlong_4 3 rfl rfl)
theorem dX6_goesAlong_98 : decode cX6_goesAlong 98 = .ok (.goto 4, 3) := dk_167 0 4 (dk_at dksX6_goesAlong_4 4 rfl rfl)
theorem dX6_goesAlong_101 : decode cX6_goesAlong 101 = .ok (.iconst 0, 1) := dk_3 (dk_at dksX6_goesAlong_4 7 rfl rfl)
theorem dX6_goesAlong_102 : decode cX6_goesAlong 102 = .ok (.istore_n 3, 1) := dk_62 (dk_at dksX6_goesAlong_4 8 rfl rfl)
theorem dX6_goesAlong_103 : decode cX6_goesAlong 103 = .ok (.iconst 0, 1) := dk_3 (dk_at dksX6_goesAlong_4 9 rfl rfl)
theorem dX6_goesAlong_104 : decode cX6_goesAlong 104 = .ok (.istore 4, 2) := dk_54 4 (dk_at dksX6_goesAlong_4 10 rfl rfl)
theorem dX6_goesAlong_106 : decode cX6_goesAlong 106 = .ok (.iload 4, 2) := dk_21 4 (dk_at dksX6_goesAlong_4 12 rfl rfl)
theorem dX6_goesAlong_108 : decode cX6_goesAlong 108 = .ok (.iload_n 3, 1) := dk_29 (dk_at dksX6_goesAlong_4 14 rfl rfl)
theorem dX6_goesAlong_109 : decode cX6_goesAlong 109 = .ok (.if_icmp .ge 64, 3) := dk_162 0 64 (dk_at dksX6_goesAlong_4 15 rfl rfl)
theorem dX6_goesAlong_112 : decode cX6_goesAlong 112 = .ok (.iload 4, 2) := dk_21 4 (dk_at dksX6_goesAlong_4 18 rfl rfl)
theorem dX6_goesAlong_114 : decode cX6_goesAlong 114 = .ok (.ifCond .le 13, 3) := dk_158 0 13 (dk_at dksX6_goesAlong_4 20 rfl rfl)
theorem dX6_goesAlong_117 : decode cX6_goesAlong 117 = .ok (.aload_n 0, 1) := dk_42 (dk_at dksX6_goesAlong_4 23 rfl rfl)
theorem dX6_goesAlong_118 : decode cX6_goesAlong 118 = .ok (.dup, 1) := dk_89 (dk_at dksX6_goesAlong_5 0 rfl rfl)
theorem dX6_goesAlong_119 : decode cX6_goesAlong 119 = .ok (.getfield 261, 3) := dk_180 1 5 (dk_at dksX6_goesAlong_5 1 rfl rfl)
theorem dX6_goesAlong_122 : decode cX6_goesAlong 122 = .ok (.iconst 1, 1) := dk_4 (dk_at dksX6_goesAlong_5 4 rfl rfl)
theorem dX6_goesAlong_123 : decode cX6_goesAlong 123 = .ok (.iadd, 1) := dk_96 (dk_at dksX6_goesAlong_5 5 rfl rfl)
theorem dX6_goesAlong_124 : decode cX6_goesAlong 124 = .ok (.putfield 261, 3) := dk_181 1 5 (dk_at dksX6_goesAlong_5 6 rfl rfl)
theorem dX6_goesAlong_127 : decode cX6_goesAlong 127 = .ok (.aload_n 0, 1) := dk_42 (dk_at dksX6_goesAlong_5 9 rfl rfl)
theorem dX6_goesAlong_128 : decode cX6_goesAlong 128 = .ok (.iconst 0, 1) := dk_3 (dk_at dksX6_goesAlong_5 10 rfl rfl)
theorem dX6_goesAlong_129 : decode cX6_goesAlong 129 = .ok (.putfield 271, 3) := dk_181 1 15 (dk_at dksX6_goesAlong_5 11 rfl rfl)
theorem dX6_goesAlong_132 : decode cX6_goesAlong 132 = .ok (.aload_n 0, 1) := dk_42 (dk_at dksX6_goesAlong_5 14 rfl rfl)
theorem dX6_goesAlong_133 : decode cX6_goesAlong 133 = .ok (.getfield 97, 3) := dk_180 0 97 (dk_at dksX6_goesAlong_5 15 rfl rfl)
theorem dX6_goesAlong_136 : decode cX6_goesAlong 136 = .ok (.iload 4, 2) := dk_21 4 (dk_at dksX6_goesAlong_5 18 rfl rfl)
theorem dX6_goesAlong_138 : decode cX6_goesAlong 138 = .ok (.aload_n 0, 1) := dk_42 (dk_at dksX6_goesAlong_5 20 rfl rfl)
theorem dX6_goesAlong_139 : decode cX6_goesAlong 139 = .ok (.iload_n 2, 1) := dk_28 (dk_at dksX6_goesAlong_5 21 rfl rfl)
theorem dX6_goesAlong_140 : decode cX6_goesAlong 140 = .ok (.invokevirtual 288, 3) := dk_182 1 32 (dk_at dksX6_goesAlong_6 0 rfl rfl)
theorem dX6_goesAlong_143 : decode cX6_goesAlong 143 = .ok (.lastore, 1) := dk_80 (dk_at dksX6_goesAlong_6 3 rfl rfl)
theorem dX6_goesAlong_144 : decode cX6_goesAlong 144 = .ok (.aload_n 0, 1) := dk_42 (dk_at dksX6_goesAlong_6 4 rfl rfl)
theorem dX6_goesAlong_145 : decode cX6_goesAlong 145 = .ok (.aload_n 0, 1) := dk_42 (dk_at dksX6_goesAlong_6 5 rfl rfl)
theorem dX6_goesAlong_146 : decode cX6_goesAlong 146 = .ok (.getfield 458, 3) := dk_180 1 202 (dk_at dksX6_goesAlong_6 6 rfl rfl)
theorem dX6_goesAlong_149 : decode cX6_goesAlong 149 = .ok (.ifCond .eq 14, 3) := dk_153 0 14 (dk_at dksX6_goesAlong_6 9 rfl rfl)
theorem dX6_goesAlong_152 : decode cX6_goesAlong 152 = .ok (.aload_n 0, 1) := dk_42 (dk_at dksX6_goesAlong_6 12 rfl rfl)
theorem dX6_goesAlong_153 : decode cX6_goesAlong 153 = .ok (.getfield 271, 3) := dk_180 1 15 (dk_at dksX6_goesAlong_6 13 rfl rfl)
theorem dX6_goesAlong_156 : decode cX6_goesAlong 156 = .ok (.ifCond .ne 7, 3) := dk_154 0 7 (dk_at dksX6_goesAlong_6 16 rfl rfl)
theorem dX6_goesAlong_159 : decode cX6_goesAlong 159 = .ok (.iconst 1, 1) := dk_4 (dk_at dksX6_goesAlong_6 19 rfl rfl)
theorem dX6_goesAlong_160 : decode cX6_goesAlong 160 = .ok (.goto 4, 3) := dk_167 0 4 (dk_at dksX6_goesAlong_6 20 rfl rfl)
theorem dX6_goesAlong_163 : decode cX6_goesAlong 163 = .ok (.iconst 0, 1) := dk_3 (dk_at dksX6_goesAlong_6 23 rfl rfl)
theorem dX6_goesAlong_164 : decode cX6_goesAlong 164 = .ok (.putfield 458, 3) := dk_181 1 202 (dk_at dksX6_goesAlong_7 0 rfl rfl)
theorem dX6_goesAlong_167 : decode cX6_goesAlong 167 = .ok (.iinc 4 1, 3) := dk_132 4 1 (dk_at dksX6_goesAlong_7 3 rfl rfl)
theorem dX6_goesAlong_170 : decode cX6_goesAlong 170 = .ok (.goto (-64), 3) := dk_167 255 192 (dk_at dksX6_goesAlong_7 6 rfl rfl)
theorem dX6_goesAlong_173 : decode cX6_goesAlong 173 = .ok (.aload_n 0, 1) := dk_42 (dk_at dksX6_goesAlong_7 9 rfl rfl)
theorem dX6_goesAlong_174 : decode cX6_goesAlong 174 = .ok (.iconst 1, 1) := dk_4 (dk_at dksX6_goesAlong_7 10 rfl rfl)
theorem dX6_goesAlong_175 : decode cX6_goesAlong 175 = .ok (.putfield 461, 3) := dk_181 1 205 (dk_at dksX6_goesAlong_7 11 rfl rfl)
theorem dX6_goesAlong_178 : decode cX6_goesAlong 178 = .ok (.aload_n 0, 1) := dk_42 (dk_at dksX6_goesAlong_7 14 rfl rfl)
theorem dX6_goesAlong_179 : decode cX6_goesAlong 179 = .ok (.bipush 27, 2) := dk_16 27 (dk_at dksX6_goesAlong_7 15 rfl rfl)
theorem dX6_goesAlong_181 : decode cX6_goesAlong 181 = .ok (.invokevirtual 285, 3) := dk_182 1 29 (dk_at dksX6_goesAlong_7 17 rfl rfl)
theorem dX6_goesAlong_184 : decode cX6_goesAlong 184 = .ok (.ifCond .eq 30, 3) := dk_153 0 30 (dk_at dksX6_goesAlong_7 20 rfl rfl)
theorem dX6_goesAlong_187 : decode cX6_goesAlong 187 = .ok (.aload_n 0, 1) := dk_42 (dk_at dksX6_goesAlong_7 23 rfl rfl)
theorem dX6_goesAlong_188 : decode cX6_goesAlong 188 = .ok (.aload_n 0, 1) := dk_42 (dk_at dksX6_goesAlong_8 0 rfl rfl)
theorem dX6_goesAlong_189 : decode cX6_goesAlong 189 = .ok (.getfield 28, 3) := dk_180 0 28 (dk_at dksX6_goesAlong_8 1 rfl rfl)
theorem dX6_goesAlong_192 : decode cX6_goesAlong 192 = .ok (.sipush 2852, 3) := dk_17 11 36 (dk_at dksX6_goesAlong_8 4 rfl rfl)
theorem dX6_goesAlong_195 : decode cX6_goesAlong 195 = .ok (.aload_n 0, 1) := dk_42 (dk_at dksX6_goesAlong_8 7 rfl rfl)
theorem dX6_goesAlong_196 : decode cX6_goesAlong 196 = .ok (.getfield 261, 3) := dk_180 1 5 (dk_at dksX6_goesAlong_8 8 rfl rfl)
theorem dX6_goesAlong_199 : decode cX6_goesAlong 199 = .ok (.iadd, 1) := dk_96 (dk_at dksX6_goesAlong_8 11 rfl rfl)
theorem dX6_goesAlong_200 : decode cX6_goesAlong 200 = .ok (.iaload, 1) := dk_46 (dk_at dksX6_goesAlong_8 12 rfl rfl)
theorem dX6_goesAlong_201 : decode cX6_goesAlong 201 = .ok (.putfield 461, 3) := dk_181 1 205 (dk_at dksX6_goesAlong_8 13 rfl rfl)
theorem dX6_goesAlong_204 : decode cX6_goesAlong 204 = .ok (.aload_n 0, 1) := dk_42 (dk_at dksX6_goesAlong_8 16 rfl rfl)
theorem dX6_goesAlong_205 : decode cX6_goesAlong 205 = .ok (.dup, 1) := dk_89 (dk_at dksX6_goesAlong_8 17 rfl rfl)
theorem dX6_goesAlong_206 : decode cX6_goesAlong 206 = .ok (.getfield 261, 3) := dk_180 1 5 (dk_at dksX6_goesAlong_8 18 rfl rfl)
theorem dX6_goesAlong_209 : decode cX6_goesAlong 209 = .ok (.iconst 1, 1) := dk_4 (dk_at dksX6_goesAlong_8 21 rfl rfl)
theorem dX6_goesAlong_210 : decode cX6_goesAlong 210 = .ok (.iadd, 1) := dk_96 (dk_at dksX6_goesAlong_8 22 rfl rfl)
theorem dX6_goesAlong_211 : decode cX6_goesAlong 211 = .ok (.putfield 261, 3) := dk_181 1 5 (dk_at dksX6_goesAlong_9 0 rfl rfl)
theorem dX6_goesAlong_214 : decode cX6_goesAlong 214 = .ok (.aload_n 0, 1) := dk_42 (dk_at dksX6_goesAlong_9 3 rfl rfl)
theorem dX6_goesAlong_215 : decode cX6_goesAlong 215 = .ok (.iconst 0, 1) := dk_3 (dk_at dksX6_goesAlong_9 4 rfl rfl)
theorem dX6_goesAlong_216 : decode cX6_goesAlong 216 = .ok (.putfield 271, 3) := dk_181 1 15 (dk_at dksX6_goesAlong_9 5 rfl rfl)
theorem dX6_goesAlong_219 : decode cX6_goesAlong 219 = .ok (.aload_n 0, 1) := dk_42 (dk_at dksX6_goesAlong_9 8 rfl rfl)
theorem dX6_goesAlong_220 : decode cX6_goesAlong 220 = .ok (.aload_n 0, 1) := dk_42 (dk_at dksX6_goesAlong_9 9 rfl rfl)
theorem dX6_goesAlong_221 : decode cX6_goesAlong 221 = .ok (.iconst 4, 1) := dk_7 (dk_at dksX6_goesAlong_9 10 rfl rfl)
theorem dX6_goesAlong_222 : decode cX6_goesAlong 222 = .ok (.invokevirtual 285, 3) := dk_182 1 29 (dk_at dksX6_goesAlong_9 11 rfl rfl)
theorem dX6_goesAlong_225 : decode cX6_goesAlong 225 = .ok (.ifCond .eq 11, 3) := dk_153 0 11 (dk_at dksX6_goesAlong_9 14 rfl rfl)
theorem dX6_goesAlong_228 : decode cX6_goesAlong 228 = .ok (.aload_n 0, 1) := dk_42 (dk_at dksX6_goesAlong_9 17 rfl rfl)
theorem dX6_goesAlong_229 : decode cX6_goesAlong 229 = .ok (.iload_n 2, 1) := dk_28 (dk_at dksX6_goesAlong_9 18 rfl rfl)
theorem dX6_goesAlong_230 : decode cX6_goesAlong 230 = .ok (.invokevirtual 318, 3) := dk_182 1 62 (dk_at dksX6_goesAlong_9 19 rfl rfl)
theorem dX6_goesAlong_233 : decode cX6_goesAlong 233 = .ok (.ifCond .eq 7, 3) := dk_153 0 7 (dk_at dksX6_goesAlong_10 0 rfl rfl)
theorem dX6_goesAlong_236 : decode cX6_goesAlong 236 = .ok (.iconst 1, 1) := dk_4 (dk_at dksX6_goesAlong_10 3 rfl rfl)
theorem dX6_goesAlong_237 : decode cX6_goesAlong 237 = .ok (.goto 4, 3) := dk_167 0 4 (dk_at dksX6_goesAlong_10 4 rfl rfl)
theorem dX6_goesAlong_240 : decode cX6_goesAlong 240 = .ok (.iconst 0, 1) := dk_3 (dk_at dksX6_goesAlong_10 7 rfl rfl)
theorem dX6_goesAlong_241 : decode cX6_goesAlong 241 = .ok (.putfield 464, 3) := dk_181 1 208 (dk_at dksX6_goesAlong_10 8 rfl rfl)
theorem dX6_goesAlong_244 : decode cX6_goesAlong 244 = .ok (.aload_n 0, 1) := dk_42 (dk_at dksX6_goesAlong_10 11 rfl rfl)
theorem dX6_goesAlong_245 : decode cX6_goesAlong 245 = .ok (.aload_n 0, 1) := dk_42 (dk_at dksX6_goesAlong_10 12 rfl rfl)
theorem dX6_goesAlong_246 : decode cX6_goesAlong 246 = .ok (.getfield 464, 3) := dk_180 1 208 (dk_at dksX6_goesAlong_10 13 rfl rfl)
theorem dX6_goesAlong_249 : decode cX6_goesAlong 249 = .ok (.ifCond .eq 14, 3) := dk_153 0 14 (dk_at dksX6_goesAlong_10 16 rfl rfl)
theorem dX6_goesAlong_252 : decode cX6_goesAlong 252 = .ok (.aload_n 0, 1) := dk_42 (dk_at dksX6_goesAlong_10 19 rfl rfl)
theorem dX6_goesAlong_253 : decode cX6_goesAlong 253 = .ok (.getfield 271, 3) := dk_180 1 15 (dk_at dksX6_goesAlong_10 20 rfl rfl)
theorem dX6_goesAlong_256 : decode cX6_goesAlong 256 = .ok (.ifCond .ne 7, 3) := dk_154 0 7 (dk_at dksX6_goesAlong_11 0 rfl rfl)
theorem dX6_goesAlong_259 : decode cX6_goesAlong 259 = .ok (.iconst 1, 1) := dk_4 (dk_at dksX6_goesAlong_11 3 rfl rfl)
theorem dX6_goesAlong_260 : decode cX6_goesAlong 260 = .ok (.goto 4, 3) := dk_167 0 4 (dk_at dksX6_goesAlong_11 4 rfl rfl)
theorem dX6_goesAlong_263 : decode cX6_goesAlong 263 = .ok (.iconst 0, 1) := dk_3 (dk_at dksX6_goesAlong_11 7 rfl rfl)
theorem dX6_goesAlong_264 : decode cX6_goesAlong 264 = .ok (.putfield 464, 3) := dk_181 1 208 (dk_at dksX6_goesAlong_11 8 rfl rfl)
theorem dX6_goesAlong_267 : decode cX6_goesAlong 267 = .ok (.aload_n 0, 1) := dk_42 (dk_at dksX6_goesAlong_11 11 rfl rfl)
theorem dX6_goesAlong_268 : decode cX6_goesAlong 268 = .ok (.dup, 1) := dk_89 (dk_at dksX6_goesAlong_11 12 rfl rfl)
theorem dX6_goesAlong_269 : decode cX6_goesAlong 269 = .ok (.getfield 261, 3) := dk_180 1 5 (dk_at dksX6_goesAlong_11 13 rfl rfl)
theorem dX6_goesAlong_272 : decode cX6_goesAlong 272 = .ok (.iconst 1, 1) := dk_4 (dk_at dksX6_goesAlong_11 16 rfl rfl)
theorem dX6_goesAlong_273 : decode cX6_goesAlong 273 = .ok (.iadd, 1) := dk_96 (dk_at dksX6_goesAlong_11 17 rfl rfl)
theorem dX6_goesAlong_274 : decode cX6_goesAlong 274 = .ok (.putfield 261, 3) := dk_181 1 5 (dk_at dksX6_goesAlong_11 18 rfl rfl)
theorem dX6_goesAlong_277 : decode cX6_goesAlong 277 = .ok (.return_, 1) := dk_177 (dk_at dksX6_goesAlong_11 21 rfl rfl)
abbrev cX6_obeys : ByteArray := prog_24_method_127_code
def yX6_obeys : MethodName := ⟨RX6, "obeys", "()I"⟩
def dkwX6_obeys_5 : List UInt8 := [167, 0, 4, 27, 181, 1, 44, 27, 172]
abbrev dktX6_obeys_5 : List UInt8 := dkwX6_obeys_5 ++ []
def dkwX6_obeys_4 : List UInt8 := [182, 1, 85, 172, 42, 182, 1, 92, 172, 42, 182, 1, 95, 60, 42, 27, 156, 0, 10, 42, 180, 1, 44]
abbrev dktX6_obeys_4 : List UInt8 := dkwX6_obeys_4 ++ dktX6_obeys_5
def dkwX6_obeys_3 : List UInt8 := [172, 42, 4, 16, 12, 42, 180, 0, 97, 3, 47, 184, 1, 213, 42, 180, 0, 97, 4, 47, 184, 1, 213]
abbrev dktX6_obeys_3 : List UInt8 := dkwX6_obeys_3 ++ dktX6_obeys_4
def dkwX6_obeys_2 : List UInt8 := [42, 3, 3, 42, 180, 0, 97, 3, 47, 184, 1, 213, 42, 180, 0, 97, 4, 47, 184, 1, 213, 182, 1, 85]
abbrev dktX6_obeys_2 : List UInt8 := dkwX6_obeys_2 ++ dktX6_obeys_3
def dkwX6_obeys_1 : List UInt8 := [170, 0, 0, 0, 0, 0, 0, 84, 0, 0, 0, 22, 0, 0, 0, 24, 0, 0, 0, 28, 0, 0, 0, 53, 0, 0, 0, 79]
abbrev dktX6_obeys_1 : List UInt8 := dkwX6_obeys_1 ++ dktX6_obeys_2
def dkwX6_obeys_0 : List UInt8 := [42, 180, 1, 199]
abbrev dktX6_obeys_0 : List UInt8 := dkwX6_obeys_0 ++ dktX6_obeys_1
theorem dksX6_obeys_0 : cX6_obeys.data.toList.drop 0 = dktX6_obeys_0 := by decide +kernel
theorem dksX6_obeys_1 : cX6_obeys.data.toList.drop 4 = dktX6_obeys_1 := dk_seg dksX6_obeys_0 4 rfl rfl
theorem dksX6_obeys_2 : cX6_obeys.data.toList.drop 32 = dktX6_obeys_2 := dk_seg dksX6_obeys_1 28 rfl rfl
theorem dksX6_obeys_3 : cX6_obeys.data.toList.drop 56 = dktX6_obeys_3 := dk_seg dksX6_obeys_2 24 rfl rfl
theorem dksX6_obeys_4 : cX6_obeys.data.toList.drop 79 = dktX6_obeys_4 := dk_seg dksX6_obeys_3 23 rfl rfl
theorem dksX6_obeys_5 : cX6_obeys.data.toList.drop 102 = dktX6_obeys_5 := dk_seg dksX6_obeys_4 23 rfl rfl
theorem dX6_obeys_0 : decode cX6_obeys 0 = .ok (.aload_n 0, 1) := dk_42 (dk_at dksX6_obeys_0 0 rfl rfl)
theorem dX6_obeys_1 : decode cX6_obeys 1 = .ok (.getfield 455, 3) := dk_180 1 199 (dk_at dksX6_obeys_0 1 rfl rfl)
theorem dX6_obeys_4 : decode cX6_obeys 4 = .ok (.tableswitch 84 22 24 #[28, 53, 79], 28) := by decide +kernel
theorem dX6_obeys_32 : decode cX6_obeys 32 = .ok (.aload_n 0, 1) := dk_42 (dk_at dksX6_obeys_2 0 rfl rfl)
theorem dX6_obeys_33 : decode cX6_obeys 33 = .ok (.iconst 0, 1) := dk_3 (dk_at dksX6_obeys_2 1 rfl rfl)
theorem dX6_obeys_34 : decode cX6_obeys 34 = .ok (.iconst 0, 1) := dk_3 (dk_at dksX6_obeys_2 2 rfl rfl)
theorem dX6_obeys_35 : decode cX6_obeys 35 = .ok (.aload_n 0, 1) := dk_42 (dk_at dksX6_obeys_2 3 rfl rfl)
theorem dX6_obeys_36 : decode cX6_obeys 36 = .ok (.getfield 97, 3) := dk_180 0 97 (dk_at dksX6_obeys_2 4 rfl rfl)
theorem dX6_obeys_39 : decode cX6_obeys 39 = .ok (.iconst 0, 1) := dk_3 (dk_at dksX6_obeys_2 7 rfl rfl)
theorem dX6_obeys_40 : decode cX6_obeys 40 = .ok (.laload, 1) := dk_47 (dk_at dksX6_obeys_2 8 rfl rfl)
theorem dX6_obeys_41 : decode cX6_obeys 41 = .ok (.invokestatic 469, 3) := dk_184 1 213 (dk_at dksX6_obeys_2 9 rfl rfl)
theorem dX6_obeys_44 : decode cX6_obeys 44 = .ok (.aload_n 0, 1) := dk_42 (dk_at dksX6_obeys_2 12 rfl rfl)
theorem dX6_obeys_45 : decode cX6_obeys 45 = .ok (.getfield 97, 3) := dk_180 0 97 (dk_at dksX6_obeys_2 13 rfl rfl)
theorem dX6_obeys_48 : decode cX6_obeys 48 = .ok (.iconst 1, 1) := dk_4 (dk_at dksX6_obeys_2 16 rfl rfl)
theorem dX6_obeys_49 : decode cX6_obeys 49 = .ok (.laload, 1) := dk_47 (dk_at dksX6_obeys_2 17 rfl rfl)
theorem dX6_obeys_50 : decode cX6_obeys 50 = .ok (.invokestatic 469, 3) := dk_184 1 213 (dk_at dksX6_obeys_2 18 rfl rfl)
theorem dX6_obeys_53 : decode cX6_obeys 53 = .ok (.invokevirtual 341, 3) := dk_182 1 85 (dk_at dksX6_obeys_2 21 rfl rfl)
theorem dX6_obeys_56 : decode cX6_obeys 56 = .ok (.ireturn, 1) := dk_172 (dk_at dksX6_obeys_3 0 rfl rfl)
theorem dX6_obeys_57 : decode cX6_obeys 57 = .ok (.aload_n 0, 1) := dk_42 (dk_at dksX6_obeys_3 1 rfl rfl)
theorem dX6_obeys_58 : decode cX6_obeys 58 = .ok (.iconst 1, 1) := dk_4 (dk_at dksX6_obeys_3 2 rfl rfl)
theorem dX6_obeys_59 : decode cX6_obeys 59 = .ok (.bipush 12, 2) := dk_16 12 (dk_at dksX6_obeys_3 3 rfl rfl)
theorem dX6_obeys_61 : decode cX6_obeys 61 = .ok (.aload_n 0, 1) := dk_42 (dk_at dksX6_obeys_3 5 rfl rfl)
theorem dX6_obeys_62 : decode cX6_obeys 62 = .ok (.getfield 97, 3) := dk_180 0 97 (dk_at dksX6_obeys_3 6 rfl rfl)
theorem dX6_obeys_65 : decode cX6_obeys 65 = .ok (.iconst 0, 1) := dk_3 (dk_at dksX6_obeys_3 9 rfl rfl)
theorem dX6_obeys_66 : decode cX6_obeys 66 = .ok (.laload, 1) := dk_47 (dk_at dksX6_obeys_3 10 rfl rfl)
theorem dX6_obeys_67 : decode cX6_obeys 67 = .ok (.invokestatic 469, 3) := dk_184 1 213 (dk_at dksX6_obeys_3 11 rfl rfl)
theorem dX6_obeys_70 : decode cX6_obeys 70 = .ok (.aload_n 0, 1) := dk_42 (dk_at dksX6_obeys_3 14 rfl rfl)
theorem dX6_obeys_71 : decode cX6_obeys 71 = .ok (.getfield 97, 3) := dk_180 0 97 (dk_at dksX6_obeys_3 15 rfl rfl)
theorem dX6_obeys_74 : decode cX6_obeys 74 = .ok (.iconst 1, 1) := dk_4 (dk_at dksX6_obeys_3 18 rfl rfl)
theorem dX6_obeys_75 : decode cX6_obeys 75 = .ok (.laload, 1) := dk_47 (dk_at dksX6_obeys_3 19 rfl rfl)
theorem dX6_obeys_76 : decode cX6_obeys 76 = .ok (.invokestatic 469, 3) := dk_184 1 213 (dk_at dksX6_obeys_3 20 rfl rfl)
theorem dX6_obeys_79 : decode cX6_obeys 79 = .ok (.invokevirtual 341, 3) := dk_182 1 85 (dk_at dksX6_obeys_4 0 rfl rfl)
theorem dX6_obeys_82 : decode cX6_obeys 82 = .ok (.ireturn, 1) := dk_172 (dk_at dksX6_obeys_4 3 rfl rfl)
theorem dX6_obeys_83 : decode cX6_obeys 83 = .ok (.aload_n 0, 1) := dk_42 (dk_at dksX6_obeys_4 4 rfl rfl)
theorem dX6_obeys_84 : decode cX6_obeys 84 = .ok (.invokevirtual 348, 3) := dk_182 1 92 (dk_at dksX6_obeys_4 5 rfl rfl)
theorem dX6_obeys_87 : decode cX6_obeys 87 = .ok (.ireturn, 1) := dk_172 (dk_at dksX6_obeys_4 8 rfl rfl)
theorem dX6_obeys_88 : decode cX6_obeys 88 = .ok (.aload_n 0, 1) := dk_42 (dk_at dksX6_obeys_4 9 rfl rfl)
theorem dX6_obeys_89 : decode cX6_obeys 89 = .ok (.invokevirtual 351, 3) := dk_182 1 95 (dk_at dksX6_obeys_4 10 rfl rfl)
theorem dX6_obeys_92 : decode cX6_obeys 92 = .ok (.istore_n 1, 1) := dk_60 (dk_at dksX6_obeys_4 13 rfl rfl)
theorem dX6_obeys_93 : decode cX6_obeys 93 = .ok (.aload_n 0, 1) := dk_42 (dk_at dksX6_obeys_4 14 rfl rfl)
theorem dX6_obeys_94 : decode cX6_obeys 94 = .ok (.iload_n 1, 1) := dk_27 (dk_at dksX6_obeys_4 15 rfl rfl)
theorem dX6_obeys_95 : decode cX6_obeys 95 = .ok (.ifCond .ge 10, 3) := dk_156 0 10 (dk_at dksX6_obeys_4 16 rfl rfl)
theorem dX6_obeys_98 : decode cX6_obeys 98 = .ok (.aload_n 0, 1) := dk_42 (dk_at dksX6_obeys_4 19 rfl rfl)
theorem dX6_obeys_99 : decode cX6_obeys 99 = .ok (.getfield 300, 3) := dk_180 1 44 (dk_at dksX6_obeys_4 20 rfl rfl)
theorem dX6_obeys_102 : decode cX6_obeys 102 = .ok (.goto 4, 3) := dk_167 0 4 (dk_at dksX6_obeys_5 0 rfl rfl)
theorem dX6_obeys_105 : decode cX6_obeys 105 = .ok (.iload_n 1, 1) := dk_27 (dk_at dksX6_obeys_5 3 rfl rfl)
theorem dX6_obeys_106 : decode cX6_obeys 106 = .ok (.putfield 300, 3) := dk_181 1 44 (dk_at dksX6_obeys_5 4 rfl rfl)
theorem dX6_obeys_109 : decode cX6_obeys 109 = .ok (.iload_n 1, 1) := dk_27 (dk_at dksX6_obeys_5 7 rfl rfl)
theorem dX6_obeys_110 : decode cX6_obeys 110 = .ok (.ireturn, 1) := dk_172 (dk_at dksX6_obeys_5 8 rfl rfl)
abbrev cX6_small : ByteArray := prog_24_method_126_code
def yX6_small : MethodName := ⟨RX6, "small", "(J)I"⟩
def dkwX6_small_0 : List UInt8 := [30, 9, 148, 155, 0, 11, 30, 20, 1, 211, 148, 158, 0, 7, 2, 167, 0, 5, 30, 136, 172]
abbrev dktX6_small_0 : List UInt8 := dkwX6_small_0 ++ []
theorem dksX6_small_0 : cX6_small.data.toList.drop 0 = dktX6_small_0 := by decide +kernel
theorem dX6_small_0 : decode cX6_small 0 = .ok (.lload_n 0, 1) := dk_30 (dk_at dksX6_small_0 0 rfl rfl)
theorem dX6_small_1 : decode cX6_small 1 = .ok (.lconst 0, 1) := dk_9 (dk_at dksX6_small_0 1 rfl rfl)
theorem dX6_small_2 : decode cX6_small 2 = .ok (.lcmp, 1) := dk_148 (dk_at dksX6_small_0 2 rfl rfl)
theorem dX6_small_3 : decode cX6_small 3 = .ok (.ifCond .lt 11, 3) := dk_155 0 11 (dk_at dksX6_small_0 3 rfl rfl)
theorem dX6_small_6 : decode cX6_small 6 = .ok (.lload_n 0, 1) := dk_30 (dk_at dksX6_small_0 6 rfl rfl)
theorem dX6_small_7 : decode cX6_small 7 = .ok (.ldc2_w 467, 3) := dk_20 1 211 (dk_at dksX6_small_0 7 rfl rfl)
theorem dX6_small_10 : decode cX6_small 10 = .ok (.lcmp, 1) := dk_148 (dk_at dksX6_small_0 10 rfl rfl)
theorem dX6_small_11 : decode cX6_small 11 = .ok (.ifCond .le 7, 3) := dk_158 0 7 (dk_at dksX6_small_0 11 rfl rfl)
theorem dX6_small_14 : decode cX6_small 14 = .ok (.iconst (-1), 1) := dk_2 (dk_at dksX6_small_0 14 rfl rfl)
theorem dX6_small_15 : decode cX6_small 15 = .ok (.goto 5, 3) := dk_167 0 5 (dk_at dksX6_small_0 15 rfl rfl)
theorem dX6_small_18 : decode cX6_small 18 = .ok (.lload_n 0, 1) := dk_30 (dk_at dksX6_small_0 18 rfl rfl)
theorem dX6_small_19 : decode cX6_small 19 = .ok (.l2i, 1) := dk_136 (dk_at dksX6_small_0 19 rfl rfl)
theorem dX6_small_20 : decode cX6_small 20 = .ok (.ireturn, 1) := dk_172 (dk_at dksX6_small_0 20 rfl rfl)
abbrev cX6_takesBack : ByteArray := prog_24_method_13_code
def yX6_takesBack : MethodName := ⟨RX6, "takesBack", "(I)V"⟩
def dkwX6_takesBack_1 : List UInt8 := [79, 132, 2, 1, 167, 255, 230, 177]
abbrev dktX6_takesBack_1 : List UInt8 := dkwX6_takesBack_1 ++ []
def dkwX6_takesBack_0 : List UInt8 := [3, 61, 28, 16, 25, 162, 0, 26, 42, 180, 0, 28, 28, 42, 180, 0, 38, 16, 25, 27, 104, 28, 96, 46]
abbrev dktX6_takesBack_0 : List UInt8 := dkwX6_takesBack_0 ++ dktX6_takesBack_1
theorem dksX6_takesBack_0 : cX6_takesBack.data.toList.drop 0 = dktX6_takesBack_0 := by decide +kernel
theorem dksX6_takesBack_1 : cX6_takesBack.data.toList.drop 24 = dktX6_takesBack_1 := dk_seg dksX6_takesBack_0 24 rfl rfl
theorem dX6_takesBack_0 : decode cX6_takesBack 0 = .ok (.iconst 0, 1) := dk_3 (dk_at dksX6_takesBack_0 0 rfl rfl)
theorem dX6_takesBack_1 : decode cX6_takesBack 1 = .ok (.istore_n 2, 1) := dk_61 (dk_at dksX6_takesBack_0 1 rfl rfl)
theorem dX6_takesBack_2 : decode cX6_takesBack 2 = .ok (.iload_n 2, 1) := dk_28 (dk_at dksX6_takesBack_0 2 rfl rfl)
theorem dX6_takesBack_3 : decode cX6_takesBack 3 = .ok (.bipush 25, 2) := dk_16 25 (dk_at dksX6_takesBack_0 3 rfl rfl)
theorem dX6_takesBack_5 : decode cX6_takesBack 5 = .ok (.if_icmp .ge 26, 3) := dk_162 0 26 (dk_at dksX6_takesBack_0 5 rfl rfl)
theorem dX6_takesBack_8 : decode cX6_takesBack 8 = .ok (.aload_n 0, 1) := dk_42 (dk_at dksX6_takesBack_0 8 rfl rfl)
theorem dX6_takesBack_9 : decode cX6_takesBack 9 = .ok (.getfield 28, 3) := dk_180 0 28 (dk_at dksX6_takesBack_0 9 rfl rfl)
theorem dX6_takesBack_12 : decode cX6_takesBack 12 = .ok (.iload_n 2, 1) := dk_28 (dk_at dksX6_takesBack_0 12 rfl rfl)
theorem dX6_takesBack_13 : decode cX6_takesBack 13 = .ok (.aload_n 0, 1) := dk_42 (dk_at dksX6_takesBack_0 13 rfl rfl)
theorem dX6_takesBack_14 : decode cX6_takesBack 14 = .ok (.getfield 38, 3) := dk_180 0 38 (dk_at dksX6_takesBack_0 14 rfl rfl)
theorem dX6_takesBack_17 : decode cX6_takesBack 17 = .ok (.bipush 25, 2) := dk_16 25 (dk_at dksX6_takesBack_0 17 rfl rfl)
theorem dX6_takesBack_19 : decode cX6_takesBack 19 = .ok (.iload_n 1, 1) := dk_27 (dk_at dksX6_takesBack_0 19 rfl rfl)
theorem dX6_takesBack_20 : decode cX6_takesBack 20 = .ok (.imul, 1) := dk_104 (dk_at dksX6_takesBack_0 20 rfl rfl)
theorem dX6_takesBack_21 : decode cX6_takesBack 21 = .ok (.iload_n 2, 1) := dk_28 (dk_at dksX6_takesBack_0 21 rfl rfl)
theorem dX6_takesBack_22 : decode cX6_takesBack 22 = .ok (.iadd, 1) := dk_96 (dk_at dksX6_takesBack_0 22 rfl rfl)
theorem dX6_takesBack_23 : decode cX6_takesBack 23 = .ok (.iaload, 1) := dk_46 (dk_at dksX6_takesBack_0 23 rfl rfl)
theorem dX6_takesBack_24 : decode cX6_takesBack 24 = .ok (.iastore, 1) := dk_79 (dk_at dksX6_takesBack_1 0 rfl rfl)
theorem dX6_takesBack_25 : decode cX6_takesBack 25 = .ok (.iinc 2 1, 3) := dk_132 2 1 (dk_at dksX6_takesBack_1 1 rfl rfl)
theorem dX6_takesBack_28 : decode cX6_takesBack 28 = .ok (.goto (-26), 3) := dk_167 255 230 (dk_at dksX6_takesBack_1 4 rfl rfl)
theorem dX6_takesBack_31 : decode cX6_takesBack 31 = .ok (.return_, 1) := dk_177 (dk_at dksX6_takesBack_1 7 rfl rfl)
abbrev cX6_weeks : ByteArray := prog_24_method_131_code
def yX6_weeks : MethodName := ⟨RX6, "weeks", "(II)I"⟩
def dkwX6_weeks_6 : List UInt8 := [3, 182, 1, 196, 42, 29, 182, 0, 14, 172]
abbrev dktX6_weeks_6 : List UInt8 := dkwX6_weeks_6 ++ []
def dkwX6_weeks_5 : List UInt8 := [162, 0, 23, 42, 180, 0, 100, 21, 4, 42, 180, 0, 28, 21, 4, 46, 79, 132, 4, 1, 167, 255, 232, 42]
abbrev dktX6_weeks_5 : List UInt8 := dkwX6_weeks_5 ++ dktX6_weeks_6
def dkwX6_weeks_4 : List UInt8 := [42, 180, 0, 28, 16, 24, 92, 46, 4, 96, 79, 132, 4, 1, 167, 255, 211, 3, 54, 4, 21, 4, 16, 25]
abbrev dktX6_weeks_4 : List UInt8 := dkwX6_weeks_4 ++ dktX6_weeks_5
def dkwX6_weeks_3 : List UInt8 := [180, 0, 28, 16, 24, 46, 17, 3, 231, 162, 0, 32, 42, 182, 1, 236, 29, 42, 5, 182, 1, 76, 96, 62]
abbrev dktX6_weeks_3 : List UInt8 := dkwX6_weeks_3 ++ dktX6_weeks_4
def dkwX6_weeks_2 : List UInt8 := [42, 182, 0, 112, 181, 0, 103, 42, 3, 182, 1, 187, 3, 62, 3, 54, 4, 21, 4, 28, 162, 0, 45, 42]
abbrev dktX6_weeks_2 : List UInt8 := dkwX6_weeks_2 ++ dktX6_weeks_3
def dkwX6_weeks_1 : List UInt8 := [182, 0, 106, 172, 42, 182, 0, 112, 154, 0, 10, 42, 16, 253, 182, 0, 106, 172, 42, 27, 181, 1, 226, 42]
abbrev dktX6_weeks_1 : List UInt8 := dkwX6_weeks_1 ++ dktX6_weeks_2
def dkwX6_weeks_0 : List UInt8 := [27, 3, 18, 173, 184, 0, 18, 153, 0, 13, 28, 4, 16, 60, 184, 0, 18, 154, 0, 9, 42, 2]
abbrev dktX6_weeks_0 : List UInt8 := dkwX6_weeks_0 ++ dktX6_weeks_1
theorem dksX6_weeks_0 : cX6_weeks.data.toList.drop 0 = dktX6_weeks_0 := by decide +kernel
theorem dksX6_weeks_1 : cX6_weeks.data.toList.drop 22 = dktX6_weeks_1 := dk_seg dksX6_weeks_0 22 rfl rfl
theorem dksX6_weeks_2 : cX6_weeks.data.toList.drop 46 = dktX6_weeks_2 := dk_seg dksX6_weeks_1 24 rfl rfl
theorem dksX6_weeks_3 : cX6_weeks.data.toList.drop 70 = dktX6_weeks_3 := dk_seg dksX6_weeks_2 24 rfl rfl
theorem dksX6_weeks_4 : cX6_weeks.data.toList.drop 94 = dktX6_weeks_4 := dk_seg dksX6_weeks_3 24 rfl rfl
theorem dksX6_weeks_5 : cX6_weeks.data.toList.drop 118 = dktX6_weeks_5 := dk_seg dksX6_weeks_4 24 rfl rfl
theorem dksX6_weeks_6 : cX6_weeks.data.toList.drop 142 = dktX6_weeks_6 := dk_seg dksX6_weeks_5 24 rfl rfl
theorem dX6_weeks_0 : decode cX6_weeks 0 = .ok (.iload_n 1, 1) := dk_27 (dk_at dksX6_weeks_0 0 rfl rfl)
theorem dX6_weeks_1 : decode cX6_weeks 1 = .ok (.iconst 0, 1) := dk_3 (dk_at dksX6_weeks_0 1 rfl rfl)
theorem dX6_weeks_2 : decode cX6_weeks 2 = .ok (.ldc 173, 2) := dk_18 173 (dk_at dksX6_weeks_0 2 rfl rfl)
theorem dX6_weeks_4 : decode cX6_weeks 4 = .ok (.invokestatic 18, 3) := dk_184 0 18 (dk_at dksX6_weeks_0 4 rfl rfl)
theorem dX6_weeks_7 : decode cX6_weeks 7 = .ok (.ifCond .eq 13, 3) := dk_153 0 13 (dk_at dksX6_weeks_0 7 rfl rfl)
theorem dX6_weeks_10 : decode cX6_weeks 10 = .ok (.iload_n 2, 1) := dk_28 (dk_at dksX6_weeks_0 10 rfl rfl)
theorem dX6_weeks_11 : decode cX6_weeks 11 = .ok (.iconst 1, 1) := dk_4 (dk_at dksX6_weeks_0 11 rfl rfl)
theorem dX6_weeks_12 : decode cX6_weeks 12 = .ok (.bipush 60, 2) := dk_16 60 (dk_at dksX6_weeks_0 12 rfl rfl)
theorem dX6_weeks_14 : decode cX6_weeks 14 = .ok (.invokestatic 18, 3) := dk_184 0 18 (dk_at dksX6_weeks_0 14 rfl rfl)
theorem dX6_weeks_17 : decode cX6_weeks 17 = .ok (.ifCond .ne 9, 3) := dk_154 0 9 (dk_at dksX6_weeks_0 17 rfl rfl)
theorem dX6_weeks_20 : decode cX6_weeks 20 = .ok (.aload_n 0, 1) := dk_42 (dk_at dksX6_weeks_0 20 rfl rfl)
theorem dX6_weeks_21 : decode cX6_weeks 21 = .ok (.iconst (-1), 1) := dk_2 (dk_at dksX6_weeks_0 21 rfl rfl)
theorem dX6_weeks_22 : decode cX6_weeks 22 = .ok (.invokevirtual 106, 3) := dk_182 0 106 (dk_at dksX6_weeks_1 0 rfl rfl)
theorem dX6_weeks_25 : decode cX6_weeks 25 = .ok (.ireturn, 1) := dk_172 (dk_at dksX6_weeks_1 3 rfl rfl)
theorem dX6_weeks_26 : decode cX6_weeks 26 = .ok (.aload_n 0, 1) := dk_42 (dk_at dksX6_weeks_1 4 rfl rfl)
theorem dX6_weeks_27 : decode cX6_weeks 27 = .ok (.invokevirtual 112, 3) := dk_182 0 112 (dk_at dksX6_weeks_1 5 rfl rfl)
theorem dX6_weeks_30 : decode cX6_weeks 30 = .ok (.ifCond .ne 10, 3) := dk_154 0 10 (dk_at dksX6_weeks_1 8 rfl rfl)
theorem dX6_weeks_33 : decode cX6_weeks 33 = .ok (.aload_n 0, 1) := dk_42 (dk_at dksX6_weeks_1 11 rfl rfl)
theorem dX6_weeks_34 : decode cX6_weeks 34 = .ok (.bipush (-3), 2) := dk_16 253 (dk_at dksX6_weeks_1 12 rfl rfl)
theorem dX6_weeks_36 : decode cX6_weeks 36 = .ok (.invokevirtual 106, 3) := dk_182 0 106 (dk_at dksX6_weeks_1 14 rfl rfl)
theorem dX6_weeks_39 : decode cX6_weeks 39 = .ok (.ireturn, 1) := dk_172 (dk_at dksX6_weeks_1 17 rfl rfl)
theorem dX6_weeks_40 : decode cX6_weeks 40 = .ok (.aload_n 0, 1) := dk_42 (dk_at dksX6_weeks_1 18 rfl rfl)
theorem dX6_weeks_41 : decode cX6_weeks 41 = .ok (.iload_n 1, 1) := dk_27 (dk_at dksX6_weeks_1 19 rfl rfl)
theorem dX6_weeks_42 : decode cX6_weeks 42 = .ok (.putfield 482, 3) := dk_181 1 226 (dk_at dksX6_weeks_1 20 rfl rfl)
theorem dX6_weeks_45 : decode cX6_weeks 45 = .ok (.aload_n 0, 1) := dk_42 (dk_at dksX6_weeks_1 23 rfl rfl)
theorem dX6_weeks_46 : decode cX6_weeks 46 = .ok (.aload_n 0, 1) := dk_42 (dk_at dksX6_weeks_2 0 rfl rfl)
theorem dX6_weeks_47 : decode cX6_weeks 47 = .ok (.invokevirtual 112, 3) := dk_182 0 112 (dk_at dksX6_weeks_2 1 rfl rfl)
theorem dX6_weeks_50 : decode cX6_weeks 50 = .ok (.putfield 103, 3) := dk_181 0 103 (dk_at dksX6_weeks_2 4 rfl rfl)
theorem dX6_weeks_53 : decode cX6_weeks 53 = .ok (.aload_n 0, 1) := dk_42 (dk_at dksX6_weeks_2 7 rfl rfl)
theorem dX6_weeks_54 : decode cX6_weeks 54 = .ok (.iconst 0, 1) := dk_3 (dk_at dksX6_weeks_2 8 rfl rfl)
theorem dX6_weeks_55 : decode cX6_weeks 55 = .ok (.invokevirtual 443, 3) := dk_182 1 187 (dk_at dksX6_weeks_2 9 rfl rfl)
theorem dX6_weeks_58 : decode cX6_weeks 58 = .ok (.iconst 0, 1) := dk_3 (dk_at dksX6_weeks_2 12 rfl rfl)
theorem dX6_weeks_59 : decode cX6_weeks 59 = .ok (.istore_n 3, 1) := dk_62 (dk_at dksX6_weeks_2 13 rfl rfl)
theorem dX6_weeks_60 : decode cX6_weeks 60 = .ok (.iconst 0, 1) := dk_3 (dk_at dksX6_weeks_2 14 rfl rfl)
theorem dX6_weeks_61 : decode cX6_weeks 61 = .ok (.istore 4, 2) := dk_54 4 (dk_at dksX6_weeks_2 15 rfl rfl)
theorem dX6_weeks_63 : decode cX6_weeks 63 = .ok (.iload 4, 2) := dk_21 4 (dk_at dksX6_weeks_2 17 rfl rfl)
theorem dX6_weeks_65 : decode cX6_weeks 65 = .ok (.iload_n 2, 1) := dk_28 (dk_at dksX6_weeks_2 19 rfl rfl)
theorem dX6_weeks_66 : decode cX6_weeks 66 = .ok (.if_icmp .ge 45, 3) := dk_162 0 45 (dk_at dksX6_weeks_2 20 rfl rfl)
theorem dX6_weeks_69 : decode cX6_weeks 69 = .ok (.aload_n 0, 1) := dk_42 (dk_at dksX6_weeks_2 23 rfl rfl)
theorem dX6_weeks_70 : decode cX6_weeks 70 = .ok (.getfield 28, 3) := dk_180 0 28 (dk_at dksX6_weeks_3 0 rfl rfl)
theorem dX6_weeks_73 : decode cX6_weeks 73 = .ok (.bipush 24, 2) := dk_16 24 (dk_at dksX6_weeks_3 3 rfl rfl)
theorem dX6_weeks_75 : decode cX6_weeks 75 = .ok (.iaload, 1) := dk_46 (dk_at dksX6_weeks_3 5 rfl rfl)
theorem dX6_weeks_76 : decode cX6_weeks 76 = .ok (.sipush 999, 3) := dk_17 3 231 (dk_at dksX6_weeks_3 6 rfl rfl)
theorem dX6_weeks_79 : decode cX6_weeks 79 = .ok (.if_icmp .ge 32, 3) := dk_162 0 32 (dk_at dksX6_weeks_3 9 rfl rfl)
theorem dX6_weeks_82 : decode cX6_weeks 82 = .ok (.aload_n 0, 1) := dk_42 (dk_at dksX6_weeks_3 12 rfl rfl)
theorem dX6_weeks_83 : decode cX6_weeks 83 = .ok (.invokevirtual 492, 3) := dk_182 1 236 (dk_at dksX6_weeks_3 13 rfl rfl)
theorem dX6_weeks_86 : decode cX6_weeks 86 = .ok (.iload_n 3, 1) := dk_29 (dk_at dksX6_weeks_3 16 rfl rfl)
theorem dX6_weeks_87 : decode cX6_weeks 87 = .ok (.aload_n 0, 1) := dk_42 (dk_at dksX6_weeks_3 17 rfl rfl)
theorem dX6_weeks_88 : decode cX6_weeks 88 = .ok (.iconst 2, 1) := dk_5 (dk_at dksX6_weeks_3 18 rfl rfl)
theorem dX6_weeks_89 : decode cX6_weeks 89 = .ok (.invokevirtual 332, 3) := dk_182 1 76 (dk_at dksX6_weeks_3 19 rfl rfl)
theorem dX6_weeks_92 : decode cX6_weeks 92 = .ok (.iadd, 1) := dk_96 (dk_at dksX6_weeks_3 22 rfl rfl)
theorem dX6_weeks_93 : decode cX6_weeks 93 = .ok (.istore_n 3, 1) := dk_62 (dk_at dksX6_weeks_3 23 rfl rfl)
theorem dX6_weeks_94 : decode cX6_weeks 94 = .ok (.aload_n 0, 1) := dk_42 (dk_at dksX6_weeks_4 0 rfl rfl)
theorem dX6_weeks_95 : decode cX6_weeks 95 = .ok (.getfield 28, 3) := dk_180 0 28 (dk_at dksX6_weeks_4 1 rfl rfl)
theorem dX6_weeks_98 : decode cX6_weeks 98 = .ok (.bipush 24, 2) := dk_16 24 (dk_at dksX6_weeks_4 4 rfl rfl)
theorem dX6_weeks_100 : decode cX6_weeks 100 = .ok (.dup2, 1) := dk_92 (dk_at dksX6_weeks_4 6 rfl rfl)
theorem dX6_weeks_101 : decode cX6_weeks 101 = .ok (.iaload, 1) := dk_46 (dk_at dksX6_weeks_4 7 rfl rfl)
theorem dX6_weeks_102 : decode cX6_weeks 102 = .ok (.iconst 1, 1) := dk_4 (dk_at dksX6_weeks_4 8 rfl rfl)
theorem dX6_weeks_103 : decode cX6_weeks 103 = .ok (.iadd, 1) := dk_96 (dk_at dksX6_weeks_4 9 rfl rfl)
theorem dX6_weeks_104 : decode cX6_weeks 104 = .ok (.iastore, 1) := dk_79 (dk_at dksX6_weeks_4 10 rfl rfl)
theorem dX6_weeks_105 : decode cX6_weeks 105 = .ok (.iinc 4 1, 3) := dk_132 4 1 (dk_at dksX6_weeks_4 11 rfl rfl)
theorem dX6_weeks_108 : decode cX6_weeks 108 = .ok (.goto (-45), 3) := dk_167 255 211 (dk_at dksX6_weeks_4 14 rfl rfl)
theorem dX6_weeks_111 : decode cX6_weeks 111 = .ok (.iconst 0, 1) := dk_3 (dk_at dksX6_weeks_4 17 rfl rfl)
theorem dX6_weeks_112 : decode cX6_weeks 112 = .ok (.istore 4, 2) := dk_54 4 (dk_at dksX6_weeks_4 18 rfl rfl)
theorem dX6_weeks_114 : decode cX6_weeks 114 = .ok (.iload 4, 2) := dk_21 4 (dk_at dksX6_weeks_4 20 rfl rfl)
theorem dX6_weeks_116 : decode cX6_weeks 116 = .ok (.bipush 25, 2) := dk_16 25 (dk_at dksX6_weeks_4 22 rfl rfl)
theorem dX6_weeks_118 : decode cX6_weeks 118 = .ok (.if_icmp .ge 23, 3) := dk_162 0 23 (dk_at dksX6_weeks_5 0 rfl rfl)
theorem dX6_weeks_121 : decode cX6_weeks 121 = .ok (.aload_n 0, 1) := dk_42 (dk_at dksX6_weeks_5 3 rfl rfl)
theorem dX6_weeks_122 : decode cX6_weeks 122 = .ok (.getfield 100, 3) := dk_180 0 100 (dk_at dksX6_weeks_5 4 rfl rfl)
theorem dX6_weeks_125 : decode cX6_weeks 125 = .ok (.iload 4, 2) := dk_21 4 (dk_at dksX6_weeks_5 7 rfl rfl)
theorem dX6_weeks_127 : decode cX6_weeks 127 = .ok (.aload_n 0, 1) := dk_42 (dk_at dksX6_weeks_5 9 rfl rfl)
theorem dX6_weeks_128 : decode cX6_weeks 128 = .ok (.getfield 28, 3) := dk_180 0 28 (dk_at dksX6_weeks_5 10 rfl rfl)
theorem dX6_weeks_131 : decode cX6_weeks 131 = .ok (.iload 4, 2) := dk_21 4 (dk_at dksX6_weeks_5 13 rfl rfl)
theorem dX6_weeks_133 : decode cX6_weeks 133 = .ok (.iaload, 1) := dk_46 (dk_at dksX6_weeks_5 15 rfl rfl)
theorem dX6_weeks_134 : decode cX6_weeks 134 = .ok (.iastore, 1) := dk_79 (dk_at dksX6_weeks_5 16 rfl rfl)
theorem dX6_weeks_135 : decode cX6_weeks 135 = .ok (.iinc 4 1, 3) := dk_132 4 1 (dk_at dksX6_weeks_5 17 rfl rfl)
theorem dX6_weeks_138 : decode cX6_weeks 138 = .ok (.goto (-24), 3) := dk_167 255 232 (dk_at dksX6_weeks_5 20 rfl rfl)
theorem dX6_weeks_141 : decode cX6_weeks 141 = .ok (.aload_n 0, 1) := dk_42 (dk_at dksX6_weeks_5 23 rfl rfl)
theorem dX6_weeks_142 : decode cX6_weeks 142 = .ok (.iconst 0, 1) := dk_3 (dk_at dksX6_weeks_6 0 rfl rfl)
theorem dX6_weeks_143 : decode cX6_weeks 143 = .ok (.invokevirtual 452, 3) := dk_182 1 196 (dk_at dksX6_weeks_6 1 rfl rfl)
theorem dX6_weeks_146 : decode cX6_weeks 146 = .ok (.aload_n 0, 1) := dk_42 (dk_at dksX6_weeks_6 4 rfl rfl)
theorem dX6_weeks_147 : decode cX6_weeks 147 = .ok (.iload_n 3, 1) := dk_29 (dk_at dksX6_weeks_6 5 rfl rfl)
theorem dX6_weeks_148 : decode cX6_weeks 148 = .ok (.invokevirtual 14, 3) := dk_182 0 14 (dk_at dksX6_weeks_6 6 rfl rfl)
theorem dX6_weeks_151 : decode cX6_weeks 151 = .ok (.ireturn, 1) := dk_172 (dk_at dksX6_weeks_6 9 rfl rfl)
abbrev cX6_drawnAct : ByteArray := prog_24_method_130_code
def yX6_drawnAct : MethodName := ⟨RX6, "drawnAct", "()V"⟩
def dkwX6_drawnAct_3 : List UInt8 := [3, 27, 96, 28, 79, 177]
abbrev dktX6_drawnAct_3 : List UInt8 := dkwX6_drawnAct_3 ++ []
def dkwX6_drawnAct_2 : List UInt8 := [42, 180, 0, 28, 16, 12, 27, 96, 28, 79, 167, 0, 19, 42, 182, 1, 82, 167, 0, 12, 42, 180, 0, 28]
abbrev dktX6_drawnAct_2 : List UInt8 := dkwX6_drawnAct_2 ++ dktX6_drawnAct_3
def dkwX6_drawnAct_1 : List UInt8 := [171, 0, 0, 0, 45, 0, 0, 0, 2, 0, 0, 0, 2, 0, 0, 0, 25, 0, 0, 0, 3, 0, 0, 0, 38]
abbrev dktX6_drawnAct_1 : List UInt8 := dkwX6_drawnAct_1 ++ dktX6_drawnAct_2
def dkwX6_drawnAct_0 : List UInt8 := [42, 42, 182, 0, 112, 182, 1, 233, 60, 42, 16, 25, 182, 1, 233, 61, 42, 7, 182, 1, 233, 62, 29]
abbrev dktX6_drawnAct_0 : List UInt8 := dkwX6_drawnAct_0 ++ dktX6_drawnAct_1
theorem dksX6_drawnAct_0 : cX6_drawnAct.data.toList.drop 0 = dktX6_drawnAct_0 := by decide +kernel
theorem dksX6_drawnAct_1 : cX6_drawnAct.data.toList.drop 23 = dktX6_drawnAct_1 := dk_seg dksX6_drawnAct_0 23 rfl rfl
theorem dksX6_drawnAct_2 : cX6_drawnAct.data.toList.drop 48 = dktX6_drawnAct_2 := dk_seg dksX6_drawnAct_1 25 rfl rfl
theorem dksX6_drawnAct_3 : cX6_drawnAct.data.toList.drop 72 = dktX6_drawnAct_3 := dk_seg dksX6_drawnAct_2 24 rfl rfl
theorem dX6_drawnAct_0 : decode cX6_drawnAct 0 = .ok (.aload_n 0, 1) := dk_42 (dk_at dksX6_drawnAct_0 0 rfl rfl)
theorem dX6_drawnAct_1 : decode cX6_drawnAct 1 = .ok (.aload_n 0, 1) := dk_42 (dk_at dksX6_drawnAct_0 1 rfl rfl)
theorem dX6_drawnAct_2 : decode cX6_drawnAct 2 = .ok (.invokevirtual 112, 3) := dk_182 0 112 (dk_at dksX6_drawnAct_0 2 rfl rfl)
theorem dX6_drawnAct_5 : decode cX6_drawnAct 5 = .ok (.invokevirtual 489, 3) := dk_182 1 233 (dk_at dksX6_drawnAct_0 5 rfl rfl)
theorem dX6_drawnAct_8 : decode cX6_drawnAct 8 = .ok (.istore_n 1, 1) := dk_60 (dk_at dksX6_drawnAct_0 8 rfl rfl)
theorem dX6_drawnAct_9 : decode cX6_drawnAct 9 = .ok (.aload_n 0, 1) := dk_42 (dk_at dksX6_drawnAct_0 9 rfl rfl)
theorem dX6_drawnAct_10 : decode cX6_drawnAct 10 = .ok (.bipush 25, 2) := dk_16 25 (dk_at dksX6_drawnAct_0 10 rfl rfl)
theorem dX6_drawnAct_12 : decode cX6_drawnAct 12 = .ok (.invokevirtual 489, 3) := dk_182 1 233 (dk_at dksX6_drawnAct_0 12 rfl rfl)
theorem dX6_drawnAct_15 : decode cX6_drawnAct 15 = .ok (.istore_n 2, 1) := dk_61 (dk_at dksX6_drawnAct_0 15 rfl rfl)
theorem dX6_drawnAct_16 : decode cX6_drawnAct 16 = .ok (.aload_n 0, 1) := dk_42 (dk_at dksX6_drawnAct_0 16 rfl rfl)
theorem dX6_drawnAct_17 : decode cX6_drawnAct 17 = .ok (.iconst 4, 1) := dk_7 (dk_at dksX6_drawnAct_0 17 rfl rfl)
theorem dX6_drawnAct_18 : decode cX6_drawnAct 18 = .ok (.invokevirtual 489, 3) := dk_182 1 233 (dk_at dksX6_drawnAct_0 18 rfl rfl)
theorem dX6_drawnAct_21 : decode cX6_drawnAct 21 = .ok (.istore_n 3, 1) := dk_62 (dk_at dksX6_drawnAct_0 21 rfl rfl)
theorem dX6_drawnAct_22 : decode cX6_drawnAct 22 = .ok (.iload_n 3, 1) := dk_29 (dk_at dksX6_drawnAct_0 22 rfl rfl)
theorem dX6_drawnAct_23 : decode cX6_drawnAct 23 = .ok (.lookupswitch 45 #[(2, 25), (3, 38)], 25) := by decide +kernel
theorem dX6_drawnAct_48 : decode cX6_drawnAct 48 = .ok (.aload_n 0, 1) := dk_42 (dk_at dksX6_drawnAct_2 0 rfl rfl)
theorem dX6_drawnAct_49 : decode cX6_drawnAct 49 = .ok (.getfield 28, 3) := dk_180 0 28 (dk_at dksX6_drawnAct_2 1 rfl rfl)
theorem dX6_drawnAct_52 : decode cX6_drawnAct 52 = .ok (.bipush 12, 2) := dk_16 12 (dk_at dksX6_drawnAct_2 4 rfl rfl)
theorem dX6_drawnAct_54 : decode cX6_drawnAct 54 = .ok (.iload_n 1, 1) := dk_27 (dk_at dksX6_drawnAct_2 6 rfl rfl)
theorem dX6_drawnAct_55 : decode cX6_drawnAct 55 = .ok (.iadd, 1) := dk_96 (dk_at dksX6_drawnAct_2 7 rfl rfl)
theorem dX6_drawnAct_56 : decode cX6_drawnAct 56 = .ok (.iload_n 2, 1) := dk_28 (dk_at dksX6_drawnAct_2 8 rfl rfl)
theorem dX6_drawnAct_57 : decode cX6_drawnAct 57 = .ok (.iastore, 1) := dk_79 (dk_at dksX6_drawnAct_2 9 rfl rfl)
theorem dX6_drawnAct_58 : decode cX6_drawnAct 58 = .ok (.goto 19, 3) := dk_167 0 19 (dk_at dksX6_drawnAct_2 10 rfl rfl)
theorem dX6_drawnAct_61 : decode cX6_drawnAct 61 = .ok (.aload_n 0, 1) := dk_42 (dk_at dksX6_drawnAct_2 13 rfl rfl)
theorem dX6_drawnAct_62 : decode cX6_drawnAct 62 = .ok (.invokevirtual 338, 3) := dk_182 1 82 (dk_at dksX6_drawnAct_2 14 rfl rfl)
theorem dX6_drawnAct_65 : decode cX6_drawnAct 65 = .ok (.goto 12, 3) := dk_167 0 12 (dk_at dksX6_drawnAct_2 17 rfl rfl)
theorem dX6_drawnAct_68 : decode cX6_drawnAct 68 = .ok (.aload_n 0, 1) := dk_42 (dk_at dksX6_drawnAct_2 20 rfl rfl)
theorem dX6_drawnAct_69 : decode cX6_drawnAct 69 = .ok (.getfield 28, 3) := dk_180 0 28 (dk_at dksX6_drawnAct_2 21 rfl rfl)
theorem dX6_drawnAct_72 : decode cX6_drawnAct 72 = .ok (.iconst 0, 1) := dk_3 (dk_at dksX6_drawnAct_3 0 rfl rfl)
theorem dX6_drawnAct_73 : decode cX6_drawnAct 73 = .ok (.iload_n 1, 1) := dk_27 (dk_at dksX6_drawnAct_3 1 rfl rfl)
theorem dX6_drawnAct_74 : decode cX6_drawnAct 74 = .ok (.iadd, 1) := dk_96 (dk_at dksX6_drawnAct_3 2 rfl rfl)
theorem dX6_drawnAct_75 : decode cX6_drawnAct 75 = .ok (.iload_n 2, 1) := dk_28 (dk_at dksX6_drawnAct_3 3 rfl rfl)
theorem dX6_drawnAct_76 : decode cX6_drawnAct 76 = .ok (.iastore, 1) := dk_79 (dk_at dksX6_drawnAct_3 4 rfl rfl)
theorem dX6_drawnAct_77 : decode cX6_drawnAct 77 = .ok (.return_, 1) := dk_177 (dk_at dksX6_drawnAct_3 5 rfl rfl)
abbrev cX6_draws : ByteArray := prog_24_method_129_code
def yX6_draws : MethodName := ⟨RX6, "draws", "(I)I"⟩
def dkwX6_draws_1 : List UInt8 := [180, 1, 226, 27, 112, 172]
abbrev dktX6_draws_1 : List UInt8 := dkwX6_draws_1 ++ []
def dkwX6_draws_0 : List UInt8 := [42, 20, 1, 224, 42, 180, 1, 226, 133, 105, 20, 1, 229, 97, 20, 1, 231, 113, 136, 181, 1, 226, 42]
abbrev dktX6_draws_0 : List UInt8 := dkwX6_draws_0 ++ dktX6_draws_1
theorem dksX6_draws_0 : cX6_draws.data.toList.drop 0 = dktX6_draws_0 := by decide +kernel
theorem dksX6_draws_1 : cX6_draws.data.toList.drop 23 = dktX6_draws_1 := dk_seg dksX6_draws_0 23 rfl rfl
theorem dX6_draws_0 : decode cX6_draws 0 = .ok (.aload_n 0, 1) := dk_42 (dk_at dksX6_draws_0 0 rfl rfl)
theorem dX6_draws_1 : decode cX6_draws 1 = .ok (.ldc2_w 480, 3) := dk_20 1 224 (dk_at dksX6_draws_0 1 rfl rfl)
theorem dX6_draws_4 : decode cX6_draws 4 = .ok (.aload_n 0, 1) := dk_42 (dk_at dksX6_draws_0 4 rfl rfl)
theorem dX6_draws_5 : decode cX6_draws 5 = .ok (.getfield 482, 3) := dk_180 1 226 (dk_at dksX6_draws_0 5 rfl rfl)
theorem dX6_draws_8 : decode cX6_draws 8 = .ok (.i2l, 1) := dk_133 (dk_at dksX6_draws_0 8 rfl rfl)
theorem dX6_draws_9 : decode cX6_draws 9 = .ok (.lmul, 1) := dk_105 (dk_at dksX6_draws_0 9 rfl rfl)
theorem dX6_draws_10 : decode cX6_draws 10 = .ok (.ldc2_w 485, 3) := dk_20 1 229 (dk_at dksX6_draws_0 10 rfl rfl)
theorem dX6_draws_13 : decode cX6_draws 13 = .ok (.ladd, 1) := dk_97 (dk_at dksX6_draws_0 13 rfl rfl)
theorem dX6_draws_14 : decode cX6_draws 14 = .ok (.ldc2_w 487, 3) := dk_20 1 231 (dk_at dksX6_draws_0 14 rfl rfl)
theorem dX6_draws_17 : decode cX6_draws 17 = .ok (.lrem, 1) := dk_113 (dk_at dksX6_draws_0 17 rfl rfl)
theorem dX6_draws_18 : decode cX6_draws 18 = .ok (.l2i, 1) := dk_136 (dk_at dksX6_draws_0 18 rfl rfl)
theorem dX6_draws_19 : decode cX6_draws 19 = .ok (.putfield 482, 3) := dk_181 1 226 (dk_at dksX6_draws_0 19 rfl rfl)
theorem dX6_draws_22 : decode cX6_draws 22 = .ok (.aload_n 0, 1) := dk_42 (dk_at dksX6_draws_0 22 rfl rfl)
theorem dX6_draws_23 : decode cX6_draws 23 = .ok (.getfield 482, 3) := dk_180 1 226 (dk_at dksX6_draws_1 0 rfl rfl)
theorem dX6_draws_26 : decode cX6_draws 26 = .ok (.iload_n 1, 1) := dk_27 (dk_at dksX6_draws_1 3 rfl rfl)
theorem dX6_draws_27 : decode cX6_draws 27 = .ok (.irem, 1) := dk_112 (dk_at dksX6_draws_1 4 rfl rfl)
theorem dX6_draws_28 : decode cX6_draws 28 = .ok (.ireturn, 1) := dk_172 (dk_at dksX6_draws_1 5 rfl rfl)
abbrev cX6_drawn : ByteArray := prog_24_method_132_code
def yX6_drawn : MethodName := ⟨RX6, "drawn", "(II)I"⟩
def dkwX6_drawn_1 : List UInt8 := [172, 42, 180, 0, 100, 28, 154, 0, 8, 16, 12, 167, 0, 4, 3, 27, 96, 46, 172]
abbrev dktX6_drawn_1 : List UInt8 := dkwX6_drawn_1 ++ []
def dkwX6_drawn_0 : List UInt8 := [27, 3, 42, 180, 0, 103, 4, 100, 184, 0, 18, 153, 0, 12, 28, 3, 4, 184, 0, 18, 154, 0, 5, 2]
abbrev dktX6_drawn_0 : List UInt8 := dkwX6_drawn_0 ++ dktX6_drawn_1
theorem dksX6_drawn_0 : cX6_drawn.data.toList.drop 0 = dktX6_drawn_0 := by decide +kernel
theorem dksX6_drawn_1 : cX6_drawn.data.toList.drop 24 = dktX6_drawn_1 := dk_seg dksX6_drawn_0 24 rfl rfl
theorem dX6_drawn_0 : decode cX6_drawn 0 = .ok (.iload_n 1, 1) := dk_27 (dk_at dksX6_drawn_0 0 rfl rfl)
theorem dX6_drawn_1 : decode cX6_drawn 1 = .ok (.iconst 0, 1) := dk_3 (dk_at dksX6_drawn_0 1 rfl rfl)
theorem dX6_drawn_2 : decode cX6_drawn 2 = .ok (.aload_n 0, 1) := dk_42 (dk_at dksX6_drawn_0 2 rfl rfl)
theorem dX6_drawn_3 : decode cX6_drawn 3 = .ok (.getfield 103, 3) := dk_180 0 103 (dk_at dksX6_drawn_0 3 rfl rfl)
theorem dX6_drawn_6 : decode cX6_drawn 6 = .ok (.iconst 1, 1) := dk_4 (dk_at dksX6_drawn_0 6 rfl rfl)
theorem dX6_drawn_7 : decode cX6_drawn 7 = .ok (.isub, 1) := dk_100 (dk_at dksX6_drawn_0 7 rfl rfl)
theorem dX6_drawn_8 : decode cX6_drawn 8 = .ok (.invokestatic 18, 3) := dk_184 0 18 (dk_at dksX6_drawn_0 8 rfl rfl)
theorem dX6_drawn_11 : decode cX6_drawn 11 = .ok (.ifCond .eq 12, 3) := dk_153 0 12 (dk_at dksX6_drawn_0 11 rfl rfl)
theorem dX6_drawn_14 : decode cX6_drawn 14 = .ok (.iload_n 2, 1) := dk_28 (dk_at dksX6_drawn_0 14 rfl rfl)
theorem dX6_drawn_15 : decode cX6_drawn 15 = .ok (.iconst 0, 1) := dk_3 (dk_at dksX6_drawn_0 15 rfl rfl)
theorem dX6_drawn_16 : decode cX6_drawn 16 = .ok (.iconst 1, 1) := dk_4 (dk_at dksX6_drawn_0 16 rfl rfl)
theorem dX6_drawn_17 : decode cX6_drawn 17 = .ok (.invokestatic 18, 3) := dk_184 0 18 (dk_at dksX6_drawn_0 17 rfl rfl)
theorem dX6_drawn_20 : decode cX6_drawn 20 = .ok (.ifCond .ne 5, 3) := dk_154 0 5 (dk_at dksX6_drawn_0 20 rfl rfl)
theorem dX6_drawn_23 : decode cX6_drawn 23 = .ok (.iconst (-1), 1) := dk_2 (dk_at dksX6_drawn_0 23 rfl rfl)
theorem dX6_drawn_24 : decode cX6_drawn 24 = .ok (.ireturn, 1) := dk_172 (dk_at dksX6_drawn_1 0 rfl rfl)
theorem dX6_drawn_25 : decode cX6_drawn 25 = .ok (.aload_n 0, 1) := dk_42 (dk_at dksX6_drawn_1 1 rfl rfl)
theorem dX6_drawn_26 : decode cX6_drawn 26 = .ok (.getfield 100, 3) := dk_180 0 100 (dk_at dksX6_drawn_1 2 rfl rfl)
theorem dX6_drawn_29 : decode cX6_drawn 29 = .ok (.iload_n 2, 1) := dk_28 (dk_at dksX6_drawn_1 5 rfl rfl)
theorem dX6_drawn_30 : decode cX6_drawn 30 = .ok (.ifCond .ne 8, 3) := dk_154 0 8 (dk_at dksX6_drawn_1 6 rfl rfl)
theorem dX6_drawn_33 : decode cX6_drawn 33 = .ok (.bipush 12, 2) := dk_16 12 (dk_at dksX6_drawn_1 9 rfl rfl)
theorem dX6_drawn_35 : decode cX6_drawn 35 = .ok (.goto 4, 3) := dk_167 0 4 (dk_at dksX6_drawn_1 11 rfl rfl)
theorem dX6_drawn_38 : decode cX6_drawn 38 = .ok (.iconst 0, 1) := dk_3 (dk_at dksX6_drawn_1 14 rfl rfl)
theorem dX6_drawn_39 : decode cX6_drawn 39 = .ok (.iload_n 1, 1) := dk_27 (dk_at dksX6_drawn_1 15 rfl rfl)
theorem dX6_drawn_40 : decode cX6_drawn 40 = .ok (.iadd, 1) := dk_96 (dk_at dksX6_drawn_1 16 rfl rfl)
theorem dX6_drawn_41 : decode cX6_drawn 41 = .ok (.iaload, 1) := dk_46 (dk_at dksX6_drawn_1 17 rfl rfl)
theorem dX6_drawn_42 : decode cX6_drawn 42 = .ok (.ireturn, 1) := dk_172 (dk_at dksX6_drawn_1 18 rfl rfl)
abbrev cX6_count : ByteArray := prog_24_method_134_code
def yX6_count : MethodName := ⟨RX6, "count", "(I)I"⟩
def dkwX6_count_4 : List UInt8 := [16, 43, 46, 172, 42, 180, 0, 11, 172, 42, 180, 0, 154, 172, 42, 180, 0, 28, 16, 44, 46, 172, 2, 172]
abbrev dktX6_count_4 : List UInt8 := dkwX6_count_4 ++ []
def dkwX6_count_3 : List UInt8 := [42, 182, 0, 112, 172, 42, 5, 182, 1, 76, 172, 42, 180, 0, 28, 16, 42, 46, 172, 42, 180, 0, 28]
abbrev dktX6_count_3 : List UInt8 := dkwX6_count_3 ++ dktX6_count_4
def dkwX6_count_2 : List UInt8 := [170, 0, 0, 0, 0, 0, 108, 0, 0, 0, 0, 0, 0, 0, 11, 0, 0, 0, 63, 0, 0, 0, 68, 0, 0, 0, 74, 0, 0, 0, 82, 0, 0, 0, 90, 0, 0, 0, 95, 0, 0, 0, 108, 0, 0, 0, 108, 0, 0, 0, 108, 0, 0, 0, 108, 0, 0, 0, 108, 0, 0, 0, 100]
abbrev dktX6_count_2 : List UInt8 := dkwX6_count_2 ++ dktX6_count_3
def dkwX6_count_1 : List UInt8 := [16, 16, 184, 0, 18, 153, 0, 16, 42, 180, 0, 28, 27, 16, 12, 100, 184, 0, 151, 46, 172, 27]
abbrev dktX6_count_1 : List UInt8 := dkwX6_count_1 ++ dktX6_count_2
def dkwX6_count_0 : List UInt8 := [27, 16, 6, 16, 10, 184, 0, 18, 153, 0, 12, 42, 27, 16, 6, 100, 182, 1, 239, 172, 27, 16, 12]
abbrev dktX6_count_0 : List UInt8 := dkwX6_count_0 ++ dktX6_count_1
theorem dksX6_count_0 : cX6_count.data.toList.drop 0 = dktX6_count_0 := by decide +kernel
theorem dksX6_count_1 : cX6_count.data.toList.drop 23 = dktX6_count_1 := dk_seg dksX6_count_0 23 rfl rfl
theorem dksX6_count_2 : cX6_count.data.toList.drop 45 = dktX6_count_2 := dk_seg dksX6_count_1 22 rfl rfl
theorem dksX6_count_3 : cX6_count.data.toList.drop 108 = dktX6_count_3 := dk_seg dksX6_count_2 63 rfl rfl
theorem dksX6_count_4 : cX6_count.data.toList.drop 131 = dktX6_count_4 := dk_seg dksX6_count_3 23 rfl rfl
theorem dX6_count_0 : decode cX6_count 0 = .ok (.iload_n 1, 1) := dk_27 (dk_at dksX6_count_0 0 rfl rfl)
theorem dX6_count_1 : decode cX6_count 1 = .ok (.bipush 6, 2) := dk_16 6 (dk_at dksX6_count_0 1 rfl rfl)
theorem dX6_count_3 : decode cX6_count 3 = .ok (.bipush 10, 2) := dk_16 10 (dk_at dksX6_count_0 3 rfl rfl)
theorem dX6_count_5 : decode cX6_count 5 = .ok (.invokestatic 18, 3) := dk_184 0 18 (dk_at dksX6_count_0 5 rfl rfl)
theorem dX6_count_8 : decode cX6_count 8 = .ok (.ifCond .eq 12, 3) := dk_153 0 12 (dk_at dksX6_count_0 8 rfl rfl)
theorem dX6_count_11 : decode cX6_count 11 = .ok (.aload_n 0, 1) := dk_42 (dk_at dksX6_count_0 11 rfl rfl)
theorem dX6_count_12 : decode cX6_count 12 = .ok (.iload_n 1, 1) := dk_27 (dk_at dksX6_count_0 12 rfl rfl)
theorem dX6_count_13 : decode cX6_count 13 = .ok (.bipush 6, 2) := dk_16 6 (dk_at dksX6_count_0 13 rfl rfl)
theorem dX6_count_15 : decode cX6_count 15 = .ok (.isub, 1) := dk_100 (dk_at dksX6_count_0 15 rfl rfl)
theorem dX6_count_16 : decode cX6_count 16 = .ok (.invokevirtual 495, 3) := dk_182 1 239 (dk_at dksX6_count_0 16 rfl rfl)
theorem dX6_count_19 : decode cX6_count 19 = .ok (.ireturn, 1) := dk_172 (dk_at dksX6_count_0 19 rfl rfl)
theorem dX6_count_20 : decode cX6_count 20 = .ok (.iload_n 1, 1) := dk_27 (dk_at dksX6_count_0 20 rfl rfl)
theorem dX6_count_21 : decode cX6_count 21 = .ok (.bipush 12, 2) := dk_16 12 (dk_at dksX6_count_0 21 rfl rfl)
theorem dX6_count_23 : decode cX6_count 23 = .ok (.bipush 16, 2) := dk_16 16 (dk_at dksX6_count_1 0 rfl rfl)
theorem dX6_count_25 : decode cX6_count 25 = .ok (.invokestatic 18, 3) := dk_184 0 18 (dk_at dksX6_count_1 2 rfl rfl)
theorem dX6_count_28 : decode cX6_count 28 = .ok (.ifCond .eq 16, 3) := dk_153 0 16 (dk_at dksX6_count_1 5 rfl rfl)
theorem dX6_count_31 : decode cX6_count 31 = .ok (.aload_n 0, 1) := dk_42 (dk_at dksX6_count_1 8 rfl rfl)
theorem dX6_count_32 : decode cX6_count 32 = .ok (.getfield 28, 3) := dk_180 0 28 (dk_at dksX6_count_1 9 rfl rfl)
theorem dX6_count_35 : decode cX6_count 35 = .ok (.iload_n 1, 1) := dk_27 (dk_at dksX6_count_1 12 rfl rfl)
theorem dX6_count_36 : decode cX6_count 36 = .ok (.bipush 12, 2) := dk_16 12 (dk_at dksX6_count_1 13 rfl rfl)
theorem dX6_count_38 : decode cX6_count 38 = .ok (.isub, 1) := dk_100 (dk_at dksX6_count_1 15 rfl rfl)
theorem dX6_count_39 : decode cX6_count 39 = .ok (.invokestatic 151, 3) := dk_184 0 151 (dk_at dksX6_count_1 16 rfl rfl)
theorem dX6_count_42 : decode cX6_count 42 = .ok (.iaload, 1) := dk_46 (dk_at dksX6_count_1 19 rfl rfl)
theorem dX6_count_43 : decode cX6_count 43 = .ok (.ireturn, 1) := dk_172 (dk_at dksX6_count_1 20 rfl rfl)
theorem dX6_count_44 : decode cX6_count 44 = .ok (.iload_n 1, 1) := dk_27 (dk_at dksX6_count_1 21 rfl rfl)
theorem dX6_count_45 : decode cX6_count 45 = .ok (.tableswitch 108 0 11 #[63, 68, 74, 82, 90, 95, 108, 108, 108, 108, 108, 100], 63) := by decide +kernel
theorem dX6_count_108 : decode cX6_count 108 = .ok (.aload_n 0, 1) := dk_42 (dk_at dksX6_count_3 0 rfl rfl)
theorem dX6_count_109 : decode cX6_count 109 = .ok (.invokevirtual 112, 3) := dk_182 0 112 (dk_at dksX6_count_3 1 rfl rfl)
theorem dX6_count_112 : decode cX6_count 112 = .ok (.ireturn, 1) := dk_172 (dk_at dksX6_count_3 4 rfl rfl)
theorem dX6_count_113 : decode cX6_count 113 = .ok (.aload_n 0, 1) := dk_42 (dk_at dksX6_count_3 5 rfl rfl)
theorem dX6_count_114 : decode cX6_count 114 = .ok (.iconst 2, 1) := dk_5 (dk_at dksX6_count_3 6 rfl rfl)
theorem dX6_count_115 : decode cX6_count 115 = .ok (.invokevirtual 332, 3) := dk_182 1 76 (dk_at dksX6_count_3 7 rfl rfl)
theorem dX6_count_118 : decode cX6_count 118 = .ok (.ireturn, 1) := dk_172 (dk_at dksX6_count_3 10 rfl rfl)
theorem dX6_count_119 : decode cX6_count 119 = .ok (.aload_n 0, 1) := dk_42 (dk_at dksX6_count_3 11 rfl rfl)
theorem dX6_count_120 : decode cX6_count 120 = .ok (.getfield 28, 3) := dk_180 0 28 (dk_at dksX6_count_3 12 rfl rfl)
theorem dX6_count_123 : decode cX6_count 123 = .ok (.bipush 42, 2) := dk_16 42 (dk_at dksX6_count_3 15 rfl rfl)
theorem dX6_count_125 : decode cX6_count 125 = .ok (.iaload, 1) := dk_46 (dk_at dksX6_count_3 17 rfl rfl)
theorem dX6_count_126 : decode cX6_count 126 = .ok (.ireturn, 1) := dk_172 (dk_at dksX6_count_3 18 rfl rfl)
theorem dX6_count_127 : decode cX6_count 127 = .ok (.aload_n 0, 1) := dk_42 (dk_at dksX6_count_3 19 rfl rfl)
theorem dX6_count_128 : decode cX6_count 128 = .ok (.getfield 28, 3) := dk_180 0 28 (dk_at dksX6_count_3 20 rfl rfl)
theorem dX6_count_131 : decode cX6_count 131 = .ok (.bipush 43, 2) := dk_16 43 (dk_at dksX6_count_4 0 rfl rfl)
theorem dX6_count_133 : decode cX6_count 133 = .ok (.iaload, 1) := dk_46 (dk_at dksX6_count_4 2 rfl rfl)
theorem dX6_count_134 : decode cX6_count 134 = .ok (.ireturn, 1) := dk_172 (dk_at dksX6_count_4 3 rfl rfl)
theorem dX6_count_135 : decode cX6_count 135 = .ok (.aload_n 0, 1) := dk_42 (dk_at dksX6_count_4 4 rfl rfl)
theorem dX6_count_136 : decode cX6_count 136 = .ok (.getfield 11, 3) := dk_180 0 11 (dk_at dksX6_count_4 5 rfl rfl)
theorem dX6_count_139 : decode cX6_count 139 = .ok (.ireturn, 1) := dk_172 (dk_at dksX6_count_4 8 rfl rfl)
theorem dX6_count_140 : decode cX6_count 140 = .ok (.aload_n 0, 1) := dk_42 (dk_at dksX6_count_4 9 rfl rfl)
theorem dX6_count_141 : decode cX6_count 141 = .ok (.getfield 154, 3) := dk_180 0 154 (dk_at dksX6_count_4 10 rfl rfl)
theorem dX6_count_144 : decode cX6_count 144 = .ok (.ireturn, 1) := dk_172 (dk_at dksX6_count_4 13 rfl rfl)
theorem dX6_count_145 : decode cX6_count 145 = .ok (.aload_n 0, 1) := dk_42 (dk_at dksX6_count_4 14 rfl rfl)
theorem dX6_count_146 : decode cX6_count 146 = .ok (.getfield 28, 3) := dk_180 0 28 (dk_at dksX6_count_4 15 rfl rfl)
theorem dX6_count_149 : decode cX6_count 149 = .ok (.bipush 44, 2) := dk_16 44 (dk_at dksX6_count_4 18 rfl rfl)
theorem dX6_count_151 : decode cX6_count 151 = .ok (.iaload, 1) := dk_46 (dk_at dksX6_count_4 20 rfl rfl)
theorem dX6_count_152 : decode cX6_count 152 = .ok (.ireturn, 1) := dk_172 (dk_at dksX6_count_4 21 rfl rfl)
theorem dX6_count_153 : decode cX6_count 153 = .ok (.iconst (-1), 1) := dk_2 (dk_at dksX6_count_4 22 rfl rfl)
theorem dX6_count_154 : decode cX6_count 154 = .ok (.ireturn, 1) := dk_172 (dk_at dksX6_count_4 23 rfl rfl)
abbrev cX6_refusals : ByteArray := prog_24_method_133_code
def yX6_refusals : MethodName := ⟨RX6, "refusals", "(I)I"⟩
def dkwX6_refusals_1 : List UInt8 := [172]
abbrev dktX6_refusals_1 : List UInt8 := dkwX6_refusals_1 ++ []
def dkwX6_refusals_0 : List UInt8 := [27, 6, 162, 0, 14, 42, 180, 0, 7, 27, 4, 96, 46, 167, 0, 11, 42, 180, 0, 7, 27, 5, 96, 46]
abbrev dktX6_refusals_0 : List UInt8 := dkwX6_refusals_0 ++ dktX6_refusals_1
theorem dksX6_refusals_0 : cX6_refusals.data.toList.drop 0 = dktX6_refusals_0 := by decide +kernel
theorem dksX6_refusals_1 : cX6_refusals.data.toList.drop 24 = dktX6_refusals_1 := dk_seg dksX6_refusals_0 24 rfl rfl
theorem dX6_refusals_0 : decode cX6_refusals 0 = .ok (.iload_n 1, 1) := dk_27 (dk_at dksX6_refusals_0 0 rfl rfl)
theorem dX6_refusals_1 : decode cX6_refusals 1 = .ok (.iconst 3, 1) := dk_6 (dk_at dksX6_refusals_0 1 rfl rfl)
theorem dX6_refusals_2 : decode cX6_refusals 2 = .ok (.if_icmp .ge 14, 3) := dk_162 0 14 (dk_at dksX6_refusals_0 2 rfl rfl)
theorem dX6_refusals_5 : decode cX6_refusals 5 = .ok (.aload_n 0, 1) := dk_42 (dk_at dksX6_refusals_0 5 rfl rfl)
theorem dX6_refusals_6 : decode cX6_refusals 6 = .ok (.getfield 7, 3) := dk_180 0 7 (dk_at dksX6_refusals_0 6 rfl rfl)
theorem dX6_refusals_9 : decode cX6_refusals 9 = .ok (.iload_n 1, 1) := dk_27 (dk_at dksX6_refusals_0 9 rfl rfl)
theorem dX6_refusals_10 : decode cX6_refusals 10 = .ok (.iconst 1, 1) := dk_4 (dk_at dksX6_refusals_0 10 rfl rfl)
theorem dX6_refusals_11 : decode cX6_refusals 11 = .ok (.iadd, 1) := dk_96 (dk_at dksX6_refusals_0 11 rfl rfl)
theorem dX6_refusals_12 : decode cX6_refusals 12 = .ok (.iaload, 1) := dk_46 (dk_at dksX6_refusals_0 12 rfl rfl)
theorem dX6_refusals_13 : decode cX6_refusals 13 = .ok (.goto 11, 3) := dk_167 0 11 (dk_at dksX6_refusals_0 13 rfl rfl)
theorem dX6_refusals_16 : decode cX6_refusals 16 = .ok (.aload_n 0, 1) := dk_42 (dk_at dksX6_refusals_0 16 rfl rfl)
theorem dX6_refusals_17 : decode cX6_refusals 17 = .ok (.getfield 7, 3) := dk_180 0 7 (dk_at dksX6_refusals_0 17 rfl rfl)
theorem dX6_refusals_20 : decode cX6_refusals 20 = .ok (.iload_n 1, 1) := dk_27 (dk_at dksX6_refusals_0 20 rfl rfl)
theorem dX6_refusals_21 : decode cX6_refusals 21 = .ok (.iconst 2, 1) := dk_5 (dk_at dksX6_refusals_0 21 rfl rfl)
theorem dX6_refusals_22 : decode cX6_refusals 22 = .ok (.iadd, 1) := dk_96 (dk_at dksX6_refusals_0 22 rfl rfl)
theorem dX6_refusals_23 : decode cX6_refusals 23 = .ok (.iaload, 1) := dk_46 (dk_at dksX6_refusals_0 23 rfl rfl)
theorem dX6_refusals_24 : decode cX6_refusals 24 = .ok (.ireturn, 1) := dk_172 (dk_at dksX6_refusals_1 0 rfl rfl)
abbrev cX6_status : ByteArray := prog_24_method_135_code
def yX6_status : MethodName := ⟨RX6, "status", "()I"⟩
theorem dX6_status_0 : decode cX6_status 0 = .ok (.aload_n 0, 1) := by decide +kernel
theorem dX6_status_1 : decode cX6_status 1 = .ok (.getfield 3, 3) := by decide +kernel
theorem dX6_status_4 : decode cX6_status 4 = .ok (.ireturn, 1) := by decide +kernel
theorem q139 : (Jvm.Cond.initialized "CounterDeskModel") ∈ lw_all := lw_g (lw_at lw_m1 10 rfl) rfl
theorem q1243 : (Jvm.Cond.selects "CounterDeskModel" ({ cls := "java/lang/Object", name := "getClass", desc := "()Ljava/lang/Class;" } : Jvm.MethodName) ({ cls := "java/lang/Object", name := "getClass", desc := "()Ljava/lang/Class;" } : Jvm.MethodName)) ∈ lw_all := lw_g (lw_at lw_m5 154 rfl) rfl
theorem q1597 : (Jvm.Cond.instantiable "CounterDeskModel" (51 : Nat)) ∈ lw_all := lw_g (lw_at lw_m7 28 rfl) rfl
theorem q1599 : (Jvm.Cond.instanceMethod ({ cls := "CounterDeskModel", name := "<init>", desc := "()V" } : Jvm.MethodName)) ∈ lw_all := lw_g (lw_at lw_m7 30 rfl) rfl
theorem q1600 : (Jvm.Cond.code ({ cls := "CounterDeskModel", name := "<init>", desc := "()V" } : Jvm.MethodName) prog_24_method_11_code (1 : Nat) (Option.none : Option Jvm.ClassFile.FieldType)) ∈ lw_all := lw_g (lw_at lw_m7 31 rfl) rfl
theorem q1601 : (Jvm.Cond.methodLink "CounterDeskModel" (22 : Nat) ({ cls := "java/lang/Object", name := "<init>", desc := "()V" } : Jvm.MethodName)) ∈ lw_all := lw_g (lw_at lw_m7 32 rfl) rfl
theorem q1602 : (Jvm.Cond.fieldLink "CounterDeskModel" (3 : Nat) "CounterDeskModel" "status" "I") ∈ lw_all := lw_g (lw_at lw_m7 33 rfl) rfl
theorem q1603 : (Jvm.Cond.fieldLink "CounterDeskModel" (7 : Nat) "CounterDeskModel" "refused" "[I") ∈ lw_all := lw_g (lw_at lw_m7 34 rfl) rfl
theorem q1604 : (Jvm.Cond.fieldLink "CounterDeskModel" (28 : Nat) "CounterDeskModel" "kept" "[I") ∈ lw_all := lw_g (lw_at lw_m7 35 rfl) rfl
theorem q1605 : (Jvm.Cond.fieldLink "CounterDeskModel" (31 : Nat) "CounterDeskModel" "images" "[I") ∈ lw_all := lw_g (lw_at lw_m7 36 rfl) rfl
theorem q1606 : (Jvm.Cond.fieldLink "CounterDeskModel" (34 : Nat) "CounterDeskModel" "hasImage" "[Z") ∈ lw_all := lw_g (lw_at lw_m7 37 rfl) rfl
theorem q1607 : (Jvm.Cond.fieldLink "CounterDeskModel" (38 : Nat) "CounterDeskModel" "aside" "[I") ∈ lw_all := lw_g (lw_at lw_m7 38 rfl) rfl
theorem q1608 : (Jvm.Cond.fieldLink "CounterDeskModel" (157 : Nat) "CounterDeskModel" "blots0" "I") ∈ lw_all := lw_g (lw_at lw_m7 39 rfl) rfl
theorem q1609 : (Jvm.Cond.fieldLink "CounterDeskModel" (41 : Nat) "CounterDeskModel" "words" "[B") ∈ lw_all := lw_g (lw_at lw_m7 40 rfl) rfl
theorem q1610 : (Jvm.Cond.fieldLink "CounterDeskModel" (230 : Nat) "CounterDeskModel" "firstWord" "I") ∈ lw_all := lw_g (lw_at lw_m7 41 rfl) rfl
theorem q1611 : (Jvm.Cond.fieldLink "CounterDeskModel" (233 : Nat) "CounterDeskModel" "lastWord" "I") ∈ lw_all := lw_g (lw_at lw_m7 42 rfl) rfl
theorem q1612 : (Jvm.Cond.fieldLink "CounterDeskModel" (204 : Nat) "CounterDeskModel" "isOrders" "Z") ∈ lw_all := lw_g (lw_at lw_m7 43 rfl) rfl
theorem q1613 : (Jvm.Cond.fieldLink "CounterDeskModel" (45 : Nat) "CounterDeskModel" "tape" "[B") ∈ lw_all := lw_g (lw_at lw_m7 44 rfl) rfl
theorem q1614 : (Jvm.Cond.fieldLink "CounterDeskModel" (48 : Nat) "CounterDeskModel" "five" "[I") ∈ lw_all := lw_g (lw_at lw_m7 45 rfl) rfl
theorem q1615 : (Jvm.Cond.fieldLink "CounterDeskModel" (154 : Nat) "CounterDeskModel" "taped" "I") ∈ lw_all := lw_g (lw_at lw_m7 46 rfl) rfl
theorem q1616 : (Jvm.Cond.fieldLink "CounterDeskModel" (51 : Nat) "CounterDeskModel" "fault" "I") ∈ lw_all := lw_g (lw_at lw_m7 47 rfl) rfl
theorem q1617 : (Jvm.Cond.fieldLink "CounterDeskModel" (54 : Nat) "CounterDeskModel" "code" "[I") ∈ lw_all := lw_g (lw_at lw_m7 48 rfl) rfl
theorem q1618 : (Jvm.Cond.fieldLink "CounterDeskModel" (57 : Nat) "CounterDeskModel" "value" "[I") ∈ lw_all := lw_g (lw_at lw_m7 49 rfl) rfl
theorem q1619 : (Jvm.Cond.fieldLink "CounterDeskModel" (60 : Nat) "CounterDeskModel" "placed" "[I") ∈ lw_all := lw_g (lw_at lw_m7 50 rfl) rfl
theorem q1620 : (Jvm.Cond.fieldLink "CounterDeskModel" (160 : Nat) "CounterDeskModel" "tokens" "I") ∈ lw_all := lw_g (lw_at lw_m7 51 rfl) rfl
theorem q1621 : (Jvm.Cond.fieldLink "CounterDeskModel" (180 : Nat) "CounterDeskModel" "token" "I") ∈ lw_all := lw_g (lw_at lw_m7 52 rfl) rfl
theorem q1622 : (Jvm.Cond.fieldLink "CounterDeskModel" (189 : Nat) "CounterDeskModel" "leaves" "I") ∈ lw_all := lw_g (lw_at lw_m7 53 rfl) rfl
theorem q1623 : (Jvm.Cond.fieldLink "CounterDeskModel" (174 : Nat) "CounterDeskModel" "bad" "I") ∈ lw_all := lw_g (lw_at lw_m7 54 rfl) rfl
theorem q1624 : (Jvm.Cond.fieldLink "CounterDeskModel" (261 : Nat) "CounterDeskModel" "go" "I") ∈ lw_all := lw_g (lw_at lw_m7 55 rfl) rfl
theorem q1625 : (Jvm.Cond.fieldLink "CounterDeskModel" (258 : Nat) "CounterDeskModel" "goEnd" "I") ∈ lw_all := lw_g (lw_at lw_m7 56 rfl) rfl
theorem q1626 : (Jvm.Cond.fieldLink "CounterDeskModel" (271 : Nat) "CounterDeskModel" "broken" "Z") ∈ lw_all := lw_g (lw_at lw_m7 57 rfl) rfl
theorem q1627 : (Jvm.Cond.fieldLink "CounterDeskModel" (291 : Nat) "CounterDeskModel" "inOrders" "Z") ∈ lw_all := lw_g (lw_at lw_m7 58 rfl) rfl
theorem q1628 : (Jvm.Cond.fieldLink "CounterDeskModel" (63 : Nat) "CounterDeskModel" "asked" "[I") ∈ lw_all := lw_g (lw_at lw_m7 59 rfl) rfl
theorem q1629 : (Jvm.Cond.fieldLink "CounterDeskModel" (297 : Nat) "CounterDeskModel" "orderDone" "I") ∈ lw_all := lw_g (lw_at lw_m7 60 rfl) rfl
theorem q1630 : (Jvm.Cond.fieldLink "CounterDeskModel" (300 : Nat) "CounterDeskModel" "orderLatest" "I") ∈ lw_all := lw_g (lw_at lw_m7 61 rfl) rfl
theorem q1631 : (Jvm.Cond.fieldLink "CounterDeskModel" (303 : Nat) "CounterDeskModel" "orderBarred" "I") ∈ lw_all := lw_g (lw_at lw_m7 62 rfl) rfl
theorem q1632 : (Jvm.Cond.fieldLink "CounterDeskModel" (306 : Nat) "CounterDeskModel" "orderCosts" "I") ∈ lw_all := lw_g (lw_at lw_m7 63 rfl) rfl
theorem q1633 : (Jvm.Cond.fieldLink "CounterDeskModel" (66 : Nat) "CounterDeskModel" "left0" "[I") ∈ lw_all := lw_g (lw_at lw_m7 64 rfl) rfl
theorem q1634 : (Jvm.Cond.fieldLink "CounterDeskModel" (69 : Nat) "CounterDeskModel" "leftAhead" "[I") ∈ lw_all := lw_g (lw_at lw_m7 65 rfl) rfl
theorem q1635 : (Jvm.Cond.fieldLink "CounterDeskModel" (11 : Nat) "CounterDeskModel" "undoMany" "I") ∈ lw_all := lw_g (lw_at lw_m7 66 rfl) rfl
theorem q1636 : (Jvm.Cond.fieldLink "CounterDeskModel" (72 : Nat) "CounterDeskModel" "price" "[I") ∈ lw_all := lw_g (lw_at lw_m7 67 rfl) rfl
theorem q1637 : (Jvm.Cond.fieldLink "CounterDeskModel" (75 : Nat) "CounterDeskModel" "gain" "[I") ∈ lw_all := lw_g (lw_at lw_m7 68 rfl) rfl
theorem q1638 : (Jvm.Cond.fieldLink "CounterDeskModel" (78 : Nat) "CounterDeskModel" "can" "[Z") ∈ lw_all := lw_g (lw_at lw_m7 69 rfl) rfl
theorem q1639 : (Jvm.Cond.fieldLink "CounterDeskModel" (81 : Nat) "CounterDeskModel" "rest" "[I") ∈ lw_all := lw_g (lw_at lw_m7 70 rfl) rfl
theorem q1640 : (Jvm.Cond.fieldLink "CounterDeskModel" (84 : Nat) "CounterDeskModel" "waysRest" "[J") ∈ lw_all := lw_g (lw_at lw_m7 71 rfl) rfl
theorem q1641 : (Jvm.Cond.fieldLink "CounterDeskModel" (88 : Nat) "CounterDeskModel" "facts" "[I") ∈ lw_all := lw_g (lw_at lw_m7 72 rfl) rfl
theorem q1642 : (Jvm.Cond.fieldLink "CounterDeskModel" (91 : Nat) "CounterDeskModel" "shares" "[J") ∈ lw_all := lw_g (lw_at lw_m7 73 rfl) rfl
theorem q1643 : (Jvm.Cond.fieldLink "CounterDeskModel" (94 : Nat) "CounterDeskModel" "stopped0" "I") ∈ lw_all := lw_g (lw_at lw_m7 74 rfl) rfl
theorem q1644 : (Jvm.Cond.fieldLink "CounterDeskModel" (446 : Nat) "CounterDeskModel" "orderAt" "I") ∈ lw_all := lw_g (lw_at lw_m7 75 rfl) rfl
theorem q1645 : (Jvm.Cond.fieldLink "CounterDeskModel" (461 : Nat) "CounterDeskModel" "howOften" "I") ∈ lw_all := lw_g (lw_at lw_m7 76 rfl) rfl
theorem q1646 : (Jvm.Cond.fieldLink "CounterDeskModel" (455 : Nat) "CounterDeskModel" "head" "I") ∈ lw_all := lw_g (lw_at lw_m7 77 rfl) rfl
theorem q1647 : (Jvm.Cond.fieldLink "CounterDeskModel" (458 : Nat) "CounterDeskModel" "sumsAre" "Z") ∈ lw_all := lw_g (lw_at lw_m7 78 rfl) rfl
theorem q1648 : (Jvm.Cond.fieldLink "CounterDeskModel" (464 : Nat) "CounterDeskModel" "testIs" "Z") ∈ lw_all := lw_g (lw_at lw_m7 79 rfl) rfl
theorem q1649 : (Jvm.Cond.fieldLink "CounterDeskModel" (97 : Nat) "CounterDeskModel" "sums" "[J") ∈ lw_all := lw_g (lw_at lw_m7 80 rfl) rfl
theorem q1650 : (Jvm.Cond.fieldLink "CounterDeskModel" (100 : Nat) "CounterDeskModel" "drawnMoved" "[I") ∈ lw_all := lw_g (lw_at lw_m7 81 rfl) rfl
theorem q1651 : (Jvm.Cond.fieldLink "CounterDeskModel" (103 : Nat) "CounterDeskModel" "drawnMany" "I") ∈ lw_all := lw_g (lw_at lw_m7 82 rfl) rfl
theorem q1652 : (Jvm.Cond.fieldLink "CounterDeskModel" (482 : Nat) "CounterDeskModel" "latest" "I") ∈ lw_all := lw_g (lw_at lw_m7 83 rfl) rfl
theorem q1653 : (Jvm.Cond.lays "CounterDeskModel" "CounterDeskModel" "status" "I") ∈ lw_all := lw_g (lw_at lw_m7 84 rfl) rfl
theorem q1654 : (Jvm.Cond.soleField "CounterDeskModel" "status") ∈ lw_all := lw_g (lw_at lw_m7 85 rfl) rfl
theorem q1655 : (Jvm.Cond.laysFinal "CounterDeskModel" "CounterDeskModel" "refused" "[I") ∈ lw_all := lw_g (lw_at lw_m7 86 rfl) rfl
theorem q1656 : (Jvm.Cond.soleField "CounterDeskModel" "refused") ∈ lw_all := lw_g (lw_at lw_m7 87 rfl) rfl
theorem q1657 : (Jvm.Cond.laysFinal "CounterDeskModel" "CounterDeskModel" "kept" "[I") ∈ lw_all := lw_g (lw_at lw_m7 88 rfl) rfl
theorem q1658 : (Jvm.Cond.soleField "CounterDeskModel" "kept") ∈ lw_all := lw_g (lw_at lw_m7 89 rfl) rfl
theorem q1659 : (Jvm.Cond.laysFinal "CounterDeskModel" "CounterDeskModel" "images" "[I") ∈ lw_all := lw_g (lw_at lw_m7 90 rfl) rfl
theorem q1660 : (Jvm.Cond.soleField "CounterDeskModel" "images") ∈ lw_all := lw_g (lw_at lw_m7 91 rfl) rfl
theorem q1661 : (Jvm.Cond.laysFinal "CounterDeskModel" "CounterDeskModel" "hasImage" "[Z") ∈ lw_all := lw_g (lw_at lw_m7 92 rfl) rfl
theorem q1662 : (Jvm.Cond.soleField "CounterDeskModel" "hasImage") ∈ lw_all := lw_g (lw_at lw_m7 93 rfl) rfl
theorem q1663 : (Jvm.Cond.laysFinal "CounterDeskModel" "CounterDeskModel" "aside" "[I") ∈ lw_all := lw_g (lw_at lw_m7 94 rfl) rfl
theorem q1664 : (Jvm.Cond.soleField "CounterDeskModel" "aside") ∈ lw_all := lw_g (lw_at lw_m7 95 rfl) rfl
theorem q1665 : (Jvm.Cond.lays "CounterDeskModel" "CounterDeskModel" "blots0" "I") ∈ lw_all := lw_g (lw_at lw_m7 96 rfl) rfl
theorem q1666 : (Jvm.Cond.soleField "CounterDeskModel" "blots0") ∈ lw_all := lw_g (lw_at lw_m7 97 rfl) rfl
theorem q1667 : (Jvm.Cond.laysFinal "CounterDeskModel" "CounterDeskModel" "words" "[B") ∈ lw_all := lw_g (lw_at lw_m7 98 rfl) rfl
theorem q1668 : (Jvm.Cond.soleField "CounterDeskModel" "words") ∈ lw_all := lw_g (lw_at lw_m7 99 rfl) rfl
theorem q1669 : (Jvm.Cond.lays "CounterDeskModel" "CounterDeskModel" "firstWord" "I") ∈ lw_all := lw_g (lw_at lw_m7 100 rfl) rfl
theorem q1670 : (Jvm.Cond.soleField "CounterDeskModel" "firstWord") ∈ lw_all := lw_g (lw_at lw_m7 101 rfl) rfl
theorem q1671 : (Jvm.Cond.lays "CounterDeskModel" "CounterDeskModel" "lastWord" "I") ∈ lw_all := lw_g (lw_at lw_m7 102 rfl) rfl
theorem q1672 : (Jvm.Cond.soleField "CounterDeskModel" "lastWord") ∈ lw_all := lw_g (lw_at lw_m7 103 rfl) rfl
theorem q1673 : (Jvm.Cond.lays "CounterDeskModel" "CounterDeskModel" "isOrders" "Z") ∈ lw_all := lw_g (lw_at lw_m7 104 rfl) rfl
theorem q1674 : (Jvm.Cond.soleField "CounterDeskModel" "isOrders") ∈ lw_all := lw_g (lw_at lw_m7 105 rfl) rfl
theorem q1675 : (Jvm.Cond.laysFinal "CounterDeskModel" "CounterDeskModel" "tape" "[B") ∈ lw_all := lw_g (lw_at lw_m7 106 rfl) rfl
theorem q1676 : (Jvm.Cond.soleField "CounterDeskModel" "tape") ∈ lw_all := lw_g (lw_at lw_m7 107 rfl) rfl
theorem q1677 : (Jvm.Cond.laysFinal "CounterDeskModel" "CounterDeskModel" "five" "[I") ∈ lw_all := lw_g (lw_at lw_m7 108 rfl) rfl
theorem q1678 : (Jvm.Cond.soleField "CounterDeskModel" "five") ∈ lw_all := lw_g (lw_at lw_m7 109 rfl) rfl
theorem q1679 : (Jvm.Cond.lays "CounterDeskModel" "CounterDeskModel" "taped" "I") ∈ lw_all := lw_g (lw_at lw_m7 110 rfl) rfl
theorem q1680 : (Jvm.Cond.soleField "CounterDeskModel" "taped") ∈ lw_all := lw_g (lw_at lw_m7 111 rfl) rfl
theorem q1681 : (Jvm.Cond.lays "CounterDeskModel" "CounterDeskModel" "fault" "I") ∈ lw_all := lw_g (lw_at lw_m7 112 rfl) rfl
theorem q1682 : (Jvm.Cond.soleField "CounterDeskModel" "fault") ∈ lw_all := lw_g (lw_at lw_m7 113 rfl) rfl
theorem q1683 : (Jvm.Cond.laysFinal "CounterDeskModel" "CounterDeskModel" "code" "[I") ∈ lw_all := lw_g (lw_at lw_m7 114 rfl) rfl
theorem q1684 : (Jvm.Cond.soleField "CounterDeskModel" "code") ∈ lw_all := lw_g (lw_at lw_m7 115 rfl) rfl
theorem q1685 : (Jvm.Cond.laysFinal "CounterDeskModel" "CounterDeskModel" "value" "[I") ∈ lw_all := lw_g (lw_at lw_m7 116 rfl) rfl
theorem q1686 : (Jvm.Cond.soleField "CounterDeskModel" "value") ∈ lw_all := lw_g (lw_at lw_m7 117 rfl) rfl
theorem q1687 : (Jvm.Cond.laysFinal "CounterDeskModel" "CounterDeskModel" "placed" "[I") ∈ lw_all := lw_g (lw_at lw_m7 118 rfl) rfl
theorem q1688 : (Jvm.Cond.soleField "CounterDeskModel" "placed") ∈ lw_all := lw_g (lw_at lw_m7 119 rfl) rfl
theorem q1689 : (Jvm.Cond.lays "CounterDeskModel" "CounterDeskModel" "tokens" "I") ∈ lw_all := lw_g (lw_at lw_m7 120 rfl) rfl
theorem q1690 : (Jvm.Cond.soleField "CounterDeskModel" "tokens") ∈ lw_all := lw_g (lw_at lw_m7 121 rfl) rfl
theorem q1691 : (Jvm.Cond.lays "CounterDeskModel" "CounterDeskModel" "token" "I") ∈ lw_all := lw_g (lw_at lw_m7 122 rfl) rfl
theorem q1692 : (Jvm.Cond.soleField "CounterDeskModel" "token") ∈ lw_all := lw_g (lw_at lw_m7 123 rfl) rfl
theorem q1693 : (Jvm.Cond.lays "CounterDeskModel" "CounterDeskModel" "leaves" "I") ∈ lw_all := lw_g (lw_at lw_m7 124 rfl) rfl
theorem q1694 : (Jvm.Cond.soleField "CounterDeskModel" "leaves") ∈ lw_all := lw_g (lw_at lw_m7 125 rfl) rfl
theorem q1695 : (Jvm.Cond.lays "CounterDeskModel" "CounterDeskModel" "bad" "I") ∈ lw_all := lw_g (lw_at lw_m7 126 rfl) rfl
theorem q1696 : (Jvm.Cond.soleField "CounterDeskModel" "bad") ∈ lw_all := lw_g (lw_at lw_m7 127 rfl) rfl
theorem q1697 : (Jvm.Cond.lays "CounterDeskModel" "CounterDeskModel" "go" "I") ∈ lw_all := lw_g (lw_at lw_m7 128 rfl) rfl
theorem q1698 : (Jvm.Cond.soleField "CounterDeskModel" "go") ∈ lw_all := lw_g (lw_at lw_m7 129 rfl) rfl
theorem q1699 : (Jvm.Cond.lays "CounterDeskModel" "CounterDeskModel" "goEnd" "I") ∈ lw_all := lw_g (lw_at lw_m7 130 rfl) rfl
theorem q1700 : (Jvm.Cond.soleField "CounterDeskModel" "goEnd") ∈ lw_all := lw_g (lw_at lw_m7 131 rfl) rfl
theorem q1701 : (Jvm.Cond.lays "CounterDeskModel" "CounterDeskModel" "broken" "Z") ∈ lw_all := lw_g (lw_at lw_m7 132 rfl) rfl
theorem q1702 : (Jvm.Cond.soleField "CounterDeskModel" "broken") ∈ lw_all := lw_g (lw_at lw_m7 133 rfl) rfl
theorem q1703 : (Jvm.Cond.lays "CounterDeskModel" "CounterDeskModel" "inOrders" "Z") ∈ lw_all := lw_g (lw_at lw_m7 134 rfl) rfl
theorem q1704 : (Jvm.Cond.soleField "CounterDeskModel" "inOrders") ∈ lw_all := lw_g (lw_at lw_m7 135 rfl) rfl
theorem q1705 : (Jvm.Cond.laysFinal "CounterDeskModel" "CounterDeskModel" "asked" "[I") ∈ lw_all := lw_g (lw_at lw_m7 136 rfl) rfl
theorem q1706 : (Jvm.Cond.soleField "CounterDeskModel" "asked") ∈ lw_all := lw_g (lw_at lw_m7 137 rfl) rfl
theorem q1707 : (Jvm.Cond.lays "CounterDeskModel" "CounterDeskModel" "orderDone" "I") ∈ lw_all := lw_g (lw_at lw_m7 138 rfl) rfl
theorem q1708 : (Jvm.Cond.soleField "CounterDeskModel" "orderDone") ∈ lw_all := lw_g (lw_at lw_m7 139 rfl) rfl
theorem q1709 : (Jvm.Cond.lays "CounterDeskModel" "CounterDeskModel" "orderLatest" "I") ∈ lw_all := lw_g (lw_at lw_m7 140 rfl) rfl
theorem q1710 : (Jvm.Cond.soleField "CounterDeskModel" "orderLatest") ∈ lw_all := lw_g (lw_at lw_m7 141 rfl) rfl
theorem q1711 : (Jvm.Cond.lays "CounterDeskModel" "CounterDeskModel" "orderBarred" "I") ∈ lw_all := lw_g (lw_at lw_m7 142 rfl) rfl
theorem q1712 : (Jvm.Cond.soleField "CounterDeskModel" "orderBarred") ∈ lw_all := lw_g (lw_at lw_m7 143 rfl) rfl
theorem q1713 : (Jvm.Cond.lays "CounterDeskModel" "CounterDeskModel" "orderCosts" "I") ∈ lw_all := lw_g (lw_at lw_m7 144 rfl) rfl
theorem q1714 : (Jvm.Cond.soleField "CounterDeskModel" "orderCosts") ∈ lw_all := lw_g (lw_at lw_m7 145 rfl) rfl
theorem q1715 : (Jvm.Cond.laysFinal "CounterDeskModel" "CounterDeskModel" "left0" "[I") ∈ lw_all := lw_g (lw_at lw_m7 146 rfl) rfl
theorem q1716 : (Jvm.Cond.soleField "CounterDeskModel" "left0") ∈ lw_all := lw_g (lw_at lw_m7 147 rfl) rfl
theorem q1717 : (Jvm.Cond.laysFinal "CounterDeskModel" "CounterDeskModel" "leftAhead" "[I") ∈ lw_all := lw_g (lw_at lw_m7 148 rfl) rfl
theorem q1718 : (Jvm.Cond.soleField "CounterDeskModel" "leftAhead") ∈ lw_all := lw_g (lw_at lw_m7 149 rfl) rfl
theorem q1719 : (Jvm.Cond.lays "CounterDeskModel" "CounterDeskModel" "undoMany" "I") ∈ lw_all := lw_g (lw_at lw_m7 150 rfl) rfl
theorem q1720 : (Jvm.Cond.soleField "CounterDeskModel" "undoMany") ∈ lw_all := lw_g (lw_at lw_m7 151 rfl) rfl
theorem q1721 : (Jvm.Cond.laysFinal "CounterDeskModel" "CounterDeskModel" "price" "[I") ∈ lw_all := lw_g (lw_at lw_m7 152 rfl) rfl
theorem q1722 : (Jvm.Cond.soleField "CounterDeskModel" "price") ∈ lw_all := lw_g (lw_at lw_m7 153 rfl) rfl
theorem q1723 : (Jvm.Cond.laysFinal "CounterDeskModel" "CounterDeskModel" "gain" "[I") ∈ lw_all := lw_g (lw_at lw_m7 154 rfl) rfl
theorem q1724 : (Jvm.Cond.soleField "CounterDeskModel" "gain") ∈ lw_all := lw_g (lw_at lw_m7 155 rfl) rfl
theorem q1725 : (Jvm.Cond.laysFinal "CounterDeskModel" "CounterDeskModel" "can" "[Z") ∈ lw_all := lw_g (lw_at lw_m7 156 rfl) rfl
theorem q1726 : (Jvm.Cond.soleField "CounterDeskModel" "can") ∈ lw_all := lw_g (lw_at lw_m7 157 rfl) rfl
theorem q1727 : (Jvm.Cond.laysFinal "CounterDeskModel" "CounterDeskModel" "rest" "[I") ∈ lw_all := lw_g (lw_at lw_m7 158 rfl) rfl
theorem q1728 : (Jvm.Cond.soleField "CounterDeskModel" "rest") ∈ lw_all := lw_g (lw_at lw_m7 159 rfl) rfl
theorem q1729 : (Jvm.Cond.laysFinal "CounterDeskModel" "CounterDeskModel" "waysRest" "[J") ∈ lw_all := lw_g (lw_at lw_m7 160 rfl) rfl
theorem q1730 : (Jvm.Cond.soleField "CounterDeskModel" "waysRest") ∈ lw_all := lw_g (lw_at lw_m7 161 rfl) rfl
theorem q1731 : (Jvm.Cond.laysFinal "CounterDeskModel" "CounterDeskModel" "facts" "[I") ∈ lw_all := lw_g (lw_at lw_m7 162 rfl) rfl
theorem q1732 : (Jvm.Cond.soleField "CounterDeskModel" "facts") ∈ lw_all := lw_g (lw_at lw_m7 163 rfl) rfl
theorem q1733 : (Jvm.Cond.laysFinal "CounterDeskModel" "CounterDeskModel" "shares" "[J") ∈ lw_all := lw_g (lw_at lw_m7 164 rfl) rfl
theorem q1734 : (Jvm.Cond.soleField "CounterDeskModel" "shares") ∈ lw_all := lw_g (lw_at lw_m7 165 rfl) rfl
theorem q1735 : (Jvm.Cond.lays "CounterDeskModel" "CounterDeskModel" "stopped0" "I") ∈ lw_all := lw_g (lw_at lw_m7 166 rfl) rfl
theorem q1736 : (Jvm.Cond.soleField "CounterDeskModel" "stopped0") ∈ lw_all := lw_g (lw_at lw_m7 167 rfl) rfl
theorem q1737 : (Jvm.Cond.lays "CounterDeskModel" "CounterDeskModel" "orderAt" "I") ∈ lw_all := lw_g (lw_at lw_m7 168 rfl) rfl
theorem q1738 : (Jvm.Cond.soleField "CounterDeskModel" "orderAt") ∈ lw_all := lw_g (lw_at lw_m7 169 rfl) rfl
theorem q1739 : (Jvm.Cond.lays "CounterDeskModel" "CounterDeskModel" "howOften" "I") ∈ lw_all := lw_g (lw_at lw_m7 170 rfl) rfl
theorem q1740 : (Jvm.Cond.soleField "CounterDeskModel" "howOften") ∈ lw_all := lw_g (lw_at lw_m7 171 rfl) rfl
theorem q1741 : (Jvm.Cond.lays "CounterDeskModel" "CounterDeskModel" "head" "I") ∈ lw_all := lw_g (lw_at lw_m7 172 rfl) rfl
theorem q1742 : (Jvm.Cond.soleField "CounterDeskModel" "head") ∈ lw_all := lw_g (lw_at lw_m7 173 rfl) rfl
theorem q1743 : (Jvm.Cond.lays "CounterDeskModel" "CounterDeskModel" "sumsAre" "Z") ∈ lw_all := lw_g (lw_at lw_m7 174 rfl) rfl
theorem q1744 : (Jvm.Cond.soleField "CounterDeskModel" "sumsAre") ∈ lw_all := lw_g (lw_at lw_m7 175 rfl) rfl
theorem q1745 : (Jvm.Cond.lays "CounterDeskModel" "CounterDeskModel" "testIs" "Z") ∈ lw_all := lw_g (lw_at lw_m7 176 rfl) rfl
theorem q1746 : (Jvm.Cond.soleField "CounterDeskModel" "testIs") ∈ lw_all := lw_g (lw_at lw_m7 177 rfl) rfl
theorem q1747 : (Jvm.Cond.laysFinal "CounterDeskModel" "CounterDeskModel" "sums" "[J") ∈ lw_all := lw_g (lw_at lw_m7 178 rfl) rfl
theorem q1748 : (Jvm.Cond.soleField "CounterDeskModel" "sums") ∈ lw_all := lw_g (lw_at lw_m7 179 rfl) rfl
theorem q1749 : (Jvm.Cond.laysFinal "CounterDeskModel" "CounterDeskModel" "drawnMoved" "[I") ∈ lw_all := lw_g (lw_at lw_m7 180 rfl) rfl
theorem q1750 : (Jvm.Cond.soleField "CounterDeskModel" "drawnMoved") ∈ lw_all := lw_g (lw_at lw_m7 181 rfl) rfl
theorem q1751 : (Jvm.Cond.lays "CounterDeskModel" "CounterDeskModel" "drawnMany" "I") ∈ lw_all := lw_g (lw_at lw_m7 182 rfl) rfl
theorem q1752 : (Jvm.Cond.soleField "CounterDeskModel" "drawnMany") ∈ lw_all := lw_g (lw_at lw_m7 183 rfl) rfl
theorem q1753 : (Jvm.Cond.lays "CounterDeskModel" "CounterDeskModel" "latest" "I") ∈ lw_all := lw_g (lw_at lw_m7 184 rfl) rfl
theorem q1754 : (Jvm.Cond.soleField "CounterDeskModel" "latest") ∈ lw_all := lw_g (lw_at lw_m7 185 rfl) rfl
theorem q1755 : (Jvm.Cond.superclass "CounterDeskModel" "java/lang/Object") ∈ lw_all := lw_g (lw_at lw_m7 186 rfl) rfl
theorem q1757 : (Jvm.Cond.instanceMethod ({ cls := "CounterDeskModel", name := "image", desc := "(I)I" } : Jvm.MethodName)) ∈ lw_all := lw_g (lw_at lw_m7 188 rfl) rfl
theorem q1758 : (Jvm.Cond.selects "CounterDeskModel" ({ cls := "CounterDeskModel", name := "image", desc := "(I)I" } : Jvm.MethodName) ({ cls := "CounterDeskModel", name := "image", desc := "(I)I" } : Jvm.MethodName)) ∈ lw_all := lw_g (lw_at lw_m7 189 rfl) rfl
theorem q1759 : (Jvm.Cond.code ({ cls := "CounterDeskModel", name := "image", desc := "(I)I" } : Jvm.MethodName) prog_24_method_14_code (3 : Nat) (Option.some Jvm.ClassFile.FieldType.int)) ∈ lw_all := lw_g (lw_at lw_m7 190 rfl) rfl
theorem q1760 : (Jvm.Cond.methodLink "CounterDeskModel" (18 : Nat) ({ cls := "CounterDeskModel", name := "lies", desc := "(III)Z" } : Jvm.MethodName)) ∈ lw_all := lw_g (lw_at lw_m7 191 rfl) rfl
theorem q1761 : (Jvm.Cond.static ({ cls := "CounterDeskModel", name := "lies", desc := "(III)Z" } : Jvm.MethodName)) ∈ lw_all := lw_g (lw_at lw_m7 192 rfl) rfl
theorem q1762 : (Jvm.Cond.code ({ cls := "CounterDeskModel", name := "lies", desc := "(III)Z" } : Jvm.MethodName) prog_24_method_1_code (3 : Nat) (Option.some Jvm.ClassFile.FieldType.boolean)) ∈ lw_all := lw_g (lw_at lw_m7 193 rfl) rfl
theorem q1763 : (Jvm.Cond.methodLink "CounterDeskModel" (106 : Nat) ({ cls := "CounterDeskModel", name := "refuses", desc := "(I)I" } : Jvm.MethodName)) ∈ lw_all := lw_g (lw_at lw_m7 194 rfl) rfl
theorem q1764 : (Jvm.Cond.privateMethod ({ cls := "CounterDeskModel", name := "refuses", desc := "(I)I" } : Jvm.MethodName)) ∈ lw_tbl := lw_at lw_m7 195 rfl
theorem q1765 : (Jvm.Cond.instanceMethod ({ cls := "CounterDeskModel", name := "refuses", desc := "(I)I" } : Jvm.MethodName)) ∈ lw_all := lw_g (lw_at lw_m7 196 rfl) rfl
theorem q1766 : (Jvm.Cond.code ({ cls := "CounterDeskModel", name := "refuses", desc := "(I)I" } : Jvm.MethodName) prog_24_method_5_code (2 : Nat) (Option.some Jvm.ClassFile.FieldType.int)) ∈ lw_all := lw_g (lw_at lw_m7 197 rfl) rfl
theorem q1767 : (Jvm.Cond.methodLink "CounterDeskModel" (14 : Nat) ({ cls := "CounterDeskModel", name := "good", desc := "(I)I" } : Jvm.MethodName)) ∈ lw_all := lw_g (lw_at lw_m7 198 rfl) rfl
theorem q1768 : (Jvm.Cond.privateMethod ({ cls := "CounterDeskModel", name := "good", desc := "(I)I" } : Jvm.MethodName)) ∈ lw_tbl := lw_at lw_m7 199 rfl
theorem q1769 : (Jvm.Cond.instanceMethod ({ cls := "CounterDeskModel", name := "good", desc := "(I)I" } : Jvm.MethodName)) ∈ lw_all := lw_g (lw_at lw_m7 200 rfl) rfl
theorem q1770 : (Jvm.Cond.code ({ cls := "CounterDeskModel", name := "good", desc := "(I)I" } : Jvm.MethodName) prog_24_method_6_code (2 : Nat) (Option.some Jvm.ClassFile.FieldType.int)) ∈ lw_all := lw_g (lw_at lw_m7 201 rfl) rfl
theorem q1772 : (Jvm.Cond.instanceMethod ({ cls := "CounterDeskModel", name := "back", desc := "(I)I" } : Jvm.MethodName)) ∈ lw_all := lw_g (lw_at lw_m7 203 rfl) rfl
theorem q1773 : (Jvm.Cond.selects "CounterDeskModel" ({ cls := "CounterDeskModel", name := "back", desc := "(I)I" } : Jvm.MethodName) ({ cls := "CounterDeskModel", name := "back", desc := "(I)I" } : Jvm.MethodName)) ∈ lw_all := lw_g (lw_at lw_m7 204 rfl) rfl
theorem q1774 : (Jvm.Cond.code ({ cls := "CounterDeskModel", name := "back", desc := "(I)I" } : Jvm.MethodName) prog_24_method_15_code (3 : Nat) (Option.some Jvm.ClassFile.FieldType.int)) ∈ lw_all := lw_g (lw_at lw_m7 205 rfl) rfl
theorem q1775 : (Jvm.Cond.methodLink "CounterDeskModel" (109 : Nat) ({ cls := "CounterDeskModel", name := "settled", desc := "(I)I" } : Jvm.MethodName)) ∈ lw_all := lw_g (lw_at lw_m7 206 rfl) rfl
theorem q1776 : (Jvm.Cond.privateMethod ({ cls := "CounterDeskModel", name := "settled", desc := "(I)I" } : Jvm.MethodName)) ∈ lw_tbl := lw_at lw_m7 207 rfl
theorem q1777 : (Jvm.Cond.instanceMethod ({ cls := "CounterDeskModel", name := "settled", desc := "(I)I" } : Jvm.MethodName)) ∈ lw_all := lw_g (lw_at lw_m7 208 rfl) rfl
theorem q1778 : (Jvm.Cond.code ({ cls := "CounterDeskModel", name := "settled", desc := "(I)I" } : Jvm.MethodName) prog_24_method_7_code (2 : Nat) (Option.some Jvm.ClassFile.FieldType.int)) ∈ lw_all := lw_g (lw_at lw_m7 209 rfl) rfl
theorem q1780 : (Jvm.Cond.instanceMethod ({ cls := "CounterDeskModel", name := "note", desc := "(II)I" } : Jvm.MethodName)) ∈ lw_all := lw_g (lw_at lw_m7 211 rfl) rfl
theorem q1781 : (Jvm.Cond.selects "CounterDeskModel" ({ cls := "CounterDeskModel", name := "note", desc := "(II)I" } : Jvm.MethodName) ({ cls := "CounterDeskModel", name := "note", desc := "(II)I" } : Jvm.MethodName)) ∈ lw_all := lw_g (lw_at lw_m7 212 rfl) rfl
theorem q1782 : (Jvm.Cond.code ({ cls := "CounterDeskModel", name := "note", desc := "(II)I" } : Jvm.MethodName) prog_24_method_19_code (3 : Nat) (Option.some Jvm.ClassFile.FieldType.int)) ∈ lw_all := lw_g (lw_at lw_m7 213 rfl) rfl
theorem q1783 : (Jvm.Cond.methodLink "CounterDeskModel" (116 : Nat) ({ cls := "CounterDeskModel", name := "isPitch", desc := "(I)Z" } : Jvm.MethodName)) ∈ lw_all := lw_g (lw_at lw_m7 214 rfl) rfl
theorem q1784 : (Jvm.Cond.static ({ cls := "CounterDeskModel", name := "isPitch", desc := "(I)Z" } : Jvm.MethodName)) ∈ lw_all := lw_g (lw_at lw_m7 215 rfl) rfl
theorem q1785 : (Jvm.Cond.code ({ cls := "CounterDeskModel", name := "isPitch", desc := "(I)Z" } : Jvm.MethodName) prog_24_method_10_code (1 : Nat) (Option.some Jvm.ClassFile.FieldType.boolean)) ∈ lw_all := lw_g (lw_at lw_m7 216 rfl) rfl
theorem q1786 : (Jvm.Cond.methodLink "CounterDeskModel" (112 : Nat) ({ cls := "CounterDeskModel", name := "noteMany", desc := "()I" } : Jvm.MethodName)) ∈ lw_all := lw_g (lw_at lw_m7 217 rfl) rfl
theorem q1787 : (Jvm.Cond.privateMethod ({ cls := "CounterDeskModel", name := "noteMany", desc := "()I" } : Jvm.MethodName)) ∈ lw_tbl := lw_at lw_m7 218 rfl
theorem q1788 : (Jvm.Cond.instanceMethod ({ cls := "CounterDeskModel", name := "noteMany", desc := "()I" } : Jvm.MethodName)) ∈ lw_all := lw_g (lw_at lw_m7 219 rfl) rfl
theorem q1789 : (Jvm.Cond.code ({ cls := "CounterDeskModel", name := "noteMany", desc := "()I" } : Jvm.MethodName) prog_24_method_16_code (1 : Nat) (Option.some Jvm.ClassFile.FieldType.int)) ∈ lw_all := lw_g (lw_at lw_m7 220 rfl) rfl
theorem q1790 : (Jvm.Cond.methodLink "CounterDeskModel" (120 : Nat) ({ cls := "CounterDeskModel", name := "adds", desc := "(II)V" } : Jvm.MethodName)) ∈ lw_all := lw_g (lw_at lw_m7 221 rfl) rfl
theorem q1791 : (Jvm.Cond.privateMethod ({ cls := "CounterDeskModel", name := "adds", desc := "(II)V" } : Jvm.MethodName)) ∈ lw_tbl := lw_at lw_m7 222 rfl
theorem q1792 : (Jvm.Cond.instanceMethod ({ cls := "CounterDeskModel", name := "adds", desc := "(II)V" } : Jvm.MethodName)) ∈ lw_all := lw_g (lw_at lw_m7 223 rfl) rfl
theorem q1793 : (Jvm.Cond.code ({ cls := "CounterDeskModel", name := "adds", desc := "(II)V" } : Jvm.MethodName) prog_24_method_18_code (3 : Nat) (Option.none : Option Jvm.ClassFile.FieldType)) ∈ lw_all := lw_g (lw_at lw_m7 224 rfl) rfl
theorem q1795 : (Jvm.Cond.instanceMethod ({ cls := "CounterDeskModel", name := "of", desc := "(II)I" } : Jvm.MethodName)) ∈ lw_all := lw_g (lw_at lw_m7 226 rfl) rfl
theorem q1796 : (Jvm.Cond.selects "CounterDeskModel" ({ cls := "CounterDeskModel", name := "of", desc := "(II)I" } : Jvm.MethodName) ({ cls := "CounterDeskModel", name := "of", desc := "(II)I" } : Jvm.MethodName)) ∈ lw_all := lw_g (lw_at lw_m7 227 rfl) rfl
theorem q1797 : (Jvm.Cond.code ({ cls := "CounterDeskModel", name := "of", desc := "(II)I" } : Jvm.MethodName) prog_24_method_20_code (3 : Nat) (Option.some Jvm.ClassFile.FieldType.int)) ∈ lw_all := lw_g (lw_at lw_m7 228 rfl) rfl
theorem q1798 : (Jvm.Cond.methodLink "CounterDeskModel" (124 : Nat) ({ cls := "CounterDeskModel", name := "isNote", desc := "(I)Z" } : Jvm.MethodName)) ∈ lw_all := lw_g (lw_at lw_m7 229 rfl) rfl
theorem q1799 : (Jvm.Cond.privateMethod ({ cls := "CounterDeskModel", name := "isNote", desc := "(I)Z" } : Jvm.MethodName)) ∈ lw_tbl := lw_at lw_m7 230 rfl
theorem q1800 : (Jvm.Cond.instanceMethod ({ cls := "CounterDeskModel", name := "isNote", desc := "(I)Z" } : Jvm.MethodName)) ∈ lw_all := lw_g (lw_at lw_m7 231 rfl) rfl
theorem q1801 : (Jvm.Cond.code ({ cls := "CounterDeskModel", name := "isNote", desc := "(I)Z" } : Jvm.MethodName) prog_24_method_17_code (2 : Nat) (Option.some Jvm.ClassFile.FieldType.boolean)) ∈ lw_all := lw_g (lw_at lw_m7 232 rfl) rfl
theorem q1802 : (Jvm.Cond.methodLink "CounterDeskModel" (127 : Nat) ({ cls := "CounterDeskModel", name := "takesNow", desc := "(I)V" } : Jvm.MethodName)) ∈ lw_all := lw_g (lw_at lw_m7 233 rfl) rfl
theorem q1803 : (Jvm.Cond.privateMethod ({ cls := "CounterDeskModel", name := "takesNow", desc := "(I)V" } : Jvm.MethodName)) ∈ lw_tbl := lw_at lw_m7 234 rfl
theorem q1804 : (Jvm.Cond.instanceMethod ({ cls := "CounterDeskModel", name := "takesNow", desc := "(I)V" } : Jvm.MethodName)) ∈ lw_all := lw_g (lw_at lw_m7 235 rfl) rfl
theorem q1805 : (Jvm.Cond.code ({ cls := "CounterDeskModel", name := "takesNow", desc := "(I)V" } : Jvm.MethodName) prog_24_method_70_code (2 : Nat) (Option.none : Option Jvm.ClassFile.FieldType)) ∈ lw_all := lw_g (lw_at lw_m7 236 rfl) rfl
theorem q1806 : (Jvm.Cond.methodLink "CounterDeskModel" (321 : Nat) ({ cls := "CounterDeskModel", name := "takesNote", desc := "(IIZI)V" } : Jvm.MethodName)) ∈ lw_all := lw_g (lw_at lw_m7 237 rfl) rfl
theorem q1807 : (Jvm.Cond.privateMethod ({ cls := "CounterDeskModel", name := "takesNote", desc := "(IIZI)V" } : Jvm.MethodName)) ∈ lw_tbl := lw_at lw_m7 238 rfl
theorem q1808 : (Jvm.Cond.instanceMethod ({ cls := "CounterDeskModel", name := "takesNote", desc := "(IIZI)V" } : Jvm.MethodName)) ∈ lw_all := lw_g (lw_at lw_m7 239 rfl) rfl
theorem q1809 : (Jvm.Cond.code ({ cls := "CounterDeskModel", name := "takesNote", desc := "(IIZI)V" } : Jvm.MethodName) prog_24_method_69_code (5 : Nat) (Option.none : Option Jvm.ClassFile.FieldType)) ∈ lw_all := lw_g (lw_at lw_m8 0 rfl) rfl
theorem q1810 : (Jvm.Cond.methodLink "CounterDeskModel" (131 : Nat) ({ cls := "CounterDeskModel", name := "costsNow", desc := "()I" } : Jvm.MethodName)) ∈ lw_all := lw_g (lw_at lw_m8 1 rfl) rfl
theorem q1811 : (Jvm.Cond.privateMethod ({ cls := "CounterDeskModel", name := "costsNow", desc := "()I" } : Jvm.MethodName)) ∈ lw_tbl := lw_at lw_m8 2 rfl
theorem q1812 : (Jvm.Cond.instanceMethod ({ cls := "CounterDeskModel", name := "costsNow", desc := "()I" } : Jvm.MethodName)) ∈ lw_all := lw_g (lw_at lw_m8 3 rfl) rfl
theorem q1813 : (Jvm.Cond.code ({ cls := "CounterDeskModel", name := "costsNow", desc := "()I" } : Jvm.MethodName) prog_24_method_72_code (1 : Nat) (Option.some Jvm.ClassFile.FieldType.int)) ∈ lw_all := lw_g (lw_at lw_m8 4 rfl) rfl
theorem q1814 : (Jvm.Cond.methodLink "CounterDeskModel" (325 : Nat) ({ cls := "CounterDeskModel", name := "bare", desc := "(I)I" } : Jvm.MethodName)) ∈ lw_all := lw_g (lw_at lw_m8 5 rfl) rfl
theorem q1815 : (Jvm.Cond.static ({ cls := "CounterDeskModel", name := "bare", desc := "(I)I" } : Jvm.MethodName)) ∈ lw_all := lw_g (lw_at lw_m8 6 rfl) rfl
theorem q1816 : (Jvm.Cond.code ({ cls := "CounterDeskModel", name := "bare", desc := "(I)I" } : Jvm.MethodName) prog_24_method_4_code (1 : Nat) (Option.some Jvm.ClassFile.FieldType.int)) ∈ lw_all := lw_g (lw_at lw_m8 7 rfl) rfl
theorem q1817 : (Jvm.Cond.methodLink "CounterDeskModel" (328 : Nat) ({ cls := "CounterDeskModel", name := "tells", desc := "(III)I" } : Jvm.MethodName)) ∈ lw_all := lw_g (lw_at lw_m8 8 rfl) rfl
theorem q1818 : (Jvm.Cond.privateMethod ({ cls := "CounterDeskModel", name := "tells", desc := "(III)I" } : Jvm.MethodName)) ∈ lw_tbl := lw_at lw_m8 9 rfl
theorem q1819 : (Jvm.Cond.instanceMethod ({ cls := "CounterDeskModel", name := "tells", desc := "(III)I" } : Jvm.MethodName)) ∈ lw_all := lw_g (lw_at lw_m8 10 rfl) rfl
theorem q1820 : (Jvm.Cond.code ({ cls := "CounterDeskModel", name := "tells", desc := "(III)I" } : Jvm.MethodName) prog_24_method_71_code (11 : Nat) (Option.some Jvm.ClassFile.FieldType.int)) ∈ lw_all := lw_g (lw_at lw_m8 11 rfl) rfl
theorem q1821 : (Jvm.Cond.methodLink "CounterDeskModel" (264 : Nat) ({ cls := "CounterDeskModel", name := "codeAt", desc := "(I)I" } : Jvm.MethodName)) ∈ lw_all := lw_g (lw_at lw_m8 12 rfl) rfl
theorem q1822 : (Jvm.Cond.privateMethod ({ cls := "CounterDeskModel", name := "codeAt", desc := "(I)I" } : Jvm.MethodName)) ∈ lw_tbl := lw_at lw_m8 13 rfl
theorem q1823 : (Jvm.Cond.instanceMethod ({ cls := "CounterDeskModel", name := "codeAt", desc := "(I)I" } : Jvm.MethodName)) ∈ lw_all := lw_g (lw_at lw_m8 14 rfl) rfl
theorem q1824 : (Jvm.Cond.code ({ cls := "CounterDeskModel", name := "codeAt", desc := "(I)I" } : Jvm.MethodName) prog_24_method_58_code (2 : Nat) (Option.some Jvm.ClassFile.FieldType.int)) ∈ lw_all := lw_g (lw_at lw_m8 15 rfl) rfl
theorem q1825 : (Jvm.Cond.methodLink "CounterDeskModel" (288 : Nat) ({ cls := "CounterDeskModel", name := "sumOf", desc := "(Z)J" } : Jvm.MethodName)) ∈ lw_all := lw_g (lw_at lw_m8 16 rfl) rfl
theorem q1826 : (Jvm.Cond.privateMethod ({ cls := "CounterDeskModel", name := "sumOf", desc := "(Z)J" } : Jvm.MethodName)) ∈ lw_tbl := lw_at lw_m8 17 rfl
theorem q1827 : (Jvm.Cond.instanceMethod ({ cls := "CounterDeskModel", name := "sumOf", desc := "(Z)J" } : Jvm.MethodName)) ∈ lw_all := lw_g (lw_at lw_m8 18 rfl) rfl
theorem q1828 : (Jvm.Cond.code ({ cls := "CounterDeskModel", name := "sumOf", desc := "(Z)J" } : Jvm.MethodName) prog_24_method_61_code (7 : Nat) (Option.some Jvm.ClassFile.FieldType.long)) ∈ lw_all := lw_g (lw_at lw_m8 19 rfl) rfl
theorem q1829 : (Jvm.Cond.methodLink "CounterDeskModel" (274 : Nat) ({ cls := "CounterDeskModel", name := "termOf", desc := "(Z)J" } : Jvm.MethodName)) ∈ lw_all := lw_g (lw_at lw_m8 20 rfl) rfl
theorem q1830 : (Jvm.Cond.privateMethod ({ cls := "CounterDeskModel", name := "termOf", desc := "(Z)J" } : Jvm.MethodName)) ∈ lw_tbl := lw_at lw_m8 21 rfl
theorem q1831 : (Jvm.Cond.instanceMethod ({ cls := "CounterDeskModel", name := "termOf", desc := "(Z)J" } : Jvm.MethodName)) ∈ lw_all := lw_g (lw_at lw_m8 22 rfl) rfl
theorem q1832 : (Jvm.Cond.code ({ cls := "CounterDeskModel", name := "termOf", desc := "(Z)J" } : Jvm.MethodName) prog_24_method_62_code (7 : Nat) (Option.some Jvm.ClassFile.FieldType.long)) ∈ lw_all := lw_g (lw_at lw_m8 23 rfl) rfl
theorem q1833 : (Jvm.Cond.methodLink "CounterDeskModel" (282 : Nat) ({ cls := "CounterDeskModel", name := "partOf", desc := "(Z)J" } : Jvm.MethodName)) ∈ lw_all := lw_g (lw_at lw_m8 24 rfl) rfl
theorem q1834 : (Jvm.Cond.privateMethod ({ cls := "CounterDeskModel", name := "partOf", desc := "(Z)J" } : Jvm.MethodName)) ∈ lw_tbl := lw_at lw_m8 25 rfl
theorem q1835 : (Jvm.Cond.instanceMethod ({ cls := "CounterDeskModel", name := "partOf", desc := "(Z)J" } : Jvm.MethodName)) ∈ lw_all := lw_g (lw_at lw_m8 26 rfl) rfl
theorem q1836 : (Jvm.Cond.code ({ cls := "CounterDeskModel", name := "partOf", desc := "(Z)J" } : Jvm.MethodName) prog_24_method_63_code (4 : Nat) (Option.some Jvm.ClassFile.FieldType.long)) ∈ lw_all := lw_g (lw_at lw_m8 27 rfl) rfl
theorem q1837 : (Jvm.Cond.methodLink "CounterDeskModel" (220 : Nat) ({ cls := "CounterDeskModel", name := "sign", desc := "(C)I" } : Jvm.MethodName)) ∈ lw_all := lw_g (lw_at lw_m8 28 rfl) rfl
theorem q1838 : (Jvm.Cond.static ({ cls := "CounterDeskModel", name := "sign", desc := "(C)I" } : Jvm.MethodName)) ∈ lw_all := lw_g (lw_at lw_m8 29 rfl) rfl
theorem q1839 : (Jvm.Cond.code ({ cls := "CounterDeskModel", name := "sign", desc := "(C)I" } : Jvm.MethodName) prog_24_method_40_code (1 : Nat) (Option.some Jvm.ClassFile.FieldType.int)) ∈ lw_all := lw_g (lw_at lw_m8 30 rfl) rfl
theorem q1840 : (Jvm.Cond.methodLink "CounterDeskModel" (285 : Nat) ({ cls := "CounterDeskModel", name := "passes0", desc := "(I)Z" } : Jvm.MethodName)) ∈ lw_all := lw_g (lw_at lw_m8 31 rfl) rfl
theorem q1841 : (Jvm.Cond.privateMethod ({ cls := "CounterDeskModel", name := "passes0", desc := "(I)Z" } : Jvm.MethodName)) ∈ lw_tbl := lw_at lw_m8 32 rfl
theorem q1842 : (Jvm.Cond.instanceMethod ({ cls := "CounterDeskModel", name := "passes0", desc := "(I)Z" } : Jvm.MethodName)) ∈ lw_all := lw_g (lw_at lw_m8 33 rfl) rfl
theorem q1843 : (Jvm.Cond.code ({ cls := "CounterDeskModel", name := "passes0", desc := "(I)Z" } : Jvm.MethodName) prog_24_method_59_code (3 : Nat) (Option.some Jvm.ClassFile.FieldType.boolean)) ∈ lw_all := lw_g (lw_at lw_m8 34 rfl) rfl
theorem q1844 : (Jvm.Cond.methodLink "CounterDeskModel" (294 : Nat) ({ cls := "CounterDeskModel", name := "orderValue", desc := "(II)I" } : Jvm.MethodName)) ∈ lw_all := lw_g (lw_at lw_m8 35 rfl) rfl
theorem q1845 : (Jvm.Cond.privateMethod ({ cls := "CounterDeskModel", name := "orderValue", desc := "(II)I" } : Jvm.MethodName)) ∈ lw_tbl := lw_at lw_m8 36 rfl
theorem q1846 : (Jvm.Cond.instanceMethod ({ cls := "CounterDeskModel", name := "orderValue", desc := "(II)I" } : Jvm.MethodName)) ∈ lw_all := lw_g (lw_at lw_m8 37 rfl) rfl
theorem q1847 : (Jvm.Cond.code ({ cls := "CounterDeskModel", name := "orderValue", desc := "(II)I" } : Jvm.MethodName) prog_24_method_64_code (3 : Nat) (Option.some Jvm.ClassFile.FieldType.int)) ∈ lw_all := lw_g (lw_at lw_m8 38 rfl) rfl
theorem q1848 : (Jvm.Cond.methodLink "CounterDeskModel" (278 : Nat) ({ cls := "CounterDeskModel", name := "bounded", desc := "(JZ)J" } : Jvm.MethodName)) ∈ lw_all := lw_g (lw_at lw_m8 39 rfl) rfl
theorem q1849 : (Jvm.Cond.privateMethod ({ cls := "CounterDeskModel", name := "bounded", desc := "(JZ)J" } : Jvm.MethodName)) ∈ lw_tbl := lw_at lw_m8 40 rfl
theorem q1850 : (Jvm.Cond.instanceMethod ({ cls := "CounterDeskModel", name := "bounded", desc := "(JZ)J" } : Jvm.MethodName)) ∈ lw_all := lw_g (lw_at lw_m8 41 rfl) rfl
theorem q1851 : (Jvm.Cond.code ({ cls := "CounterDeskModel", name := "bounded", desc := "(JZ)J" } : Jvm.MethodName) prog_24_method_60_code (4 : Nat) (Option.some Jvm.ClassFile.FieldType.long)) ∈ lw_all := lw_g (lw_at lw_m8 42 rfl) rfl
theorem q1852 : (Jvm.Cond.constantLong "CounterDeskModel" (267 : Nat) (1000000000 : Int64)) ∈ lw_all := lw_g (lw_at lw_m8 43 rfl) rfl
theorem q1853 : (Jvm.Cond.constantLong "CounterDeskModel" (269 : Nat) (-1000000000 : Int64)) ∈ lw_all := lw_g (lw_at lw_m8 44 rfl) rfl
theorem q1854 : (Jvm.Cond.methodLink "CounterDeskModel" (318 : Nat) ({ cls := "CounterDeskModel", name := "testOf", desc := "(Z)Z" } : Jvm.MethodName)) ∈ lw_all := lw_g (lw_at lw_m8 45 rfl) rfl
theorem q1855 : (Jvm.Cond.privateMethod ({ cls := "CounterDeskModel", name := "testOf", desc := "(Z)Z" } : Jvm.MethodName)) ∈ lw_tbl := lw_at lw_m8 46 rfl
theorem q1856 : (Jvm.Cond.instanceMethod ({ cls := "CounterDeskModel", name := "testOf", desc := "(Z)Z" } : Jvm.MethodName)) ∈ lw_all := lw_g (lw_at lw_m8 47 rfl) rfl
theorem q1857 : (Jvm.Cond.code ({ cls := "CounterDeskModel", name := "testOf", desc := "(Z)Z" } : Jvm.MethodName) prog_24_method_65_code (4 : Nat) (Option.some Jvm.ClassFile.FieldType.boolean)) ∈ lw_all := lw_g (lw_at lw_m8 48 rfl) rfl
theorem q1858 : (Jvm.Cond.methodLink "CounterDeskModel" (309 : Nat) ({ cls := "CounterDeskModel", name := "bothOf", desc := "(Z)Z" } : Jvm.MethodName)) ∈ lw_all := lw_g (lw_at lw_m8 49 rfl) rfl
theorem q1859 : (Jvm.Cond.privateMethod ({ cls := "CounterDeskModel", name := "bothOf", desc := "(Z)Z" } : Jvm.MethodName)) ∈ lw_tbl := lw_at lw_m8 50 rfl
theorem q1860 : (Jvm.Cond.instanceMethod ({ cls := "CounterDeskModel", name := "bothOf", desc := "(Z)Z" } : Jvm.MethodName)) ∈ lw_all := lw_g (lw_at lw_m8 51 rfl) rfl
theorem q1861 : (Jvm.Cond.code ({ cls := "CounterDeskModel", name := "bothOf", desc := "(Z)Z" } : Jvm.MethodName) prog_24_method_66_code (4 : Nat) (Option.some Jvm.ClassFile.FieldType.boolean)) ∈ lw_all := lw_g (lw_at lw_m8 52 rfl) rfl
theorem q1862 : (Jvm.Cond.methodLink "CounterDeskModel" (312 : Nat) ({ cls := "CounterDeskModel", name := "plainOf", desc := "(Z)Z" } : Jvm.MethodName)) ∈ lw_all := lw_g (lw_at lw_m8 53 rfl) rfl
theorem q1863 : (Jvm.Cond.privateMethod ({ cls := "CounterDeskModel", name := "plainOf", desc := "(Z)Z" } : Jvm.MethodName)) ∈ lw_tbl := lw_at lw_m8 54 rfl
theorem q1864 : (Jvm.Cond.instanceMethod ({ cls := "CounterDeskModel", name := "plainOf", desc := "(Z)Z" } : Jvm.MethodName)) ∈ lw_all := lw_g (lw_at lw_m8 55 rfl) rfl
theorem q1865 : (Jvm.Cond.code ({ cls := "CounterDeskModel", name := "plainOf", desc := "(Z)Z" } : Jvm.MethodName) prog_24_method_67_code (3 : Nat) (Option.some Jvm.ClassFile.FieldType.boolean)) ∈ lw_all := lw_g (lw_at lw_m8 56 rfl) rfl
theorem q1866 : (Jvm.Cond.methodLink "CounterDeskModel" (315 : Nat) ({ cls := "CounterDeskModel", name := "positiveOf", desc := "(Z)Z" } : Jvm.MethodName)) ∈ lw_all := lw_g (lw_at lw_m8 57 rfl) rfl
theorem q1867 : (Jvm.Cond.privateMethod ({ cls := "CounterDeskModel", name := "positiveOf", desc := "(Z)Z" } : Jvm.MethodName)) ∈ lw_tbl := lw_at lw_m8 58 rfl
theorem q1868 : (Jvm.Cond.instanceMethod ({ cls := "CounterDeskModel", name := "positiveOf", desc := "(Z)Z" } : Jvm.MethodName)) ∈ lw_all := lw_g (lw_at lw_m8 59 rfl) rfl
theorem q1869 : (Jvm.Cond.code ({ cls := "CounterDeskModel", name := "positiveOf", desc := "(Z)Z" } : Jvm.MethodName) prog_24_method_68_code (7 : Nat) (Option.some Jvm.ClassFile.FieldType.boolean)) ∈ lw_all := lw_g (lw_at lw_m8 60 rfl) rfl
theorem q1870 : (Jvm.Cond.methodLink "CounterDeskModel" (134 : Nat) ({ cls := "CounterDeskModel", name := "earnsNow", desc := "()I" } : Jvm.MethodName)) ∈ lw_all := lw_g (lw_at lw_m8 61 rfl) rfl
theorem q1871 : (Jvm.Cond.privateMethod ({ cls := "CounterDeskModel", name := "earnsNow", desc := "()I" } : Jvm.MethodName)) ∈ lw_tbl := lw_at lw_m8 62 rfl
theorem q1872 : (Jvm.Cond.instanceMethod ({ cls := "CounterDeskModel", name := "earnsNow", desc := "()I" } : Jvm.MethodName)) ∈ lw_all := lw_g (lw_at lw_m8 63 rfl) rfl
theorem q1873 : (Jvm.Cond.code ({ cls := "CounterDeskModel", name := "earnsNow", desc := "()I" } : Jvm.MethodName) prog_24_method_73_code (1 : Nat) (Option.some Jvm.ClassFile.FieldType.int)) ∈ lw_all := lw_g (lw_at lw_m8 64 rfl) rfl
theorem q1874 : (Jvm.Cond.methodLink "CounterDeskModel" (137 : Nat) ({ cls := "CounterDeskModel", name := "isBarred", desc := "()Z" } : Jvm.MethodName)) ∈ lw_all := lw_g (lw_at lw_m8 65 rfl) rfl
theorem q1875 : (Jvm.Cond.privateMethod ({ cls := "CounterDeskModel", name := "isBarred", desc := "()Z" } : Jvm.MethodName)) ∈ lw_tbl := lw_at lw_m8 66 rfl
theorem q1876 : (Jvm.Cond.instanceMethod ({ cls := "CounterDeskModel", name := "isBarred", desc := "()Z" } : Jvm.MethodName)) ∈ lw_all := lw_g (lw_at lw_m8 67 rfl) rfl
theorem q1877 : (Jvm.Cond.code ({ cls := "CounterDeskModel", name := "isBarred", desc := "()Z" } : Jvm.MethodName) prog_24_method_74_code (1 : Nat) (Option.some Jvm.ClassFile.FieldType.boolean)) ∈ lw_all := lw_g (lw_at lw_m8 68 rfl) rfl
theorem q1879 : (Jvm.Cond.instanceMethod ({ cls := "CounterDeskModel", name := "at", desc := "(II)I" } : Jvm.MethodName)) ∈ lw_all := lw_g (lw_at lw_m8 70 rfl) rfl
theorem q1880 : (Jvm.Cond.selects "CounterDeskModel" ({ cls := "CounterDeskModel", name := "at", desc := "(II)I" } : Jvm.MethodName) ({ cls := "CounterDeskModel", name := "at", desc := "(II)I" } : Jvm.MethodName)) ∈ lw_all := lw_g (lw_at lw_m8 71 rfl) rfl
theorem q1881 : (Jvm.Cond.code ({ cls := "CounterDeskModel", name := "at", desc := "(II)I" } : Jvm.MethodName) prog_24_method_23_code (3 : Nat) (Option.some Jvm.ClassFile.FieldType.int)) ∈ lw_all := lw_g (lw_at lw_m8 72 rfl) rfl
theorem q1882 : (Jvm.Cond.methodLink "CounterDeskModel" (141 : Nat) ({ cls := "CounterDeskModel", name := "apartOf", desc := "(I)I" } : Jvm.MethodName)) ∈ lw_all := lw_g (lw_at lw_m8 73 rfl) rfl
theorem q1883 : (Jvm.Cond.privateMethod ({ cls := "CounterDeskModel", name := "apartOf", desc := "(I)I" } : Jvm.MethodName)) ∈ lw_tbl := lw_at lw_m8 74 rfl
theorem q1884 : (Jvm.Cond.instanceMethod ({ cls := "CounterDeskModel", name := "apartOf", desc := "(I)I" } : Jvm.MethodName)) ∈ lw_all := lw_g (lw_at lw_m8 75 rfl) rfl
theorem q1885 : (Jvm.Cond.code ({ cls := "CounterDeskModel", name := "apartOf", desc := "(I)I" } : Jvm.MethodName) prog_24_method_21_code (2 : Nat) (Option.some Jvm.ClassFile.FieldType.int)) ∈ lw_all := lw_g (lw_at lw_m8 76 rfl) rfl
theorem q1886 : (Jvm.Cond.methodLink "CounterDeskModel" (144 : Nat) ({ cls := "CounterDeskModel", name := "leapOf", desc := "(I)I" } : Jvm.MethodName)) ∈ lw_all := lw_g (lw_at lw_m8 77 rfl) rfl
theorem q1887 : (Jvm.Cond.privateMethod ({ cls := "CounterDeskModel", name := "leapOf", desc := "(I)I" } : Jvm.MethodName)) ∈ lw_tbl := lw_at lw_m8 78 rfl
theorem q1888 : (Jvm.Cond.instanceMethod ({ cls := "CounterDeskModel", name := "leapOf", desc := "(I)I" } : Jvm.MethodName)) ∈ lw_all := lw_g (lw_at lw_m8 79 rfl) rfl
theorem q1889 : (Jvm.Cond.code ({ cls := "CounterDeskModel", name := "leapOf", desc := "(I)I" } : Jvm.MethodName) prog_24_method_22_code (2 : Nat) (Option.some Jvm.ClassFile.FieldType.int)) ∈ lw_all := lw_g (lw_at lw_m8 80 rfl) rfl
theorem q1891 : (Jvm.Cond.instanceMethod ({ cls := "CounterDeskModel", name := "terms", desc := "(II)I" } : Jvm.MethodName)) ∈ lw_all := lw_g (lw_at lw_m8 82 rfl) rfl
theorem q1892 : (Jvm.Cond.selects "CounterDeskModel" ({ cls := "CounterDeskModel", name := "terms", desc := "(II)I" } : Jvm.MethodName) ({ cls := "CounterDeskModel", name := "terms", desc := "(II)I" } : Jvm.MethodName)) ∈ lw_all := lw_g (lw_at lw_m8 83 rfl) rfl
theorem q1893 : (Jvm.Cond.code ({ cls := "CounterDeskModel", name := "terms", desc := "(II)I" } : Jvm.MethodName) prog_24_method_26_code (4 : Nat) (Option.some Jvm.ClassFile.FieldType.int)) ∈ lw_all := lw_g (lw_at lw_m8 84 rfl) rfl
theorem q1894 : (Jvm.Cond.methodLink "CounterDeskModel" (147 : Nat) ({ cls := "CounterDeskModel", name := "isTerm", desc := "(II)Z" } : Jvm.MethodName)) ∈ lw_all := lw_g (lw_at lw_m8 85 rfl) rfl
theorem q1895 : (Jvm.Cond.static ({ cls := "CounterDeskModel", name := "isTerm", desc := "(II)Z" } : Jvm.MethodName)) ∈ lw_all := lw_g (lw_at lw_m8 86 rfl) rfl
theorem q1896 : (Jvm.Cond.code ({ cls := "CounterDeskModel", name := "isTerm", desc := "(II)Z" } : Jvm.MethodName) prog_24_method_24_code (2 : Nat) (Option.some Jvm.ClassFile.FieldType.boolean)) ∈ lw_all := lw_g (lw_at lw_m8 87 rfl) rfl
theorem q1897 : (Jvm.Cond.methodLink "CounterDeskModel" (151 : Nat) ({ cls := "CounterDeskModel", name := "termAt", desc := "(I)I" } : Jvm.MethodName)) ∈ lw_all := lw_g (lw_at lw_m8 88 rfl) rfl
theorem q1898 : (Jvm.Cond.static ({ cls := "CounterDeskModel", name := "termAt", desc := "(I)I" } : Jvm.MethodName)) ∈ lw_all := lw_g (lw_at lw_m8 89 rfl) rfl
theorem q1899 : (Jvm.Cond.code ({ cls := "CounterDeskModel", name := "termAt", desc := "(I)I" } : Jvm.MethodName) prog_24_method_25_code (1 : Nat) (Option.some Jvm.ClassFile.FieldType.int)) ∈ lw_all := lw_g (lw_at lw_m8 90 rfl) rfl
theorem q1901 : (Jvm.Cond.instanceMethod ({ cls := "CounterDeskModel", name := "row", desc := "()I" } : Jvm.MethodName)) ∈ lw_all := lw_g (lw_at lw_m8 92 rfl) rfl
theorem q1902 : (Jvm.Cond.selects "CounterDeskModel" ({ cls := "CounterDeskModel", name := "row", desc := "()I" } : Jvm.MethodName) ({ cls := "CounterDeskModel", name := "row", desc := "()I" } : Jvm.MethodName)) ∈ lw_all := lw_g (lw_at lw_m8 93 rfl) rfl
theorem q1903 : (Jvm.Cond.code ({ cls := "CounterDeskModel", name := "row", desc := "()I" } : Jvm.MethodName) prog_24_method_27_code (5 : Nat) (Option.some Jvm.ClassFile.FieldType.int)) ∈ lw_all := lw_g (lw_at lw_m8 94 rfl) rfl
theorem q1905 : (Jvm.Cond.instanceMethod ({ cls := "CounterDeskModel", name := "blots", desc := "()I" } : Jvm.MethodName)) ∈ lw_all := lw_g (lw_at lw_m8 96 rfl) rfl
theorem q1906 : (Jvm.Cond.selects "CounterDeskModel" ({ cls := "CounterDeskModel", name := "blots", desc := "()I" } : Jvm.MethodName) ({ cls := "CounterDeskModel", name := "blots", desc := "()I" } : Jvm.MethodName)) ∈ lw_all := lw_g (lw_at lw_m8 97 rfl) rfl
theorem q1907 : (Jvm.Cond.code ({ cls := "CounterDeskModel", name := "blots", desc := "()I" } : Jvm.MethodName) prog_24_method_28_code (1 : Nat) (Option.some Jvm.ClassFile.FieldType.int)) ∈ lw_all := lw_g (lw_at lw_m8 98 rfl) rfl
theorem q1909 : (Jvm.Cond.instanceMethod ({ cls := "CounterDeskModel", name := "feed", desc := "(IIIII)I" } : Jvm.MethodName)) ∈ lw_all := lw_g (lw_at lw_m8 100 rfl) rfl
theorem q1910 : (Jvm.Cond.selects "CounterDeskModel" ({ cls := "CounterDeskModel", name := "feed", desc := "(IIIII)I" } : Jvm.MethodName) ({ cls := "CounterDeskModel", name := "feed", desc := "(IIIII)I" } : Jvm.MethodName)) ∈ lw_all := lw_g (lw_at lw_m8 101 rfl) rfl
theorem q1911 : (Jvm.Cond.code ({ cls := "CounterDeskModel", name := "feed", desc := "(IIIII)I" } : Jvm.MethodName) prog_24_method_29_code (7 : Nat) (Option.some Jvm.ClassFile.FieldType.int)) ∈ lw_all := lw_g (lw_at lw_m8 102 rfl) rfl
theorem q1913 : (Jvm.Cond.instanceMethod ({ cls := "CounterDeskModel", name := "end", desc := "(I)I" } : Jvm.MethodName)) ∈ lw_all := lw_g (lw_at lw_m8 104 rfl) rfl
theorem q1914 : (Jvm.Cond.selects "CounterDeskModel" ({ cls := "CounterDeskModel", name := "end", desc := "(I)I" } : Jvm.MethodName) ({ cls := "CounterDeskModel", name := "end", desc := "(I)I" } : Jvm.MethodName)) ∈ lw_all := lw_g (lw_at lw_m8 105 rfl) rfl
theorem q1915 : (Jvm.Cond.code ({ cls := "CounterDeskModel", name := "end", desc := "(I)I" } : Jvm.MethodName) prog_24_method_30_code (2 : Nat) (Option.some Jvm.ClassFile.FieldType.int)) ∈ lw_all := lw_g (lw_at lw_m8 106 rfl) rfl
theorem q1917 : (Jvm.Cond.instanceMethod ({ cls := "CounterDeskModel", name := "law", desc := "()I" } : Jvm.MethodName)) ∈ lw_all := lw_g (lw_at lw_m8 108 rfl) rfl
theorem q1918 : (Jvm.Cond.selects "CounterDeskModel" ({ cls := "CounterDeskModel", name := "law", desc := "()I" } : Jvm.MethodName) ({ cls := "CounterDeskModel", name := "law", desc := "()I" } : Jvm.MethodName)) ∈ lw_all := lw_g (lw_at lw_m8 109 rfl) rfl
theorem q1919 : (Jvm.Cond.code ({ cls := "CounterDeskModel", name := "law", desc := "()I" } : Jvm.MethodName) prog_24_method_54_code (1 : Nat) (Option.some Jvm.ClassFile.FieldType.int)) ∈ lw_all := lw_g (lw_at lw_m8 110 rfl) rfl
theorem q1920 : (Jvm.Cond.methodLink "CounterDeskModel" (248 : Nat) ({ cls := "CounterDeskModel", name := "readsAs", desc := "(Z)Z" } : Jvm.MethodName)) ∈ lw_all := lw_g (lw_at lw_m8 111 rfl) rfl
theorem q1921 : (Jvm.Cond.privateMethod ({ cls := "CounterDeskModel", name := "readsAs", desc := "(Z)Z" } : Jvm.MethodName)) ∈ lw_tbl := lw_at lw_m8 112 rfl
theorem q1922 : (Jvm.Cond.instanceMethod ({ cls := "CounterDeskModel", name := "readsAs", desc := "(Z)Z" } : Jvm.MethodName)) ∈ lw_all := lw_g (lw_at lw_m8 113 rfl) rfl
theorem q1923 : (Jvm.Cond.code ({ cls := "CounterDeskModel", name := "readsAs", desc := "(Z)Z" } : Jvm.MethodName) prog_24_method_52_code (2 : Nat) (Option.some Jvm.ClassFile.FieldType.boolean)) ∈ lw_all := lw_g (lw_at lw_m8 114 rfl) rfl
theorem q1924 : (Jvm.Cond.methodLink "CounterDeskModel" (245 : Nat) ({ cls := "CounterDeskModel", name := "reads", desc := "()Z" } : Jvm.MethodName)) ∈ lw_all := lw_g (lw_at lw_m8 115 rfl) rfl
theorem q1925 : (Jvm.Cond.privateMethod ({ cls := "CounterDeskModel", name := "reads", desc := "()Z" } : Jvm.MethodName)) ∈ lw_tbl := lw_at lw_m8 116 rfl
theorem q1926 : (Jvm.Cond.instanceMethod ({ cls := "CounterDeskModel", name := "reads", desc := "()Z" } : Jvm.MethodName)) ∈ lw_all := lw_g (lw_at lw_m8 117 rfl) rfl
theorem q1927 : (Jvm.Cond.code ({ cls := "CounterDeskModel", name := "reads", desc := "()Z" } : Jvm.MethodName) prog_24_method_51_code (2 : Nat) (Option.some Jvm.ClassFile.FieldType.boolean)) ∈ lw_all := lw_g (lw_at lw_m8 118 rfl) rfl
theorem q1928 : (Jvm.Cond.methodLink "CounterDeskModel" (239 : Nat) ({ cls := "CounterDeskModel", name := "splits", desc := "(I)V" } : Jvm.MethodName)) ∈ lw_all := lw_g (lw_at lw_m8 119 rfl) rfl
theorem q1929 : (Jvm.Cond.privateMethod ({ cls := "CounterDeskModel", name := "splits", desc := "(I)V" } : Jvm.MethodName)) ∈ lw_tbl := lw_at lw_m8 120 rfl
theorem q1930 : (Jvm.Cond.instanceMethod ({ cls := "CounterDeskModel", name := "splits", desc := "(I)V" } : Jvm.MethodName)) ∈ lw_all := lw_g (lw_at lw_m8 121 rfl) rfl
theorem q1931 : (Jvm.Cond.code ({ cls := "CounterDeskModel", name := "splits", desc := "(I)V" } : Jvm.MethodName) prog_24_method_34_code (6 : Nat) (Option.none : Option Jvm.ClassFile.FieldType)) ∈ lw_all := lw_g (lw_at lw_m8 122 rfl) rfl
theorem q1932 : (Jvm.Cond.methodLink "CounterDeskModel" (163 : Nat) ({ cls := "CounterDeskModel", name := "isSmall", desc := "(I)Z" } : Jvm.MethodName)) ∈ lw_all := lw_g (lw_at lw_m8 123 rfl) rfl
theorem q1933 : (Jvm.Cond.static ({ cls := "CounterDeskModel", name := "isSmall", desc := "(I)Z" } : Jvm.MethodName)) ∈ lw_all := lw_g (lw_at lw_m8 124 rfl) rfl
theorem q1934 : (Jvm.Cond.code ({ cls := "CounterDeskModel", name := "isSmall", desc := "(I)Z" } : Jvm.MethodName) prog_24_method_31_code (1 : Nat) (Option.some Jvm.ClassFile.FieldType.boolean)) ∈ lw_all := lw_g (lw_at lw_m8 125 rfl) rfl
theorem q1935 : (Jvm.Cond.methodLink "CounterDeskModel" (166 : Nat) ({ cls := "CounterDeskModel", name := "isDigit", desc := "(I)Z" } : Jvm.MethodName)) ∈ lw_all := lw_g (lw_at lw_m8 126 rfl) rfl
theorem q1936 : (Jvm.Cond.static ({ cls := "CounterDeskModel", name := "isDigit", desc := "(I)Z" } : Jvm.MethodName)) ∈ lw_all := lw_g (lw_at lw_m8 127 rfl) rfl
theorem q1937 : (Jvm.Cond.code ({ cls := "CounterDeskModel", name := "isDigit", desc := "(I)Z" } : Jvm.MethodName) prog_24_method_32_code (1 : Nat) (Option.some Jvm.ClassFile.FieldType.boolean)) ∈ lw_all := lw_g (lw_at lw_m8 128 rfl) rfl
theorem q1938 : (Jvm.Cond.methodLink "CounterDeskModel" (169 : Nat) ({ cls := "CounterDeskModel", name := "wordOf", desc := "(II)I" } : Jvm.MethodName)) ∈ lw_all := lw_g (lw_at lw_m8 129 rfl) rfl
theorem q1939 : (Jvm.Cond.privateMethod ({ cls := "CounterDeskModel", name := "wordOf", desc := "(II)I" } : Jvm.MethodName)) ∈ lw_tbl := lw_at lw_m8 130 rfl
theorem q1940 : (Jvm.Cond.instanceMethod ({ cls := "CounterDeskModel", name := "wordOf", desc := "(II)I" } : Jvm.MethodName)) ∈ lw_all := lw_g (lw_at lw_m8 131 rfl) rfl
theorem q1941 : (Jvm.Cond.code ({ cls := "CounterDeskModel", name := "wordOf", desc := "(II)I" } : Jvm.MethodName) prog_24_method_33_code (8 : Nat) (Option.some Jvm.ClassFile.FieldType.int)) ∈ lw_all := lw_g (lw_at lw_m8 132 rfl) rfl
theorem q1942 : (Jvm.Cond.constant "CounterDeskModel" (173 : Nat) (1000000 : Int32)) ∈ lw_all := lw_g (lw_at lw_m8 133 rfl) rfl
theorem q1943 : (Jvm.Cond.methodLink "CounterDeskModel" (242 : Nat) ({ cls := "CounterDeskModel", name := "readOne", desc := "()V" } : Jvm.MethodName)) ∈ lw_all := lw_g (lw_at lw_m8 134 rfl) rfl
theorem q1944 : (Jvm.Cond.privateMethod ({ cls := "CounterDeskModel", name := "readOne", desc := "()V" } : Jvm.MethodName)) ∈ lw_tbl := lw_at lw_m8 135 rfl
theorem q1945 : (Jvm.Cond.instanceMethod ({ cls := "CounterDeskModel", name := "readOne", desc := "()V" } : Jvm.MethodName)) ∈ lw_all := lw_g (lw_at lw_m8 136 rfl) rfl
theorem q1946 : (Jvm.Cond.code ({ cls := "CounterDeskModel", name := "readOne", desc := "()V" } : Jvm.MethodName) prog_24_method_44_code (1 : Nat) (Option.none : Option Jvm.ClassFile.FieldType)) ∈ lw_all := lw_g (lw_at lw_m8 137 rfl) rfl
theorem q1947 : (Jvm.Cond.methodLink "CounterDeskModel" (208 : Nat) ({ cls := "CounterDeskModel", name := "readOrder", desc := "()V" } : Jvm.MethodName)) ∈ lw_all := lw_g (lw_at lw_m8 138 rfl) rfl
theorem q1948 : (Jvm.Cond.privateMethod ({ cls := "CounterDeskModel", name := "readOrder", desc := "()V" } : Jvm.MethodName)) ∈ lw_tbl := lw_at lw_m8 139 rfl
theorem q1949 : (Jvm.Cond.instanceMethod ({ cls := "CounterDeskModel", name := "readOrder", desc := "()V" } : Jvm.MethodName)) ∈ lw_all := lw_g (lw_at lw_m8 140 rfl) rfl
theorem q1950 : (Jvm.Cond.code ({ cls := "CounterDeskModel", name := "readOrder", desc := "()V" } : Jvm.MethodName) prog_24_method_43_code (1 : Nat) (Option.none : Option Jvm.ClassFile.FieldType)) ∈ lw_all := lw_g (lw_at lw_m8 141 rfl) rfl
theorem q1951 : (Jvm.Cond.methodLink "CounterDeskModel" (183 : Nat) ({ cls := "CounterDeskModel", name := "takes0", desc := "(I)Z" } : Jvm.MethodName)) ∈ lw_all := lw_g (lw_at lw_m8 142 rfl) rfl
theorem q1952 : (Jvm.Cond.privateMethod ({ cls := "CounterDeskModel", name := "takes0", desc := "(I)Z" } : Jvm.MethodName)) ∈ lw_tbl := lw_at lw_m8 143 rfl
theorem q1953 : (Jvm.Cond.instanceMethod ({ cls := "CounterDeskModel", name := "takes0", desc := "(I)Z" } : Jvm.MethodName)) ∈ lw_all := lw_g (lw_at lw_m8 144 rfl) rfl
theorem q1954 : (Jvm.Cond.code ({ cls := "CounterDeskModel", name := "takes0", desc := "(I)Z" } : Jvm.MethodName) prog_24_method_37_code (3 : Nat) (Option.some Jvm.ClassFile.FieldType.boolean)) ∈ lw_all := lw_g (lw_at lw_m8 145 rfl) rfl
theorem q1955 : (Jvm.Cond.methodLink "CounterDeskModel" (177 : Nat) ({ cls := "CounterDeskModel", name := "fine", desc := "()Z" } : Jvm.MethodName)) ∈ lw_all := lw_g (lw_at lw_m8 146 rfl) rfl
theorem q1956 : (Jvm.Cond.privateMethod ({ cls := "CounterDeskModel", name := "fine", desc := "()Z" } : Jvm.MethodName)) ∈ lw_tbl := lw_at lw_m8 147 rfl
theorem q1957 : (Jvm.Cond.instanceMethod ({ cls := "CounterDeskModel", name := "fine", desc := "()Z" } : Jvm.MethodName)) ∈ lw_all := lw_g (lw_at lw_m8 148 rfl) rfl
theorem q1958 : (Jvm.Cond.code ({ cls := "CounterDeskModel", name := "fine", desc := "()Z" } : Jvm.MethodName) prog_24_method_35_code (1 : Nat) (Option.some Jvm.ClassFile.FieldType.boolean)) ∈ lw_all := lw_g (lw_at lw_m8 149 rfl) rfl
theorem q1959 : (Jvm.Cond.methodLink "CounterDeskModel" (192 : Nat) ({ cls := "CounterDeskModel", name := "readSum", desc := "(I)V" } : Jvm.MethodName)) ∈ lw_all := lw_g (lw_at lw_m8 150 rfl) rfl
theorem q1960 : (Jvm.Cond.privateMethod ({ cls := "CounterDeskModel", name := "readSum", desc := "(I)V" } : Jvm.MethodName)) ∈ lw_tbl := lw_at lw_m8 151 rfl
theorem q1961 : (Jvm.Cond.instanceMethod ({ cls := "CounterDeskModel", name := "readSum", desc := "(I)V" } : Jvm.MethodName)) ∈ lw_all := lw_g (lw_at lw_m8 152 rfl) rfl
theorem q1962 : (Jvm.Cond.code ({ cls := "CounterDeskModel", name := "readSum", desc := "(I)V" } : Jvm.MethodName) prog_24_method_48_code (2 : Nat) (Option.none : Option Jvm.ClassFile.FieldType)) ∈ lw_all := lw_g (lw_at lw_m8 153 rfl) rfl
theorem q1963 : (Jvm.Cond.methodLink "CounterDeskModel" (224 : Nat) ({ cls := "CounterDeskModel", name := "readTerm", desc := "(I)V" } : Jvm.MethodName)) ∈ lw_all := lw_g (lw_at lw_m8 154 rfl) rfl
theorem q1964 : (Jvm.Cond.privateMethod ({ cls := "CounterDeskModel", name := "readTerm", desc := "(I)V" } : Jvm.MethodName)) ∈ lw_tbl := lw_at lw_m8 155 rfl
theorem q1965 : (Jvm.Cond.instanceMethod ({ cls := "CounterDeskModel", name := "readTerm", desc := "(I)V" } : Jvm.MethodName)) ∈ lw_all := lw_g (lw_at lw_m8 156 rfl) rfl
theorem q1966 : (Jvm.Cond.code ({ cls := "CounterDeskModel", name := "readTerm", desc := "(I)V" } : Jvm.MethodName) prog_24_method_49_code (2 : Nat) (Option.none : Option Jvm.ClassFile.FieldType)) ∈ lw_all := lw_g (lw_at lw_m8 157 rfl) rfl
theorem q1967 : (Jvm.Cond.methodLink "CounterDeskModel" (227 : Nat) ({ cls := "CounterDeskModel", name := "readPart", desc := "(I)V" } : Jvm.MethodName)) ∈ lw_all := lw_g (lw_at lw_m8 158 rfl) rfl
theorem q1968 : (Jvm.Cond.privateMethod ({ cls := "CounterDeskModel", name := "readPart", desc := "(I)V" } : Jvm.MethodName)) ∈ lw_tbl := lw_at lw_m8 159 rfl
theorem q1969 : (Jvm.Cond.instanceMethod ({ cls := "CounterDeskModel", name := "readPart", desc := "(I)V" } : Jvm.MethodName)) ∈ lw_all := lw_g (lw_at lw_m8 160 rfl) rfl
theorem q1970 : (Jvm.Cond.code ({ cls := "CounterDeskModel", name := "readPart", desc := "(I)V" } : Jvm.MethodName) prog_24_method_50_code (3 : Nat) (Option.none : Option Jvm.ClassFile.FieldType)) ∈ lw_all := lw_g (lw_at lw_m8 161 rfl) rfl
theorem q1971 : (Jvm.Cond.methodLink "CounterDeskModel" (186 : Nat) ({ cls := "CounterDeskModel", name := "faults", desc := "()V" } : Jvm.MethodName)) ∈ lw_all := lw_g (lw_at lw_m8 162 rfl) rfl
theorem q1972 : (Jvm.Cond.privateMethod ({ cls := "CounterDeskModel", name := "faults", desc := "()V" } : Jvm.MethodName)) ∈ lw_tbl := lw_at lw_m8 163 rfl
theorem q1973 : (Jvm.Cond.instanceMethod ({ cls := "CounterDeskModel", name := "faults", desc := "()V" } : Jvm.MethodName)) ∈ lw_all := lw_g (lw_at lw_m8 164 rfl) rfl
theorem q1974 : (Jvm.Cond.code ({ cls := "CounterDeskModel", name := "faults", desc := "()V" } : Jvm.MethodName) prog_24_method_36_code (1 : Nat) (Option.none : Option Jvm.ClassFile.FieldType)) ∈ lw_all := lw_g (lw_at lw_m8 165 rfl) rfl
theorem q1975 : (Jvm.Cond.methodLink "CounterDeskModel" (195 : Nat) ({ cls := "CounterDeskModel", name := "must", desc := "(I)V" } : Jvm.MethodName)) ∈ lw_all := lw_g (lw_at lw_m8 166 rfl) rfl
theorem q1976 : (Jvm.Cond.privateMethod ({ cls := "CounterDeskModel", name := "must", desc := "(I)V" } : Jvm.MethodName)) ∈ lw_tbl := lw_at lw_m8 167 rfl
theorem q1977 : (Jvm.Cond.instanceMethod ({ cls := "CounterDeskModel", name := "must", desc := "(I)V" } : Jvm.MethodName)) ∈ lw_all := lw_g (lw_at lw_m8 168 rfl) rfl
theorem q1978 : (Jvm.Cond.code ({ cls := "CounterDeskModel", name := "must", desc := "(I)V" } : Jvm.MethodName) prog_24_method_38_code (2 : Nat) (Option.none : Option Jvm.ClassFile.FieldType)) ∈ lw_all := lw_g (lw_at lw_m8 169 rfl) rfl
theorem q1979 : (Jvm.Cond.methodLink "CounterDeskModel" (236 : Nat) ({ cls := "CounterDeskModel", name := "leaf", desc := "()V" } : Jvm.MethodName)) ∈ lw_all := lw_g (lw_at lw_m8 170 rfl) rfl
theorem q1980 : (Jvm.Cond.privateMethod ({ cls := "CounterDeskModel", name := "leaf", desc := "()V" } : Jvm.MethodName)) ∈ lw_tbl := lw_at lw_m8 171 rfl
theorem q1981 : (Jvm.Cond.instanceMethod ({ cls := "CounterDeskModel", name := "leaf", desc := "()V" } : Jvm.MethodName)) ∈ lw_all := lw_g (lw_at lw_m8 172 rfl) rfl
theorem q1982 : (Jvm.Cond.code ({ cls := "CounterDeskModel", name := "leaf", desc := "()V" } : Jvm.MethodName) prog_24_method_39_code (1 : Nat) (Option.none : Option Jvm.ClassFile.FieldType)) ∈ lw_all := lw_g (lw_at lw_m8 173 rfl) rfl
theorem q1983 : (Jvm.Cond.methodLink "CounterDeskModel" (201 : Nat) ({ cls := "CounterDeskModel", name := "mustNumber", desc := "(II)V" } : Jvm.MethodName)) ∈ lw_all := lw_g (lw_at lw_m8 174 rfl) rfl
theorem q1984 : (Jvm.Cond.privateMethod ({ cls := "CounterDeskModel", name := "mustNumber", desc := "(II)V" } : Jvm.MethodName)) ∈ lw_tbl := lw_at lw_m8 175 rfl
theorem q1985 : (Jvm.Cond.instanceMethod ({ cls := "CounterDeskModel", name := "mustNumber", desc := "(II)V" } : Jvm.MethodName)) ∈ lw_all := lw_g (lw_at lw_m8 176 rfl) rfl
theorem q1986 : (Jvm.Cond.code ({ cls := "CounterDeskModel", name := "mustNumber", desc := "(II)V" } : Jvm.MethodName) prog_24_method_41_code (3 : Nat) (Option.none : Option Jvm.ClassFile.FieldType)) ∈ lw_all := lw_g (lw_at lw_m8 177 rfl) rfl
theorem q1987 : (Jvm.Cond.methodLink "CounterDeskModel" (198 : Nat) ({ cls := "CounterDeskModel", name := "readTest", desc := "(I)V" } : Jvm.MethodName)) ∈ lw_all := lw_g (lw_at lw_m8 178 rfl) rfl
theorem q1988 : (Jvm.Cond.privateMethod ({ cls := "CounterDeskModel", name := "readTest", desc := "(I)V" } : Jvm.MethodName)) ∈ lw_tbl := lw_at lw_m8 179 rfl
theorem q1989 : (Jvm.Cond.instanceMethod ({ cls := "CounterDeskModel", name := "readTest", desc := "(I)V" } : Jvm.MethodName)) ∈ lw_all := lw_g (lw_at lw_m8 180 rfl) rfl
theorem q1990 : (Jvm.Cond.code ({ cls := "CounterDeskModel", name := "readTest", desc := "(I)V" } : Jvm.MethodName) prog_24_method_45_code (2 : Nat) (Option.none : Option Jvm.ClassFile.FieldType)) ∈ lw_all := lw_g (lw_at lw_m8 181 rfl) rfl
theorem q1991 : (Jvm.Cond.methodLink "CounterDeskModel" (214 : Nat) ({ cls := "CounterDeskModel", name := "readBoth", desc := "(I)V" } : Jvm.MethodName)) ∈ lw_all := lw_g (lw_at lw_m8 182 rfl) rfl
theorem q1992 : (Jvm.Cond.privateMethod ({ cls := "CounterDeskModel", name := "readBoth", desc := "(I)V" } : Jvm.MethodName)) ∈ lw_tbl := lw_at lw_m8 183 rfl
theorem q1993 : (Jvm.Cond.instanceMethod ({ cls := "CounterDeskModel", name := "readBoth", desc := "(I)V" } : Jvm.MethodName)) ∈ lw_all := lw_g (lw_at lw_m8 184 rfl) rfl
theorem q1994 : (Jvm.Cond.code ({ cls := "CounterDeskModel", name := "readBoth", desc := "(I)V" } : Jvm.MethodName) prog_24_method_46_code (2 : Nat) (Option.none : Option Jvm.ClassFile.FieldType)) ∈ lw_all := lw_g (lw_at lw_m8 185 rfl) rfl
theorem q1995 : (Jvm.Cond.methodLink "CounterDeskModel" (217 : Nat) ({ cls := "CounterDeskModel", name := "readPlain", desc := "(I)V" } : Jvm.MethodName)) ∈ lw_all := lw_g (lw_at lw_m8 186 rfl) rfl
theorem q1996 : (Jvm.Cond.privateMethod ({ cls := "CounterDeskModel", name := "readPlain", desc := "(I)V" } : Jvm.MethodName)) ∈ lw_tbl := lw_at lw_m8 187 rfl
theorem q1997 : (Jvm.Cond.instanceMethod ({ cls := "CounterDeskModel", name := "readPlain", desc := "(I)V" } : Jvm.MethodName)) ∈ lw_all := lw_g (lw_at lw_m8 188 rfl) rfl
theorem q1998 : (Jvm.Cond.code ({ cls := "CounterDeskModel", name := "readPlain", desc := "(I)V" } : Jvm.MethodName) prog_24_method_47_code (4 : Nat) (Option.none : Option Jvm.ClassFile.FieldType)) ∈ lw_all := lw_g (lw_at lw_m8 189 rfl) rfl
theorem q1999 : (Jvm.Cond.methodLink "CounterDeskModel" (211 : Nat) ({ cls := "CounterDeskModel", name := "readClause", desc := "()V" } : Jvm.MethodName)) ∈ lw_all := lw_g (lw_at lw_m8 190 rfl) rfl
theorem q2000 : (Jvm.Cond.privateMethod ({ cls := "CounterDeskModel", name := "readClause", desc := "()V" } : Jvm.MethodName)) ∈ lw_tbl := lw_at lw_m8 191 rfl
theorem q2001 : (Jvm.Cond.instanceMethod ({ cls := "CounterDeskModel", name := "readClause", desc := "()V" } : Jvm.MethodName)) ∈ lw_all := lw_g (lw_at lw_m8 192 rfl) rfl
theorem q2002 : (Jvm.Cond.code ({ cls := "CounterDeskModel", name := "readClause", desc := "()V" } : Jvm.MethodName) prog_24_method_42_code (1 : Nat) (Option.none : Option Jvm.ClassFile.FieldType)) ∈ lw_all := lw_g (lw_at lw_m8 193 rfl) rfl
theorem q2003 : (Jvm.Cond.methodLink "CounterDeskModel" (252 : Nat) ({ cls := "CounterDeskModel", name := "lays", desc := "(I)V" } : Jvm.MethodName)) ∈ lw_all := lw_g (lw_at lw_m8 194 rfl) rfl
theorem q2004 : (Jvm.Cond.privateMethod ({ cls := "CounterDeskModel", name := "lays", desc := "(I)V" } : Jvm.MethodName)) ∈ lw_tbl := lw_at lw_m8 195 rfl
theorem q2005 : (Jvm.Cond.instanceMethod ({ cls := "CounterDeskModel", name := "lays", desc := "(I)V" } : Jvm.MethodName)) ∈ lw_all := lw_g (lw_at lw_m8 196 rfl) rfl
theorem q2006 : (Jvm.Cond.code ({ cls := "CounterDeskModel", name := "lays", desc := "(I)V" } : Jvm.MethodName) prog_24_method_53_code (3 : Nat) (Option.none : Option Jvm.ClassFile.FieldType)) ∈ lw_all := lw_g (lw_at lw_m8 197 rfl) rfl
theorem q2008 : (Jvm.Cond.instanceMethod ({ cls := "CounterDeskModel", name := "fault", desc := "()I" } : Jvm.MethodName)) ∈ lw_all := lw_g (lw_at lw_m8 199 rfl) rfl
theorem q2009 : (Jvm.Cond.selects "CounterDeskModel" ({ cls := "CounterDeskModel", name := "fault", desc := "()I" } : Jvm.MethodName) ({ cls := "CounterDeskModel", name := "fault", desc := "()I" } : Jvm.MethodName)) ∈ lw_all := lw_g (lw_at lw_m8 200 rfl) rfl
theorem q2010 : (Jvm.Cond.code ({ cls := "CounterDeskModel", name := "fault", desc := "()I" } : Jvm.MethodName) prog_24_method_55_code (1 : Nat) (Option.some Jvm.ClassFile.FieldType.int)) ∈ lw_all := lw_g (lw_at lw_m8 201 rfl) rfl
theorem q2012 : (Jvm.Cond.instanceMethod ({ cls := "CounterDeskModel", name := "force", desc := "(I)I" } : Jvm.MethodName)) ∈ lw_all := lw_g (lw_at lw_m8 203 rfl) rfl
theorem q2013 : (Jvm.Cond.selects "CounterDeskModel" ({ cls := "CounterDeskModel", name := "force", desc := "(I)I" } : Jvm.MethodName) ({ cls := "CounterDeskModel", name := "force", desc := "(I)I" } : Jvm.MethodName)) ∈ lw_all := lw_g (lw_at lw_m8 204 rfl) rfl
theorem q2014 : (Jvm.Cond.code ({ cls := "CounterDeskModel", name := "force", desc := "(I)I" } : Jvm.MethodName) prog_24_method_57_code (3 : Nat) (Option.some Jvm.ClassFile.FieldType.int)) ∈ lw_all := lw_g (lw_at lw_m8 205 rfl) rfl
theorem q2015 : (Jvm.Cond.methodLink "CounterDeskModel" (255 : Nat) ({ cls := "CounterDeskModel", name := "isLaw", desc := "(I)Z" } : Jvm.MethodName)) ∈ lw_all := lw_g (lw_at lw_m8 206 rfl) rfl
theorem q2016 : (Jvm.Cond.privateMethod ({ cls := "CounterDeskModel", name := "isLaw", desc := "(I)Z" } : Jvm.MethodName)) ∈ lw_tbl := lw_at lw_m8 207 rfl
theorem q2017 : (Jvm.Cond.instanceMethod ({ cls := "CounterDeskModel", name := "isLaw", desc := "(I)Z" } : Jvm.MethodName)) ∈ lw_all := lw_g (lw_at lw_m8 208 rfl) rfl
theorem q2018 : (Jvm.Cond.code ({ cls := "CounterDeskModel", name := "isLaw", desc := "(I)Z" } : Jvm.MethodName) prog_24_method_56_code (2 : Nat) (Option.some Jvm.ClassFile.FieldType.boolean)) ∈ lw_all := lw_g (lw_at lw_m8 209 rfl) rfl
theorem q2020 : (Jvm.Cond.instanceMethod ({ cls := "CounterDeskModel", name := "all", desc := "(I)I" } : Jvm.MethodName)) ∈ lw_all := lw_g (lw_at lw_m8 211 rfl) rfl
theorem q2021 : (Jvm.Cond.selects "CounterDeskModel" ({ cls := "CounterDeskModel", name := "all", desc := "(I)I" } : Jvm.MethodName) ({ cls := "CounterDeskModel", name := "all", desc := "(I)I" } : Jvm.MethodName)) ∈ lw_all := lw_g (lw_at lw_m8 212 rfl) rfl
theorem q2022 : (Jvm.Cond.code ({ cls := "CounterDeskModel", name := "all", desc := "(I)I" } : Jvm.MethodName) prog_24_method_76_code (2 : Nat) (Option.some Jvm.ClassFile.FieldType.int)) ∈ lw_all := lw_g (lw_at lw_m8 213 rfl) rfl
theorem q2023 : (Jvm.Cond.methodLink "CounterDeskModel" (332 : Nat) ({ cls := "CounterDeskModel", name := "allOf", desc := "(I)I" } : Jvm.MethodName)) ∈ lw_all := lw_g (lw_at lw_m8 214 rfl) rfl
theorem q2024 : (Jvm.Cond.privateMethod ({ cls := "CounterDeskModel", name := "allOf", desc := "(I)I" } : Jvm.MethodName)) ∈ lw_tbl := lw_at lw_m8 215 rfl
theorem q2025 : (Jvm.Cond.instanceMethod ({ cls := "CounterDeskModel", name := "allOf", desc := "(I)I" } : Jvm.MethodName)) ∈ lw_all := lw_g (lw_at lw_m8 216 rfl) rfl
theorem q2026 : (Jvm.Cond.code ({ cls := "CounterDeskModel", name := "allOf", desc := "(I)I" } : Jvm.MethodName) prog_24_method_75_code (4 : Nat) (Option.some Jvm.ClassFile.FieldType.int)) ∈ lw_all := lw_g (lw_at lw_m8 217 rfl) rfl
theorem q2028 : (Jvm.Cond.instanceMethod ({ cls := "CounterDeskModel", name := "undo", desc := "()I" } : Jvm.MethodName)) ∈ lw_all := lw_g (lw_at lw_m8 219 rfl) rfl
theorem q2029 : (Jvm.Cond.selects "CounterDeskModel" ({ cls := "CounterDeskModel", name := "undo", desc := "()I" } : Jvm.MethodName) ({ cls := "CounterDeskModel", name := "undo", desc := "()I" } : Jvm.MethodName)) ∈ lw_all := lw_g (lw_at lw_m8 220 rfl) rfl
theorem q2030 : (Jvm.Cond.code ({ cls := "CounterDeskModel", name := "undo", desc := "()I" } : Jvm.MethodName) prog_24_method_78_code (3 : Nat) (Option.some Jvm.ClassFile.FieldType.int)) ∈ lw_all := lw_g (lw_at lw_m8 221 rfl) rfl
theorem q2032 : (Jvm.Cond.instanceMethod ({ cls := "CounterDeskModel", name := "set", desc := "(II)I" } : Jvm.MethodName)) ∈ lw_all := lw_g (lw_at lw_m8 223 rfl) rfl
theorem q2033 : (Jvm.Cond.selects "CounterDeskModel" ({ cls := "CounterDeskModel", name := "set", desc := "(II)I" } : Jvm.MethodName) ({ cls := "CounterDeskModel", name := "set", desc := "(II)I" } : Jvm.MethodName)) ∈ lw_all := lw_g (lw_at lw_m8 224 rfl) rfl
theorem q2034 : (Jvm.Cond.code ({ cls := "CounterDeskModel", name := "set", desc := "(II)I" } : Jvm.MethodName) prog_24_method_84_code (3 : Nat) (Option.some Jvm.ClassFile.FieldType.int)) ∈ lw_all := lw_g (lw_at lw_m8 225 rfl) rfl
theorem q2035 : (Jvm.Cond.methodLink "CounterDeskModel" (341 : Nat) ({ cls := "CounterDeskModel", name := "movesKept", desc := "(IIII)I" } : Jvm.MethodName)) ∈ lw_all := lw_g (lw_at lw_m8 226 rfl) rfl
theorem q2036 : (Jvm.Cond.privateMethod ({ cls := "CounterDeskModel", name := "movesKept", desc := "(IIII)I" } : Jvm.MethodName)) ∈ lw_tbl := lw_at lw_m8 227 rfl
theorem q2037 : (Jvm.Cond.instanceMethod ({ cls := "CounterDeskModel", name := "movesKept", desc := "(IIII)I" } : Jvm.MethodName)) ∈ lw_all := lw_g (lw_at lw_m8 228 rfl) rfl
theorem q2038 : (Jvm.Cond.code ({ cls := "CounterDeskModel", name := "movesKept", desc := "(IIII)I" } : Jvm.MethodName) prog_24_method_80_code (6 : Nat) (Option.some Jvm.ClassFile.FieldType.int)) ∈ lw_all := lw_g (lw_at lw_m8 229 rfl) rfl
theorem q2039 : (Jvm.Cond.methodLink "CounterDeskModel" (335 : Nat) ({ cls := "CounterDeskModel", name := "keeps", desc := "(I)V" } : Jvm.MethodName)) ∈ lw_all := lw_g (lw_at lw_m8 230 rfl) rfl
theorem q2040 : (Jvm.Cond.privateMethod ({ cls := "CounterDeskModel", name := "keeps", desc := "(I)V" } : Jvm.MethodName)) ∈ lw_tbl := lw_at lw_m8 231 rfl
theorem q2041 : (Jvm.Cond.instanceMethod ({ cls := "CounterDeskModel", name := "keeps", desc := "(I)V" } : Jvm.MethodName)) ∈ lw_all := lw_g (lw_at lw_m8 232 rfl) rfl
theorem q2042 : (Jvm.Cond.code ({ cls := "CounterDeskModel", name := "keeps", desc := "(I)V" } : Jvm.MethodName) prog_24_method_77_code (4 : Nat) (Option.none : Option Jvm.ClassFile.FieldType)) ∈ lw_all := lw_g (lw_at lw_m8 233 rfl) rfl
theorem q2043 : (Jvm.Cond.methodLink "CounterDeskModel" (345 : Nat) ({ cls := "CounterDeskModel", name := "goodOr", desc := "(I)I" } : Jvm.MethodName)) ∈ lw_all := lw_g (lw_at lw_m8 234 rfl) rfl
theorem q2044 : (Jvm.Cond.privateMethod ({ cls := "CounterDeskModel", name := "goodOr", desc := "(I)I" } : Jvm.MethodName)) ∈ lw_tbl := lw_at lw_m8 235 rfl
theorem q2045 : (Jvm.Cond.instanceMethod ({ cls := "CounterDeskModel", name := "goodOr", desc := "(I)I" } : Jvm.MethodName)) ∈ lw_all := lw_g (lw_at lw_m8 236 rfl) rfl
theorem q2046 : (Jvm.Cond.code ({ cls := "CounterDeskModel", name := "goodOr", desc := "(I)I" } : Jvm.MethodName) prog_24_method_79_code (2 : Nat) (Option.some Jvm.ClassFile.FieldType.int)) ∈ lw_all := lw_g (lw_at lw_m8 237 rfl) rfl
theorem q2048 : (Jvm.Cond.instanceMethod ({ cls := "CounterDeskModel", name := "shift", desc := "(II)I" } : Jvm.MethodName)) ∈ lw_all := lw_g (lw_at lw_m8 239 rfl) rfl
theorem q2049 : (Jvm.Cond.selects "CounterDeskModel" ({ cls := "CounterDeskModel", name := "shift", desc := "(II)I" } : Jvm.MethodName) ({ cls := "CounterDeskModel", name := "shift", desc := "(II)I" } : Jvm.MethodName)) ∈ lw_all := lw_g (lw_at lw_m9 0 rfl) rfl
theorem q2050 : (Jvm.Cond.code ({ cls := "CounterDeskModel", name := "shift", desc := "(II)I" } : Jvm.MethodName) prog_24_method_85_code (3 : Nat) (Option.some Jvm.ClassFile.FieldType.int)) ∈ lw_all := lw_g (lw_at lw_m9 1 rfl) rfl
theorem q2052 : (Jvm.Cond.instanceMethod ({ cls := "CounterDeskModel", name := "swap", desc := "()I" } : Jvm.MethodName)) ∈ lw_all := lw_g (lw_at lw_m9 3 rfl) rfl
theorem q2053 : (Jvm.Cond.selects "CounterDeskModel" ({ cls := "CounterDeskModel", name := "swap", desc := "()I" } : Jvm.MethodName) ({ cls := "CounterDeskModel", name := "swap", desc := "()I" } : Jvm.MethodName)) ∈ lw_all := lw_g (lw_at lw_m9 4 rfl) rfl
theorem q2054 : (Jvm.Cond.code ({ cls := "CounterDeskModel", name := "swap", desc := "()I" } : Jvm.MethodName) prog_24_method_86_code (1 : Nat) (Option.some Jvm.ClassFile.FieldType.int)) ∈ lw_all := lw_g (lw_at lw_m9 5 rfl) rfl
theorem q2055 : (Jvm.Cond.methodLink "CounterDeskModel" (348 : Nat) ({ cls := "CounterDeskModel", name := "swapsKept", desc := "()I" } : Jvm.MethodName)) ∈ lw_all := lw_g (lw_at lw_m9 6 rfl) rfl
theorem q2056 : (Jvm.Cond.privateMethod ({ cls := "CounterDeskModel", name := "swapsKept", desc := "()I" } : Jvm.MethodName)) ∈ lw_tbl := lw_at lw_m9 7 rfl
theorem q2057 : (Jvm.Cond.instanceMethod ({ cls := "CounterDeskModel", name := "swapsKept", desc := "()I" } : Jvm.MethodName)) ∈ lw_all := lw_g (lw_at lw_m9 8 rfl) rfl
theorem q2058 : (Jvm.Cond.code ({ cls := "CounterDeskModel", name := "swapsKept", desc := "()I" } : Jvm.MethodName) prog_24_method_82_code (1 : Nat) (Option.some Jvm.ClassFile.FieldType.int)) ∈ lw_all := lw_g (lw_at lw_m9 9 rfl) rfl
theorem q2059 : (Jvm.Cond.methodLink "CounterDeskModel" (338 : Nat) ({ cls := "CounterDeskModel", name := "exchanges", desc := "()V" } : Jvm.MethodName)) ∈ lw_all := lw_g (lw_at lw_m9 10 rfl) rfl
theorem q2060 : (Jvm.Cond.privateMethod ({ cls := "CounterDeskModel", name := "exchanges", desc := "()V" } : Jvm.MethodName)) ∈ lw_tbl := lw_at lw_m9 11 rfl
theorem q2061 : (Jvm.Cond.instanceMethod ({ cls := "CounterDeskModel", name := "exchanges", desc := "()V" } : Jvm.MethodName)) ∈ lw_all := lw_g (lw_at lw_m9 12 rfl) rfl
theorem q2062 : (Jvm.Cond.code ({ cls := "CounterDeskModel", name := "exchanges", desc := "()V" } : Jvm.MethodName) prog_24_method_81_code (3 : Nat) (Option.none : Option Jvm.ClassFile.FieldType)) ∈ lw_all := lw_g (lw_at lw_m9 13 rfl) rfl
theorem q2064 : (Jvm.Cond.instanceMethod ({ cls := "CounterDeskModel", name := "pass", desc := "()I" } : Jvm.MethodName)) ∈ lw_all := lw_g (lw_at lw_m9 15 rfl) rfl
theorem q2065 : (Jvm.Cond.selects "CounterDeskModel" ({ cls := "CounterDeskModel", name := "pass", desc := "()I" } : Jvm.MethodName) ({ cls := "CounterDeskModel", name := "pass", desc := "()I" } : Jvm.MethodName)) ∈ lw_all := lw_g (lw_at lw_m9 16 rfl) rfl
theorem q2066 : (Jvm.Cond.code ({ cls := "CounterDeskModel", name := "pass", desc := "()I" } : Jvm.MethodName) prog_24_method_87_code (1 : Nat) (Option.some Jvm.ClassFile.FieldType.int)) ∈ lw_all := lw_g (lw_at lw_m9 17 rfl) rfl
theorem q2067 : (Jvm.Cond.methodLink "CounterDeskModel" (351 : Nat) ({ cls := "CounterDeskModel", name := "passesKept", desc := "()I" } : Jvm.MethodName)) ∈ lw_all := lw_g (lw_at lw_m9 18 rfl) rfl
theorem q2068 : (Jvm.Cond.privateMethod ({ cls := "CounterDeskModel", name := "passesKept", desc := "()I" } : Jvm.MethodName)) ∈ lw_tbl := lw_at lw_m9 19 rfl
theorem q2069 : (Jvm.Cond.instanceMethod ({ cls := "CounterDeskModel", name := "passesKept", desc := "()I" } : Jvm.MethodName)) ∈ lw_all := lw_g (lw_at lw_m9 20 rfl) rfl
theorem q2070 : (Jvm.Cond.code ({ cls := "CounterDeskModel", name := "passesKept", desc := "()I" } : Jvm.MethodName) prog_24_method_83_code (2 : Nat) (Option.some Jvm.ClassFile.FieldType.int)) ∈ lw_all := lw_g (lw_at lw_m9 21 rfl) rfl
theorem q2072 : (Jvm.Cond.instanceMethod ({ cls := "CounterDeskModel", name := "best", desc := "(I)I" } : Jvm.MethodName)) ∈ lw_all := lw_g (lw_at lw_m9 23 rfl) rfl
theorem q2073 : (Jvm.Cond.selects "CounterDeskModel" ({ cls := "CounterDeskModel", name := "best", desc := "(I)I" } : Jvm.MethodName) ({ cls := "CounterDeskModel", name := "best", desc := "(I)I" } : Jvm.MethodName)) ∈ lw_all := lw_g (lw_at lw_m9 24 rfl) rfl
theorem q2074 : (Jvm.Cond.code ({ cls := "CounterDeskModel", name := "best", desc := "(I)I" } : Jvm.MethodName) prog_24_method_97_code (2 : Nat) (Option.some Jvm.ClassFile.FieldType.int)) ∈ lw_all := lw_g (lw_at lw_m9 25 rfl) rfl
theorem q2075 : (Jvm.Cond.methodLink "CounterDeskModel" (387 : Nat) ({ cls := "CounterDeskModel", name := "voiceOf", desc := "(IZ)I" } : Jvm.MethodName)) ∈ lw_all := lw_g (lw_at lw_m9 26 rfl) rfl
theorem q2076 : (Jvm.Cond.privateMethod ({ cls := "CounterDeskModel", name := "voiceOf", desc := "(IZ)I" } : Jvm.MethodName)) ∈ lw_tbl := lw_at lw_m9 27 rfl
theorem q2077 : (Jvm.Cond.instanceMethod ({ cls := "CounterDeskModel", name := "voiceOf", desc := "(IZ)I" } : Jvm.MethodName)) ∈ lw_all := lw_g (lw_at lw_m9 28 rfl) rfl
theorem q2078 : (Jvm.Cond.code ({ cls := "CounterDeskModel", name := "voiceOf", desc := "(IZ)I" } : Jvm.MethodName) prog_24_method_96_code (4 : Nat) (Option.some Jvm.ClassFile.FieldType.int)) ∈ lw_all := lw_g (lw_at lw_m9 29 rfl) rfl
theorem q2079 : (Jvm.Cond.methodLink "CounterDeskModel" (376 : Nat) ({ cls := "CounterDeskModel", name := "laysNotes", desc := "()V" } : Jvm.MethodName)) ∈ lw_all := lw_g (lw_at lw_m9 30 rfl) rfl
theorem q2080 : (Jvm.Cond.privateMethod ({ cls := "CounterDeskModel", name := "laysNotes", desc := "()V" } : Jvm.MethodName)) ∈ lw_tbl := lw_at lw_m9 31 rfl
theorem q2081 : (Jvm.Cond.instanceMethod ({ cls := "CounterDeskModel", name := "laysNotes", desc := "()V" } : Jvm.MethodName)) ∈ lw_all := lw_g (lw_at lw_m9 32 rfl) rfl
theorem q2082 : (Jvm.Cond.code ({ cls := "CounterDeskModel", name := "laysNotes", desc := "()V" } : Jvm.MethodName) prog_24_method_90_code (2 : Nat) (Option.none : Option Jvm.ClassFile.FieldType)) ∈ lw_all := lw_g (lw_at lw_m9 33 rfl) rfl
theorem q2083 : (Jvm.Cond.methodLink "CounterDeskModel" (357 : Nat) ({ cls := "CounterDeskModel", name := "laysNote", desc := "(I)V" } : Jvm.MethodName)) ∈ lw_all := lw_g (lw_at lw_m9 34 rfl) rfl
theorem q2084 : (Jvm.Cond.privateMethod ({ cls := "CounterDeskModel", name := "laysNote", desc := "(I)V" } : Jvm.MethodName)) ∈ lw_tbl := lw_at lw_m9 35 rfl
theorem q2085 : (Jvm.Cond.instanceMethod ({ cls := "CounterDeskModel", name := "laysNote", desc := "(I)V" } : Jvm.MethodName)) ∈ lw_all := lw_g (lw_at lw_m9 36 rfl) rfl
theorem q2086 : (Jvm.Cond.code ({ cls := "CounterDeskModel", name := "laysNote", desc := "(I)V" } : Jvm.MethodName) prog_24_method_89_code (5 : Nat) (Option.none : Option Jvm.ClassFile.FieldType)) ∈ lw_all := lw_g (lw_at lw_m9 37 rfl) rfl
theorem q2087 : (Jvm.Cond.methodLink "CounterDeskModel" (354 : Nat) ({ cls := "CounterDeskModel", name := "noteAt", desc := "(III)I" } : Jvm.MethodName)) ∈ lw_all := lw_g (lw_at lw_m9 38 rfl) rfl
theorem q2088 : (Jvm.Cond.static ({ cls := "CounterDeskModel", name := "noteAt", desc := "(III)I" } : Jvm.MethodName)) ∈ lw_all := lw_g (lw_at lw_m9 39 rfl) rfl
theorem q2089 : (Jvm.Cond.code ({ cls := "CounterDeskModel", name := "noteAt", desc := "(III)I" } : Jvm.MethodName) prog_24_method_88_code (3 : Nat) (Option.some Jvm.ClassFile.FieldType.int)) ∈ lw_all := lw_g (lw_at lw_m9 40 rfl) rfl
theorem q2090 : (Jvm.Cond.methodLink "CounterDeskModel" (379 : Nat) ({ cls := "CounterDeskModel", name := "leastOf", desc := "(Z)I" } : Jvm.MethodName)) ∈ lw_all := lw_g (lw_at lw_m9 41 rfl) rfl
theorem q2091 : (Jvm.Cond.privateMethod ({ cls := "CounterDeskModel", name := "leastOf", desc := "(Z)I" } : Jvm.MethodName)) ∈ lw_tbl := lw_at lw_m9 42 rfl
theorem q2092 : (Jvm.Cond.instanceMethod ({ cls := "CounterDeskModel", name := "leastOf", desc := "(Z)I" } : Jvm.MethodName)) ∈ lw_all := lw_g (lw_at lw_m9 43 rfl) rfl
theorem q2093 : (Jvm.Cond.code ({ cls := "CounterDeskModel", name := "leastOf", desc := "(Z)I" } : Jvm.MethodName) prog_24_method_94_code (3 : Nat) (Option.some Jvm.ClassFile.FieldType.int)) ∈ lw_all := lw_g (lw_at lw_m9 44 rfl) rfl
theorem q2094 : (Jvm.Cond.methodLink "CounterDeskModel" (372 : Nat) ({ cls := "CounterDeskModel", name := "laysRest", desc := "(IIZ)V" } : Jvm.MethodName)) ∈ lw_all := lw_g (lw_at lw_m9 45 rfl) rfl
theorem q2095 : (Jvm.Cond.privateMethod ({ cls := "CounterDeskModel", name := "laysRest", desc := "(IIZ)V" } : Jvm.MethodName)) ∈ lw_tbl := lw_at lw_m9 46 rfl
theorem q2096 : (Jvm.Cond.instanceMethod ({ cls := "CounterDeskModel", name := "laysRest", desc := "(IIZ)V" } : Jvm.MethodName)) ∈ lw_all := lw_g (lw_at lw_m9 47 rfl) rfl
theorem q2097 : (Jvm.Cond.code ({ cls := "CounterDeskModel", name := "laysRest", desc := "(IIZ)V" } : Jvm.MethodName) prog_24_method_91_code (6 : Nat) (Option.none : Option Jvm.ClassFile.FieldType)) ∈ lw_all := lw_g (lw_at lw_m9 48 rfl) rfl
theorem q2098 : (Jvm.Cond.methodLink "CounterDeskModel" (360 : Nat) ({ cls := "CounterDeskModel", name := "leastFrom", desc := "(IIIIZ)I" } : Jvm.MethodName)) ∈ lw_all := lw_g (lw_at lw_m9 49 rfl) rfl
theorem q2099 : (Jvm.Cond.privateMethod ({ cls := "CounterDeskModel", name := "leastFrom", desc := "(IIIIZ)I" } : Jvm.MethodName)) ∈ lw_tbl := lw_at lw_m9 50 rfl
theorem q2100 : (Jvm.Cond.instanceMethod ({ cls := "CounterDeskModel", name := "leastFrom", desc := "(IIIIZ)I" } : Jvm.MethodName)) ∈ lw_all := lw_g (lw_at lw_m9 51 rfl) rfl
theorem q2101 : (Jvm.Cond.code ({ cls := "CounterDeskModel", name := "leastFrom", desc := "(IIIIZ)I" } : Jvm.MethodName) prog_24_method_93_code (8 : Nat) (Option.some Jvm.ClassFile.FieldType.int)) ∈ lw_all := lw_g (lw_at lw_m9 52 rfl) rfl
theorem q2102 : (Jvm.Cond.constant "CounterDeskModel" (364 : Nat) (100000000 : Int32)) ∈ lw_all := lw_g (lw_at lw_m9 53 rfl) rfl
theorem q2103 : (Jvm.Cond.methodLink "CounterDeskModel" (365 : Nat) ({ cls := "CounterDeskModel", name := "priceOf", desc := "(IIIZ)I" } : Jvm.MethodName)) ∈ lw_all := lw_g (lw_at lw_m9 54 rfl) rfl
theorem q2104 : (Jvm.Cond.privateMethod ({ cls := "CounterDeskModel", name := "priceOf", desc := "(IIIZ)I" } : Jvm.MethodName)) ∈ lw_tbl := lw_at lw_m9 55 rfl
theorem q2105 : (Jvm.Cond.instanceMethod ({ cls := "CounterDeskModel", name := "priceOf", desc := "(IIIZ)I" } : Jvm.MethodName)) ∈ lw_all := lw_g (lw_at lw_m9 56 rfl) rfl
theorem q2106 : (Jvm.Cond.code ({ cls := "CounterDeskModel", name := "priceOf", desc := "(IIIZ)I" } : Jvm.MethodName) prog_24_method_92_code (5 : Nat) (Option.some Jvm.ClassFile.FieldType.int)) ∈ lw_all := lw_g (lw_at lw_m9 57 rfl) rfl
theorem q2107 : (Jvm.Cond.methodLink "CounterDeskModel" (369 : Nat) ({ cls := "CounterDeskModel", name := "lesser", desc := "(II)I" } : Jvm.MethodName)) ∈ lw_all := lw_g (lw_at lw_m9 58 rfl) rfl
theorem q2108 : (Jvm.Cond.static ({ cls := "CounterDeskModel", name := "lesser", desc := "(II)I" } : Jvm.MethodName)) ∈ lw_all := lw_g (lw_at lw_m9 59 rfl) rfl
theorem q2109 : (Jvm.Cond.code ({ cls := "CounterDeskModel", name := "lesser", desc := "(II)I" } : Jvm.MethodName) prog_24_method_2_code (2 : Nat) (Option.some Jvm.ClassFile.FieldType.int)) ∈ lw_all := lw_g (lw_at lw_m9 60 rfl) rfl
theorem q2110 : (Jvm.Cond.methodLink "CounterDeskModel" (383 : Nat) ({ cls := "CounterDeskModel", name := "pitchOf", desc := "(IZ)I" } : Jvm.MethodName)) ∈ lw_all := lw_g (lw_at lw_m9 61 rfl) rfl
theorem q2111 : (Jvm.Cond.privateMethod ({ cls := "CounterDeskModel", name := "pitchOf", desc := "(IZ)I" } : Jvm.MethodName)) ∈ lw_tbl := lw_at lw_m9 62 rfl
theorem q2112 : (Jvm.Cond.instanceMethod ({ cls := "CounterDeskModel", name := "pitchOf", desc := "(IZ)I" } : Jvm.MethodName)) ∈ lw_all := lw_g (lw_at lw_m9 63 rfl) rfl
theorem q2113 : (Jvm.Cond.code ({ cls := "CounterDeskModel", name := "pitchOf", desc := "(IZ)I" } : Jvm.MethodName) prog_24_method_95_code (7 : Nat) (Option.some Jvm.ClassFile.FieldType.int)) ∈ lw_all := lw_g (lw_at lw_m9 64 rfl) rfl
theorem q2115 : (Jvm.Cond.instanceMethod ({ cls := "CounterDeskModel", name := "mend", desc := "(I)I" } : Jvm.MethodName)) ∈ lw_all := lw_g (lw_at lw_m9 66 rfl) rfl
theorem q2116 : (Jvm.Cond.selects "CounterDeskModel" ({ cls := "CounterDeskModel", name := "mend", desc := "(I)I" } : Jvm.MethodName) ({ cls := "CounterDeskModel", name := "mend", desc := "(I)I" } : Jvm.MethodName)) ∈ lw_all := lw_g (lw_at lw_m9 67 rfl) rfl
theorem q2117 : (Jvm.Cond.code ({ cls := "CounterDeskModel", name := "mend", desc := "(I)I" } : Jvm.MethodName) prog_24_method_98_code (2 : Nat) (Option.some Jvm.ClassFile.FieldType.int)) ∈ lw_all := lw_g (lw_at lw_m9 68 rfl) rfl
theorem q2119 : (Jvm.Cond.instanceMethod ({ cls := "CounterDeskModel", name := "between", desc := "(II)I" } : Jvm.MethodName)) ∈ lw_all := lw_g (lw_at lw_m9 70 rfl) rfl
theorem q2120 : (Jvm.Cond.selects "CounterDeskModel" ({ cls := "CounterDeskModel", name := "between", desc := "(II)I" } : Jvm.MethodName) ({ cls := "CounterDeskModel", name := "between", desc := "(II)I" } : Jvm.MethodName)) ∈ lw_all := lw_g (lw_at lw_m9 71 rfl) rfl
theorem q2121 : (Jvm.Cond.code ({ cls := "CounterDeskModel", name := "between", desc := "(II)I" } : Jvm.MethodName) prog_24_method_100_code (6 : Nat) (Option.some Jvm.ClassFile.FieldType.int)) ∈ lw_all := lw_g (lw_at lw_m9 72 rfl) rfl
theorem q2122 : (Jvm.Cond.methodLink "CounterDeskModel" (390 : Nat) ({ cls := "CounterDeskModel", name := "isWithin", desc := "(I)Z" } : Jvm.MethodName)) ∈ lw_all := lw_g (lw_at lw_m9 73 rfl) rfl
theorem q2123 : (Jvm.Cond.privateMethod ({ cls := "CounterDeskModel", name := "isWithin", desc := "(I)Z" } : Jvm.MethodName)) ∈ lw_tbl := lw_at lw_m9 74 rfl
theorem q2124 : (Jvm.Cond.instanceMethod ({ cls := "CounterDeskModel", name := "isWithin", desc := "(I)Z" } : Jvm.MethodName)) ∈ lw_all := lw_g (lw_at lw_m9 75 rfl) rfl
theorem q2125 : (Jvm.Cond.code ({ cls := "CounterDeskModel", name := "isWithin", desc := "(I)Z" } : Jvm.MethodName) prog_24_method_99_code (2 : Nat) (Option.some Jvm.ClassFile.FieldType.boolean)) ∈ lw_all := lw_g (lw_at lw_m9 76 rfl) rfl
theorem q2127 : (Jvm.Cond.instanceMethod ({ cls := "CounterDeskModel", name := "richest", desc := "()I" } : Jvm.MethodName)) ∈ lw_all := lw_g (lw_at lw_m9 78 rfl) rfl
theorem q2128 : (Jvm.Cond.selects "CounterDeskModel" ({ cls := "CounterDeskModel", name := "richest", desc := "()I" } : Jvm.MethodName) ({ cls := "CounterDeskModel", name := "richest", desc := "()I" } : Jvm.MethodName)) ∈ lw_all := lw_g (lw_at lw_m9 79 rfl) rfl
theorem q2129 : (Jvm.Cond.code ({ cls := "CounterDeskModel", name := "richest", desc := "()I" } : Jvm.MethodName) prog_24_method_101_code (3 : Nat) (Option.some Jvm.ClassFile.FieldType.int)) ∈ lw_all := lw_g (lw_at lw_m9 80 rfl) rfl
theorem q2130 : (Jvm.Cond.methodLink "CounterDeskModel" (393 : Nat) ({ cls := "CounterDeskModel", name := "mostFrom", desc := "(II)I" } : Jvm.MethodName)) ∈ lw_all := lw_g (lw_at lw_m9 81 rfl) rfl
theorem q2131 : (Jvm.Cond.privateMethod ({ cls := "CounterDeskModel", name := "mostFrom", desc := "(II)I" } : Jvm.MethodName)) ∈ lw_tbl := lw_at lw_m9 82 rfl
theorem q2132 : (Jvm.Cond.instanceMethod ({ cls := "CounterDeskModel", name := "mostFrom", desc := "(II)I" } : Jvm.MethodName)) ∈ lw_all := lw_g (lw_at lw_m9 83 rfl) rfl
theorem q2133 : (Jvm.Cond.code ({ cls := "CounterDeskModel", name := "mostFrom", desc := "(II)I" } : Jvm.MethodName) prog_24_method_102_code (5 : Nat) (Option.some Jvm.ClassFile.FieldType.int)) ∈ lw_all := lw_g (lw_at lw_m9 84 rfl) rfl
theorem q2134 : (Jvm.Cond.constant "CounterDeskModel" (396 : Nat) (-100000000 : Int32)) ∈ lw_all := lw_g (lw_at lw_m9 85 rfl) rfl
theorem q2135 : (Jvm.Cond.methodLink "CounterDeskModel" (397 : Nat) ({ cls := "CounterDeskModel", name := "greater", desc := "(II)I" } : Jvm.MethodName)) ∈ lw_all := lw_g (lw_at lw_m9 86 rfl) rfl
theorem q2136 : (Jvm.Cond.static ({ cls := "CounterDeskModel", name := "greater", desc := "(II)I" } : Jvm.MethodName)) ∈ lw_all := lw_g (lw_at lw_m9 87 rfl) rfl
theorem q2137 : (Jvm.Cond.code ({ cls := "CounterDeskModel", name := "greater", desc := "(II)I" } : Jvm.MethodName) prog_24_method_3_code (2 : Nat) (Option.some Jvm.ClassFile.FieldType.int)) ∈ lw_all := lw_g (lw_at lw_m9 88 rfl) rfl
theorem q2139 : (Jvm.Cond.instanceMethod ({ cls := "CounterDeskModel", name := "ways", desc := "()J" } : Jvm.MethodName)) ∈ lw_all := lw_g (lw_at lw_m9 90 rfl) rfl
theorem q2140 : (Jvm.Cond.selects "CounterDeskModel" ({ cls := "CounterDeskModel", name := "ways", desc := "()J" } : Jvm.MethodName) ({ cls := "CounterDeskModel", name := "ways", desc := "()J" } : Jvm.MethodName)) ∈ lw_all := lw_g (lw_at lw_m9 91 rfl) rfl
theorem q2141 : (Jvm.Cond.code ({ cls := "CounterDeskModel", name := "ways", desc := "()J" } : Jvm.MethodName) prog_24_method_103_code (3 : Nat) (Option.some Jvm.ClassFile.FieldType.long)) ∈ lw_all := lw_g (lw_at lw_m9 92 rfl) rfl
theorem q2142 : (Jvm.Cond.methodLink "CounterDeskModel" (400 : Nat) ({ cls := "CounterDeskModel", name := "waysFrom", desc := "(II)J" } : Jvm.MethodName)) ∈ lw_all := lw_g (lw_at lw_m9 93 rfl) rfl
theorem q2143 : (Jvm.Cond.privateMethod ({ cls := "CounterDeskModel", name := "waysFrom", desc := "(II)J" } : Jvm.MethodName)) ∈ lw_tbl := lw_at lw_m9 94 rfl
theorem q2144 : (Jvm.Cond.instanceMethod ({ cls := "CounterDeskModel", name := "waysFrom", desc := "(II)J" } : Jvm.MethodName)) ∈ lw_all := lw_g (lw_at lw_m9 95 rfl) rfl
theorem q2145 : (Jvm.Cond.code ({ cls := "CounterDeskModel", name := "waysFrom", desc := "(II)J" } : Jvm.MethodName) prog_24_method_104_code (6 : Nat) (Option.some Jvm.ClassFile.FieldType.long)) ∈ lw_all := lw_g (lw_at lw_m9 96 rfl) rfl
theorem q2147 : (Jvm.Cond.instanceMethod ({ cls := "CounterDeskModel", name := "compass", desc := "(I)I" } : Jvm.MethodName)) ∈ lw_all := lw_g (lw_at lw_m9 98 rfl) rfl
theorem q2148 : (Jvm.Cond.selects "CounterDeskModel" ({ cls := "CounterDeskModel", name := "compass", desc := "(I)I" } : Jvm.MethodName) ({ cls := "CounterDeskModel", name := "compass", desc := "(I)I" } : Jvm.MethodName)) ∈ lw_all := lw_g (lw_at lw_m9 99 rfl) rfl
theorem q2149 : (Jvm.Cond.code ({ cls := "CounterDeskModel", name := "compass", desc := "(I)I" } : Jvm.MethodName) prog_24_method_106_code (4 : Nat) (Option.some Jvm.ClassFile.FieldType.int)) ∈ lw_all := lw_g (lw_at lw_m9 100 rfl) rfl
theorem q2150 : (Jvm.Cond.methodLink "CounterDeskModel" (404 : Nat) ({ cls := "CounterDeskModel", name := "hasVoice", desc := "(II)Z" } : Jvm.MethodName)) ∈ lw_all := lw_g (lw_at lw_m9 101 rfl) rfl
theorem q2151 : (Jvm.Cond.privateMethod ({ cls := "CounterDeskModel", name := "hasVoice", desc := "(II)Z" } : Jvm.MethodName)) ∈ lw_tbl := lw_at lw_m9 102 rfl
theorem q2152 : (Jvm.Cond.instanceMethod ({ cls := "CounterDeskModel", name := "hasVoice", desc := "(II)Z" } : Jvm.MethodName)) ∈ lw_all := lw_g (lw_at lw_m9 103 rfl) rfl
theorem q2153 : (Jvm.Cond.code ({ cls := "CounterDeskModel", name := "hasVoice", desc := "(II)Z" } : Jvm.MethodName) prog_24_method_105_code (3 : Nat) (Option.some Jvm.ClassFile.FieldType.boolean)) ∈ lw_all := lw_g (lw_at lw_m9 104 rfl) rfl
theorem q2155 : (Jvm.Cond.instanceMethod ({ cls := "CounterDeskModel", name := "cheapest", desc := "(II)I" } : Jvm.MethodName)) ∈ lw_all := lw_g (lw_at lw_m9 106 rfl) rfl
theorem q2156 : (Jvm.Cond.selects "CounterDeskModel" ({ cls := "CounterDeskModel", name := "cheapest", desc := "(II)I" } : Jvm.MethodName) ({ cls := "CounterDeskModel", name := "cheapest", desc := "(II)I" } : Jvm.MethodName)) ∈ lw_all := lw_g (lw_at lw_m9 107 rfl) rfl
theorem q2157 : (Jvm.Cond.code ({ cls := "CounterDeskModel", name := "cheapest", desc := "(II)I" } : Jvm.MethodName) prog_24_method_107_code (7 : Nat) (Option.some Jvm.ClassFile.FieldType.int)) ∈ lw_all := lw_g (lw_at lw_m9 108 rfl) rfl
theorem q2158 : (Jvm.Cond.methodLink "CounterDeskModel" (407 : Nat) ({ cls := "CounterDeskModel", name := "leastShifted", desc := "(II)I" } : Jvm.MethodName)) ∈ lw_all := lw_g (lw_at lw_m9 109 rfl) rfl
theorem q2159 : (Jvm.Cond.privateMethod ({ cls := "CounterDeskModel", name := "leastShifted", desc := "(II)I" } : Jvm.MethodName)) ∈ lw_tbl := lw_at lw_m9 110 rfl
theorem q2160 : (Jvm.Cond.instanceMethod ({ cls := "CounterDeskModel", name := "leastShifted", desc := "(II)I" } : Jvm.MethodName)) ∈ lw_all := lw_g (lw_at lw_m9 111 rfl) rfl
theorem q2161 : (Jvm.Cond.code ({ cls := "CounterDeskModel", name := "leastShifted", desc := "(II)I" } : Jvm.MethodName) prog_24_method_108_code (5 : Nat) (Option.some Jvm.ClassFile.FieldType.int)) ∈ lw_all := lw_g (lw_at lw_m9 112 rfl) rfl
theorem q2163 : (Jvm.Cond.instanceMethod ({ cls := "CounterDeskModel", name := "compare", desc := "(I)I" } : Jvm.MethodName)) ∈ lw_all := lw_g (lw_at lw_m9 114 rfl) rfl
theorem q2164 : (Jvm.Cond.selects "CounterDeskModel" ({ cls := "CounterDeskModel", name := "compare", desc := "(I)I" } : Jvm.MethodName) ({ cls := "CounterDeskModel", name := "compare", desc := "(I)I" } : Jvm.MethodName)) ∈ lw_all := lw_g (lw_at lw_m9 115 rfl) rfl
theorem q2165 : (Jvm.Cond.code ({ cls := "CounterDeskModel", name := "compare", desc := "(I)I" } : Jvm.MethodName) prog_24_method_109_code (4 : Nat) (Option.some Jvm.ClassFile.FieldType.int)) ∈ lw_all := lw_g (lw_at lw_m9 116 rfl) rfl
theorem q2167 : (Jvm.Cond.instanceMethod ({ cls := "CounterDeskModel", name := "canon", desc := "(II)I" } : Jvm.MethodName)) ∈ lw_all := lw_g (lw_at lw_m9 118 rfl) rfl
theorem q2168 : (Jvm.Cond.selects "CounterDeskModel" ({ cls := "CounterDeskModel", name := "canon", desc := "(II)I" } : Jvm.MethodName) ({ cls := "CounterDeskModel", name := "canon", desc := "(II)I" } : Jvm.MethodName)) ∈ lw_all := lw_g (lw_at lw_m9 119 rfl) rfl
theorem q2169 : (Jvm.Cond.code ({ cls := "CounterDeskModel", name := "canon", desc := "(II)I" } : Jvm.MethodName) prog_24_method_111_code (5 : Nat) (Option.some Jvm.ClassFile.FieldType.int)) ∈ lw_all := lw_g (lw_at lw_m9 120 rfl) rfl
theorem q2170 : (Jvm.Cond.methodLink "CounterDeskModel" (410 : Nat) ({ cls := "CounterDeskModel", name := "isCanon", desc := "(II)Z" } : Jvm.MethodName)) ∈ lw_all := lw_g (lw_at lw_m9 121 rfl) rfl
theorem q2171 : (Jvm.Cond.privateMethod ({ cls := "CounterDeskModel", name := "isCanon", desc := "(II)Z" } : Jvm.MethodName)) ∈ lw_tbl := lw_at lw_m9 122 rfl
theorem q2172 : (Jvm.Cond.instanceMethod ({ cls := "CounterDeskModel", name := "isCanon", desc := "(II)Z" } : Jvm.MethodName)) ∈ lw_all := lw_g (lw_at lw_m9 123 rfl) rfl
theorem q2173 : (Jvm.Cond.code ({ cls := "CounterDeskModel", name := "isCanon", desc := "(II)Z" } : Jvm.MethodName) prog_24_method_110_code (6 : Nat) (Option.some Jvm.ClassFile.FieldType.boolean)) ∈ lw_all := lw_g (lw_at lw_m9 124 rfl) rfl
theorem q2175 : (Jvm.Cond.instanceMethod ({ cls := "CounterDeskModel", name := "parallels", desc := "(I)I" } : Jvm.MethodName)) ∈ lw_all := lw_g (lw_at lw_m9 126 rfl) rfl
theorem q2176 : (Jvm.Cond.selects "CounterDeskModel" ({ cls := "CounterDeskModel", name := "parallels", desc := "(I)I" } : Jvm.MethodName) ({ cls := "CounterDeskModel", name := "parallels", desc := "(I)I" } : Jvm.MethodName)) ∈ lw_all := lw_g (lw_at lw_m9 127 rfl) rfl
theorem q2177 : (Jvm.Cond.code ({ cls := "CounterDeskModel", name := "parallels", desc := "(I)I" } : Jvm.MethodName) prog_24_method_114_code (4 : Nat) (Option.some Jvm.ClassFile.FieldType.int)) ∈ lw_all := lw_g (lw_at lw_m9 128 rfl) rfl
theorem q2178 : (Jvm.Cond.methodLink "CounterDeskModel" (416 : Nat) ({ cls := "CounterDeskModel", name := "isParallel", desc := "(II)Z" } : Jvm.MethodName)) ∈ lw_all := lw_g (lw_at lw_m9 129 rfl) rfl
theorem q2179 : (Jvm.Cond.privateMethod ({ cls := "CounterDeskModel", name := "isParallel", desc := "(II)Z" } : Jvm.MethodName)) ∈ lw_tbl := lw_at lw_m9 130 rfl
theorem q2180 : (Jvm.Cond.instanceMethod ({ cls := "CounterDeskModel", name := "isParallel", desc := "(II)Z" } : Jvm.MethodName)) ∈ lw_all := lw_g (lw_at lw_m9 131 rfl) rfl
theorem q2181 : (Jvm.Cond.code ({ cls := "CounterDeskModel", name := "isParallel", desc := "(II)Z" } : Jvm.MethodName) prog_24_method_113_code (3 : Nat) (Option.some Jvm.ClassFile.FieldType.boolean)) ∈ lw_all := lw_g (lw_at lw_m9 132 rfl) rfl
theorem q2182 : (Jvm.Cond.methodLink "CounterDeskModel" (413 : Nat) ({ cls := "CounterDeskModel", name := "interval", desc := "(I)I" } : Jvm.MethodName)) ∈ lw_all := lw_g (lw_at lw_m9 133 rfl) rfl
theorem q2183 : (Jvm.Cond.privateMethod ({ cls := "CounterDeskModel", name := "interval", desc := "(I)I" } : Jvm.MethodName)) ∈ lw_tbl := lw_at lw_m9 134 rfl
theorem q2184 : (Jvm.Cond.instanceMethod ({ cls := "CounterDeskModel", name := "interval", desc := "(I)I" } : Jvm.MethodName)) ∈ lw_all := lw_g (lw_at lw_m9 135 rfl) rfl
theorem q2185 : (Jvm.Cond.code ({ cls := "CounterDeskModel", name := "interval", desc := "(I)I" } : Jvm.MethodName) prog_24_method_112_code (2 : Nat) (Option.some Jvm.ClassFile.FieldType.int)) ∈ lw_all := lw_g (lw_at lw_m9 136 rfl) rfl
theorem q2187 : (Jvm.Cond.instanceMethod ({ cls := "CounterDeskModel", name := "heard", desc := "(II)I" } : Jvm.MethodName)) ∈ lw_all := lw_g (lw_at lw_m9 138 rfl) rfl
theorem q2188 : (Jvm.Cond.selects "CounterDeskModel" ({ cls := "CounterDeskModel", name := "heard", desc := "(II)I" } : Jvm.MethodName) ({ cls := "CounterDeskModel", name := "heard", desc := "(II)I" } : Jvm.MethodName)) ∈ lw_all := lw_g (lw_at lw_m9 139 rfl) rfl
theorem q2189 : (Jvm.Cond.code ({ cls := "CounterDeskModel", name := "heard", desc := "(II)I" } : Jvm.MethodName) prog_24_method_115_code (4 : Nat) (Option.some Jvm.ClassFile.FieldType.int)) ∈ lw_all := lw_g (lw_at lw_m9 140 rfl) rfl
theorem q2191 : (Jvm.Cond.instanceMethod ({ cls := "CounterDeskModel", name := "forget", desc := "()I" } : Jvm.MethodName)) ∈ lw_all := lw_g (lw_at lw_m9 142 rfl) rfl
theorem q2192 : (Jvm.Cond.selects "CounterDeskModel" ({ cls := "CounterDeskModel", name := "forget", desc := "()I" } : Jvm.MethodName) ({ cls := "CounterDeskModel", name := "forget", desc := "()I" } : Jvm.MethodName)) ∈ lw_all := lw_g (lw_at lw_m9 143 rfl) rfl
theorem q2193 : (Jvm.Cond.code ({ cls := "CounterDeskModel", name := "forget", desc := "()I" } : Jvm.MethodName) prog_24_method_116_code (2 : Nat) (Option.some Jvm.ClassFile.FieldType.int)) ∈ lw_all := lw_g (lw_at lw_m9 144 rfl) rfl
theorem q2195 : (Jvm.Cond.instanceMethod ({ cls := "CounterDeskModel", name := "canBe", desc := "()I" } : Jvm.MethodName)) ∈ lw_all := lw_g (lw_at lw_m9 146 rfl) rfl
theorem q2196 : (Jvm.Cond.selects "CounterDeskModel" ({ cls := "CounterDeskModel", name := "canBe", desc := "()I" } : Jvm.MethodName) ({ cls := "CounterDeskModel", name := "canBe", desc := "()I" } : Jvm.MethodName)) ∈ lw_all := lw_g (lw_at lw_m9 147 rfl) rfl
theorem q2197 : (Jvm.Cond.code ({ cls := "CounterDeskModel", name := "canBe", desc := "()I" } : Jvm.MethodName) prog_24_method_119_code (3 : Nat) (Option.some Jvm.ClassFile.FieldType.int)) ∈ lw_all := lw_g (lw_at lw_m9 148 rfl) rfl
theorem q2198 : (Jvm.Cond.methodLink "CounterDeskModel" (419 : Nat) ({ cls := "CounterDeskModel", name := "laysFacts", desc := "()V" } : Jvm.MethodName)) ∈ lw_all := lw_g (lw_at lw_m9 149 rfl) rfl
theorem q2199 : (Jvm.Cond.privateMethod ({ cls := "CounterDeskModel", name := "laysFacts", desc := "()V" } : Jvm.MethodName)) ∈ lw_tbl := lw_at lw_m9 150 rfl
theorem q2200 : (Jvm.Cond.instanceMethod ({ cls := "CounterDeskModel", name := "laysFacts", desc := "()V" } : Jvm.MethodName)) ∈ lw_all := lw_g (lw_at lw_m9 151 rfl) rfl
theorem q2201 : (Jvm.Cond.code ({ cls := "CounterDeskModel", name := "laysFacts", desc := "()V" } : Jvm.MethodName) prog_24_method_117_code (2 : Nat) (Option.none : Option Jvm.ClassFile.FieldType)) ∈ lw_all := lw_g (lw_at lw_m9 152 rfl) rfl
theorem q2202 : (Jvm.Cond.methodLink "CounterDeskModel" (422 : Nat) ({ cls := "CounterDeskModel", name := "isSo", desc := "(I)Z" } : Jvm.MethodName)) ∈ lw_all := lw_g (lw_at lw_m9 153 rfl) rfl
theorem q2203 : (Jvm.Cond.privateMethod ({ cls := "CounterDeskModel", name := "isSo", desc := "(I)Z" } : Jvm.MethodName)) ∈ lw_tbl := lw_at lw_m9 154 rfl
theorem q2204 : (Jvm.Cond.instanceMethod ({ cls := "CounterDeskModel", name := "isSo", desc := "(I)Z" } : Jvm.MethodName)) ∈ lw_all := lw_g (lw_at lw_m9 155 rfl) rfl
theorem q2205 : (Jvm.Cond.code ({ cls := "CounterDeskModel", name := "isSo", desc := "(I)Z" } : Jvm.MethodName) prog_24_method_118_code (4 : Nat) (Option.some Jvm.ClassFile.FieldType.boolean)) ∈ lw_all := lw_g (lw_at lw_m9 156 rfl) rfl
theorem q2207 : (Jvm.Cond.instanceMethod ({ cls := "CounterDeskModel", name := "listen", desc := "(I)I" } : Jvm.MethodName)) ∈ lw_all := lw_g (lw_at lw_m9 158 rfl) rfl
theorem q2208 : (Jvm.Cond.selects "CounterDeskModel" ({ cls := "CounterDeskModel", name := "listen", desc := "(I)I" } : Jvm.MethodName) ({ cls := "CounterDeskModel", name := "listen", desc := "(I)I" } : Jvm.MethodName)) ∈ lw_all := lw_g (lw_at lw_m9 159 rfl) rfl
theorem q2209 : (Jvm.Cond.code ({ cls := "CounterDeskModel", name := "listen", desc := "(I)I" } : Jvm.MethodName) prog_24_method_121_code (7 : Nat) (Option.some Jvm.ClassFile.FieldType.int)) ∈ lw_all := lw_g (lw_at lw_m9 160 rfl) rfl
theorem q2210 : (Jvm.Cond.methodLink "CounterDeskModel" (428 : Nat) ({ cls := "CounterDeskModel", name := "canBe", desc := "()I" } : Jvm.MethodName)) ∈ lw_all := lw_g (lw_at lw_m9 161 rfl) rfl
theorem q2211 : (Jvm.Cond.methodLink "CounterDeskModel" (431 : Nat) ({ cls := "CounterDeskModel", name := "ones", desc := "(I)I" } : Jvm.MethodName)) ∈ lw_all := lw_g (lw_at lw_m9 162 rfl) rfl
theorem q2212 : (Jvm.Cond.static ({ cls := "CounterDeskModel", name := "ones", desc := "(I)I" } : Jvm.MethodName)) ∈ lw_all := lw_g (lw_at lw_m9 163 rfl) rfl
theorem q2213 : (Jvm.Cond.code ({ cls := "CounterDeskModel", name := "ones", desc := "(I)I" } : Jvm.MethodName) prog_24_method_9_code (3 : Nat) (Option.some Jvm.ClassFile.FieldType.int)) ∈ lw_all := lw_g (lw_at lw_m9 164 rfl) rfl
theorem q2214 : (Jvm.Cond.methodLink "CounterDeskModel" (434 : Nat) ({ cls := "CounterDeskModel", name := "mostAlike", desc := "(II)I" } : Jvm.MethodName)) ∈ lw_all := lw_g (lw_at lw_m9 165 rfl) rfl
theorem q2215 : (Jvm.Cond.privateMethod ({ cls := "CounterDeskModel", name := "mostAlike", desc := "(II)I" } : Jvm.MethodName)) ∈ lw_tbl := lw_at lw_m9 166 rfl
theorem q2216 : (Jvm.Cond.instanceMethod ({ cls := "CounterDeskModel", name := "mostAlike", desc := "(II)I" } : Jvm.MethodName)) ∈ lw_all := lw_g (lw_at lw_m9 167 rfl) rfl
theorem q2217 : (Jvm.Cond.code ({ cls := "CounterDeskModel", name := "mostAlike", desc := "(II)I" } : Jvm.MethodName) prog_24_method_120_code (7 : Nat) (Option.some Jvm.ClassFile.FieldType.int)) ∈ lw_all := lw_g (lw_at lw_m9 168 rfl) rfl
theorem q2218 : (Jvm.Cond.methodLink "CounterDeskModel" (425 : Nat) ({ cls := "CounterDeskModel", name := "isIn", desc := "(II)Z" } : Jvm.MethodName)) ∈ lw_all := lw_g (lw_at lw_m9 169 rfl) rfl
theorem q2219 : (Jvm.Cond.static ({ cls := "CounterDeskModel", name := "isIn", desc := "(II)Z" } : Jvm.MethodName)) ∈ lw_all := lw_g (lw_at lw_m9 170 rfl) rfl
theorem q2220 : (Jvm.Cond.code ({ cls := "CounterDeskModel", name := "isIn", desc := "(II)Z" } : Jvm.MethodName) prog_24_method_8_code (2 : Nat) (Option.some Jvm.ClassFile.FieldType.boolean)) ∈ lw_all := lw_g (lw_at lw_m9 171 rfl) rfl
theorem q2222 : (Jvm.Cond.instanceMethod ({ cls := "CounterDeskModel", name := "few", desc := "(II)J" } : Jvm.MethodName)) ∈ lw_all := lw_g (lw_at lw_m9 173 rfl) rfl
theorem q2223 : (Jvm.Cond.selects "CounterDeskModel" ({ cls := "CounterDeskModel", name := "few", desc := "(II)J" } : Jvm.MethodName) ({ cls := "CounterDeskModel", name := "few", desc := "(II)J" } : Jvm.MethodName)) ∈ lw_all := lw_g (lw_at lw_m9 174 rfl) rfl
theorem q2224 : (Jvm.Cond.code ({ cls := "CounterDeskModel", name := "few", desc := "(II)J" } : Jvm.MethodName) prog_24_method_122_code (6 : Nat) (Option.some Jvm.ClassFile.FieldType.long)) ∈ lw_all := lw_g (lw_at lw_m9 175 rfl) rfl
theorem q2225 : (Jvm.Cond.constantLong "CounterDeskModel" (437 : Nat) (-1 : Int64)) ∈ lw_all := lw_g (lw_at lw_m9 176 rfl) rfl
theorem q2226 : (Jvm.Cond.constantLong "CounterDeskModel" (439 : Nat) (1000000000000 : Int64)) ∈ lw_all := lw_g (lw_at lw_m9 177 rfl) rfl
theorem q2227 : (Jvm.Cond.constantLong "CounterDeskModel" (441 : Nat) (10 : Int64)) ∈ lw_all := lw_g (lw_at lw_m9 178 rfl) rfl
theorem q2229 : (Jvm.Cond.instanceMethod ({ cls := "CounterDeskModel", name := "stopped", desc := "()I" } : Jvm.MethodName)) ∈ lw_all := lw_g (lw_at lw_m9 180 rfl) rfl
theorem q2230 : (Jvm.Cond.selects "CounterDeskModel" ({ cls := "CounterDeskModel", name := "stopped", desc := "()I" } : Jvm.MethodName) ({ cls := "CounterDeskModel", name := "stopped", desc := "()I" } : Jvm.MethodName)) ∈ lw_all := lw_g (lw_at lw_m9 181 rfl) rfl
theorem q2231 : (Jvm.Cond.code ({ cls := "CounterDeskModel", name := "stopped", desc := "()I" } : Jvm.MethodName) prog_24_method_123_code (1 : Nat) (Option.some Jvm.ClassFile.FieldType.int)) ∈ lw_all := lw_g (lw_at lw_m9 182 rfl) rfl
theorem q2233 : (Jvm.Cond.instanceMethod ({ cls := "CounterDeskModel", name := "orders", desc := "()I" } : Jvm.MethodName)) ∈ lw_all := lw_g (lw_at lw_m9 184 rfl) rfl
theorem q2234 : (Jvm.Cond.selects "CounterDeskModel" ({ cls := "CounterDeskModel", name := "orders", desc := "()I" } : Jvm.MethodName) ({ cls := "CounterDeskModel", name := "orders", desc := "()I" } : Jvm.MethodName)) ∈ lw_all := lw_g (lw_at lw_m9 185 rfl) rfl
theorem q2235 : (Jvm.Cond.code ({ cls := "CounterDeskModel", name := "orders", desc := "()I" } : Jvm.MethodName) prog_24_method_124_code (5 : Nat) (Option.some Jvm.ClassFile.FieldType.int)) ∈ lw_all := lw_g (lw_at lw_m9 186 rfl) rfl
theorem q2236 : (Jvm.Cond.methodLink "CounterDeskModel" (443 : Nat) ({ cls := "CounterDeskModel", name := "laysAside", desc := "(I)V" } : Jvm.MethodName)) ∈ lw_all := lw_g (lw_at lw_m9 187 rfl) rfl
theorem q2237 : (Jvm.Cond.privateMethod ({ cls := "CounterDeskModel", name := "laysAside", desc := "(I)V" } : Jvm.MethodName)) ∈ lw_tbl := lw_at lw_m9 188 rfl
theorem q2238 : (Jvm.Cond.instanceMethod ({ cls := "CounterDeskModel", name := "laysAside", desc := "(I)V" } : Jvm.MethodName)) ∈ lw_all := lw_g (lw_at lw_m9 189 rfl) rfl
theorem q2239 : (Jvm.Cond.code ({ cls := "CounterDeskModel", name := "laysAside", desc := "(I)V" } : Jvm.MethodName) prog_24_method_12_code (3 : Nat) (Option.none : Option Jvm.ClassFile.FieldType)) ∈ lw_all := lw_g (lw_at lw_m9 190 rfl) rfl
theorem q2240 : (Jvm.Cond.methodLink "CounterDeskModel" (449 : Nat) ({ cls := "CounterDeskModel", name := "runs", desc := "(I)Z" } : Jvm.MethodName)) ∈ lw_all := lw_g (lw_at lw_m9 191 rfl) rfl
theorem q2241 : (Jvm.Cond.privateMethod ({ cls := "CounterDeskModel", name := "runs", desc := "(I)Z" } : Jvm.MethodName)) ∈ lw_tbl := lw_at lw_m9 192 rfl
theorem q2242 : (Jvm.Cond.instanceMethod ({ cls := "CounterDeskModel", name := "runs", desc := "(I)Z" } : Jvm.MethodName)) ∈ lw_all := lw_g (lw_at lw_m9 193 rfl) rfl
theorem q2243 : (Jvm.Cond.code ({ cls := "CounterDeskModel", name := "runs", desc := "(I)Z" } : Jvm.MethodName) prog_24_method_128_code (5 : Nat) (Option.some Jvm.ClassFile.FieldType.boolean)) ∈ lw_all := lw_g (lw_at lw_m9 194 rfl) rfl
theorem q2244 : (Jvm.Cond.methodLink "CounterDeskModel" (473 : Nat) ({ cls := "CounterDeskModel", name := "goesAlong", desc := "(IZ)V" } : Jvm.MethodName)) ∈ lw_all := lw_g (lw_at lw_m9 195 rfl) rfl
theorem q2245 : (Jvm.Cond.privateMethod ({ cls := "CounterDeskModel", name := "goesAlong", desc := "(IZ)V" } : Jvm.MethodName)) ∈ lw_tbl := lw_at lw_m9 196 rfl
theorem q2246 : (Jvm.Cond.instanceMethod ({ cls := "CounterDeskModel", name := "goesAlong", desc := "(IZ)V" } : Jvm.MethodName)) ∈ lw_all := lw_g (lw_at lw_m9 197 rfl) rfl
theorem q2247 : (Jvm.Cond.code ({ cls := "CounterDeskModel", name := "goesAlong", desc := "(IZ)V" } : Jvm.MethodName) prog_24_method_125_code (5 : Nat) (Option.none : Option Jvm.ClassFile.FieldType)) ∈ lw_all := lw_g (lw_at lw_m9 198 rfl) rfl
theorem q2248 : (Jvm.Cond.methodLink "CounterDeskModel" (477 : Nat) ({ cls := "CounterDeskModel", name := "obeys", desc := "()I" } : Jvm.MethodName)) ∈ lw_all := lw_g (lw_at lw_m9 199 rfl) rfl
theorem q2249 : (Jvm.Cond.privateMethod ({ cls := "CounterDeskModel", name := "obeys", desc := "()I" } : Jvm.MethodName)) ∈ lw_tbl := lw_at lw_m9 200 rfl
theorem q2250 : (Jvm.Cond.instanceMethod ({ cls := "CounterDeskModel", name := "obeys", desc := "()I" } : Jvm.MethodName)) ∈ lw_all := lw_g (lw_at lw_m9 201 rfl) rfl
theorem q2251 : (Jvm.Cond.code ({ cls := "CounterDeskModel", name := "obeys", desc := "()I" } : Jvm.MethodName) prog_24_method_127_code (2 : Nat) (Option.some Jvm.ClassFile.FieldType.int)) ∈ lw_all := lw_g (lw_at lw_m9 202 rfl) rfl
theorem q2252 : (Jvm.Cond.methodLink "CounterDeskModel" (469 : Nat) ({ cls := "CounterDeskModel", name := "small", desc := "(J)I" } : Jvm.MethodName)) ∈ lw_all := lw_g (lw_at lw_m9 203 rfl) rfl
theorem q2253 : (Jvm.Cond.static ({ cls := "CounterDeskModel", name := "small", desc := "(J)I" } : Jvm.MethodName)) ∈ lw_all := lw_g (lw_at lw_m9 204 rfl) rfl
theorem q2254 : (Jvm.Cond.code ({ cls := "CounterDeskModel", name := "small", desc := "(J)I" } : Jvm.MethodName) prog_24_method_126_code (2 : Nat) (Option.some Jvm.ClassFile.FieldType.int)) ∈ lw_all := lw_g (lw_at lw_m9 205 rfl) rfl
theorem q2255 : (Jvm.Cond.constantLong "CounterDeskModel" (467 : Nat) (1000000 : Int64)) ∈ lw_all := lw_g (lw_at lw_m9 206 rfl) rfl
theorem q2256 : (Jvm.Cond.methodLink "CounterDeskModel" (452 : Nat) ({ cls := "CounterDeskModel", name := "takesBack", desc := "(I)V" } : Jvm.MethodName)) ∈ lw_all := lw_g (lw_at lw_m9 207 rfl) rfl
theorem q2257 : (Jvm.Cond.privateMethod ({ cls := "CounterDeskModel", name := "takesBack", desc := "(I)V" } : Jvm.MethodName)) ∈ lw_tbl := lw_at lw_m9 208 rfl
theorem q2258 : (Jvm.Cond.instanceMethod ({ cls := "CounterDeskModel", name := "takesBack", desc := "(I)V" } : Jvm.MethodName)) ∈ lw_all := lw_g (lw_at lw_m9 209 rfl) rfl
theorem q2259 : (Jvm.Cond.code ({ cls := "CounterDeskModel", name := "takesBack", desc := "(I)V" } : Jvm.MethodName) prog_24_method_13_code (3 : Nat) (Option.none : Option Jvm.ClassFile.FieldType)) ∈ lw_all := lw_g (lw_at lw_m9 210 rfl) rfl
theorem q2261 : (Jvm.Cond.instanceMethod ({ cls := "CounterDeskModel", name := "weeks", desc := "(II)I" } : Jvm.MethodName)) ∈ lw_all := lw_g (lw_at lw_m9 212 rfl) rfl
theorem q2262 : (Jvm.Cond.selects "CounterDeskModel" ({ cls := "CounterDeskModel", name := "weeks", desc := "(II)I" } : Jvm.MethodName) ({ cls := "CounterDeskModel", name := "weeks", desc := "(II)I" } : Jvm.MethodName)) ∈ lw_all := lw_g (lw_at lw_m9 213 rfl) rfl
theorem q2263 : (Jvm.Cond.code ({ cls := "CounterDeskModel", name := "weeks", desc := "(II)I" } : Jvm.MethodName) prog_24_method_131_code (5 : Nat) (Option.some Jvm.ClassFile.FieldType.int)) ∈ lw_all := lw_g (lw_at lw_m9 214 rfl) rfl
theorem q2264 : (Jvm.Cond.methodLink "CounterDeskModel" (492 : Nat) ({ cls := "CounterDeskModel", name := "drawnAct", desc := "()V" } : Jvm.MethodName)) ∈ lw_all := lw_g (lw_at lw_m9 215 rfl) rfl
theorem q2265 : (Jvm.Cond.privateMethod ({ cls := "CounterDeskModel", name := "drawnAct", desc := "()V" } : Jvm.MethodName)) ∈ lw_tbl := lw_at lw_m9 216 rfl
theorem q2266 : (Jvm.Cond.instanceMethod ({ cls := "CounterDeskModel", name := "drawnAct", desc := "()V" } : Jvm.MethodName)) ∈ lw_all := lw_g (lw_at lw_m9 217 rfl) rfl
theorem q2267 : (Jvm.Cond.code ({ cls := "CounterDeskModel", name := "drawnAct", desc := "()V" } : Jvm.MethodName) prog_24_method_130_code (4 : Nat) (Option.none : Option Jvm.ClassFile.FieldType)) ∈ lw_all := lw_g (lw_at lw_m9 218 rfl) rfl
theorem q2268 : (Jvm.Cond.methodLink "CounterDeskModel" (489 : Nat) ({ cls := "CounterDeskModel", name := "draws", desc := "(I)I" } : Jvm.MethodName)) ∈ lw_all := lw_g (lw_at lw_m9 219 rfl) rfl
theorem q2269 : (Jvm.Cond.privateMethod ({ cls := "CounterDeskModel", name := "draws", desc := "(I)I" } : Jvm.MethodName)) ∈ lw_tbl := lw_at lw_m9 220 rfl
theorem q2270 : (Jvm.Cond.instanceMethod ({ cls := "CounterDeskModel", name := "draws", desc := "(I)I" } : Jvm.MethodName)) ∈ lw_all := lw_g (lw_at lw_m9 221 rfl) rfl
theorem q2271 : (Jvm.Cond.code ({ cls := "CounterDeskModel", name := "draws", desc := "(I)I" } : Jvm.MethodName) prog_24_method_129_code (2 : Nat) (Option.some Jvm.ClassFile.FieldType.int)) ∈ lw_all := lw_g (lw_at lw_m9 222 rfl) rfl
theorem q2272 : (Jvm.Cond.constantLong "CounterDeskModel" (480 : Nat) (1103 : Int64)) ∈ lw_all := lw_g (lw_at lw_m9 223 rfl) rfl
theorem q2273 : (Jvm.Cond.constantLong "CounterDeskModel" (485 : Nat) (12345 : Int64)) ∈ lw_all := lw_g (lw_at lw_m9 224 rfl) rfl
theorem q2274 : (Jvm.Cond.constantLong "CounterDeskModel" (487 : Nat) (1000003 : Int64)) ∈ lw_all := lw_g (lw_at lw_m9 225 rfl) rfl
theorem q2276 : (Jvm.Cond.instanceMethod ({ cls := "CounterDeskModel", name := "drawn", desc := "(II)I" } : Jvm.MethodName)) ∈ lw_all := lw_g (lw_at lw_m9 227 rfl) rfl
theorem q2277 : (Jvm.Cond.selects "CounterDeskModel" ({ cls := "CounterDeskModel", name := "drawn", desc := "(II)I" } : Jvm.MethodName) ({ cls := "CounterDeskModel", name := "drawn", desc := "(II)I" } : Jvm.MethodName)) ∈ lw_all := lw_g (lw_at lw_m9 228 rfl) rfl
theorem q2278 : (Jvm.Cond.code ({ cls := "CounterDeskModel", name := "drawn", desc := "(II)I" } : Jvm.MethodName) prog_24_method_132_code (3 : Nat) (Option.some Jvm.ClassFile.FieldType.int)) ∈ lw_all := lw_g (lw_at lw_m9 229 rfl) rfl
theorem q2280 : (Jvm.Cond.instanceMethod ({ cls := "CounterDeskModel", name := "count", desc := "(I)I" } : Jvm.MethodName)) ∈ lw_all := lw_g (lw_at lw_m9 231 rfl) rfl
theorem q2281 : (Jvm.Cond.selects "CounterDeskModel" ({ cls := "CounterDeskModel", name := "count", desc := "(I)I" } : Jvm.MethodName) ({ cls := "CounterDeskModel", name := "count", desc := "(I)I" } : Jvm.MethodName)) ∈ lw_all := lw_g (lw_at lw_m9 232 rfl) rfl
theorem q2282 : (Jvm.Cond.code ({ cls := "CounterDeskModel", name := "count", desc := "(I)I" } : Jvm.MethodName) prog_24_method_134_code (2 : Nat) (Option.some Jvm.ClassFile.FieldType.int)) ∈ lw_all := lw_g (lw_at lw_m9 233 rfl) rfl
theorem q2283 : (Jvm.Cond.methodLink "CounterDeskModel" (495 : Nat) ({ cls := "CounterDeskModel", name := "refusals", desc := "(I)I" } : Jvm.MethodName)) ∈ lw_all := lw_g (lw_at lw_m9 234 rfl) rfl
theorem q2284 : (Jvm.Cond.privateMethod ({ cls := "CounterDeskModel", name := "refusals", desc := "(I)I" } : Jvm.MethodName)) ∈ lw_tbl := lw_at lw_m9 235 rfl
theorem q2285 : (Jvm.Cond.instanceMethod ({ cls := "CounterDeskModel", name := "refusals", desc := "(I)I" } : Jvm.MethodName)) ∈ lw_all := lw_g (lw_at lw_m9 236 rfl) rfl
theorem q2286 : (Jvm.Cond.code ({ cls := "CounterDeskModel", name := "refusals", desc := "(I)I" } : Jvm.MethodName) prog_24_method_133_code (2 : Nat) (Option.some Jvm.ClassFile.FieldType.int)) ∈ lw_all := lw_g (lw_at lw_m9 237 rfl) rfl
theorem q2288 : (Jvm.Cond.instanceMethod ({ cls := "CounterDeskModel", name := "status", desc := "()I" } : Jvm.MethodName)) ∈ lw_all := lw_g (lw_at lw_m9 239 rfl) rfl
theorem q2289 : (Jvm.Cond.selects "CounterDeskModel" ({ cls := "CounterDeskModel", name := "status", desc := "()I" } : Jvm.MethodName) ({ cls := "CounterDeskModel", name := "status", desc := "()I" } : Jvm.MethodName)) ∈ lw_all := lw_g (lw_at lw_m10 0 rfl) rfl
theorem q2290 : (Jvm.Cond.code ({ cls := "CounterDeskModel", name := "status", desc := "()I" } : Jvm.MethodName) prog_24_method_135_code (1 : Nat) (Option.some Jvm.ClassFile.FieldType.int)) ∈ lw_all := lw_g (lw_at lw_m10 1 rfl) rfl
theorem q2322 : (Jvm.Cond.castable "CounterDeskModel" "java/lang/Object") ∈ lw_tbl := lw_at lw_m10 33 rfl
theorem in_X6 : ∀ w ∈ wsX60, w ∈ lw_all := lw_in wsX60 [1653, 1655, 1657, 1659, 1661, 1663, 1665, 1667, 1669, 1671, 1673, 1675, 1677, 1679, 1681, 1683, 1685, 1687, 1689, 1691, 1693, 1695, 1697, 1699, 1701, 1703, 1705, 1707, 1709, 1711, 1713, 1715, 1717, 1719, 1721, 1723, 1725, 1727, 1729, 1731, 1733, 1735, 1737, 1739, 1741, 1743, 1745, 1747, 1749, 1751, 1753] (by decide +kernel) (by decide +kernel)
