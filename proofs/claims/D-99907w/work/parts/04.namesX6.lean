/-! LeekReadingsModel -/
set_option maxRecDepth 100000
def RX6 : String := "LeekReadingsModel"
def TX6 : u_T := fun k => match k with
  | 0 => ("LeekReadingsModel", "status", "I", false)
  | 1 => ("LeekReadingsModel", "refused", "[I", true)
  | 2 => ("LeekReadingsModel", "kept", "[I", true)
  | 3 => ("LeekReadingsModel", "images", "[I", true)
  | 4 => ("LeekReadingsModel", "hasImage", "[Z", true)
  | 5 => ("LeekReadingsModel", "aside", "[I", true)
  | 6 => ("LeekReadingsModel", "slugs0", "I", false)
  | 7 => ("LeekReadingsModel", "words", "[B", true)
  | 8 => ("LeekReadingsModel", "firstWord", "I", false)
  | 9 => ("LeekReadingsModel", "lastWord", "I", false)
  | 10 => ("LeekReadingsModel", "isOrders", "Z", false)
  | 11 => ("LeekReadingsModel", "tape", "[B", true)
  | 12 => ("LeekReadingsModel", "five", "[I", true)
  | 13 => ("LeekReadingsModel", "taped", "I", false)
  | 14 => ("LeekReadingsModel", "fault", "I", false)
  | 15 => ("LeekReadingsModel", "code", "[I", true)
  | 16 => ("LeekReadingsModel", "value", "[I", true)
  | 17 => ("LeekReadingsModel", "placed", "[I", true)
  | 18 => ("LeekReadingsModel", "tokens", "I", false)
  | 19 => ("LeekReadingsModel", "token", "I", false)
  | 20 => ("LeekReadingsModel", "leaves", "I", false)
  | 21 => ("LeekReadingsModel", "bad", "I", false)
  | 22 => ("LeekReadingsModel", "go", "I", false)
  | 23 => ("LeekReadingsModel", "goEnd", "I", false)
  | 24 => ("LeekReadingsModel", "broken", "Z", false)
  | 25 => ("LeekReadingsModel", "inOrders", "Z", false)
  | 26 => ("LeekReadingsModel", "asked", "[I", true)
  | 27 => ("LeekReadingsModel", "orderDone", "I", false)
  | 28 => ("LeekReadingsModel", "orderLatest", "I", false)
  | 29 => ("LeekReadingsModel", "change", "[I", true)
  | 30 => ("LeekReadingsModel", "left0", "[I", true)
  | 31 => ("LeekReadingsModel", "leftAhead", "[I", true)
  | 32 => ("LeekReadingsModel", "undoMany", "I", false)
  | 33 => ("LeekReadingsModel", "rowMany", "[I", true)
  | 34 => ("LeekReadingsModel", "depth", "[I", true)
  | 35 => ("LeekReadingsModel", "barredBy", "[Z", true)
  | 36 => ("LeekReadingsModel", "row0", "[I", true)
  | 37 => ("LeekReadingsModel", "bestRow", "[I", true)
  | 38 => ("LeekReadingsModel", "bestMany", "I", false)
  | 39 => ("LeekReadingsModel", "bestHigh", "I", false)
  | 40 => ("LeekReadingsModel", "soonest", "I", false)
  | 41 => ("LeekReadingsModel", "within", "I", false)
  | 42 => ("LeekReadingsModel", "wanted", "I", false)
  | 43 => ("LeekReadingsModel", "growth", "[I", true)
  | 44 => ("LeekReadingsModel", "shares", "[J", true)
  | 45 => ("LeekReadingsModel", "stopped0", "I", false)
  | 46 => ("LeekReadingsModel", "orderAt", "I", false)
  | 47 => ("LeekReadingsModel", "howOften", "I", false)
  | 48 => ("LeekReadingsModel", "head", "I", false)
  | 49 => ("LeekReadingsModel", "sumsAre", "Z", false)
  | 50 => ("LeekReadingsModel", "testIs", "Z", false)
  | 51 => ("LeekReadingsModel", "sum0", "J", false)
  | 52 => ("LeekReadingsModel", "drawnMoved", "[I", true)
  | 53 => ("LeekReadingsModel", "drawnBooks", "I", false)
  | 54 => ("LeekReadingsModel", "drawnLeeks", "I", false)
  | _ => ("LeekReadingsModel", "latest", "I", false)
def tyX6 : Nat → FieldType := fun k => match k with
  | 0 => .int
  | 1 => .array .int
  | 2 => .array .int
  | 3 => .array .int
  | 4 => .array .boolean
  | 5 => .array .int
  | 6 => .int
  | 7 => .array .byte
  | 8 => .int
  | 9 => .int
  | 10 => .boolean
  | 11 => .array .byte
  | 12 => .array .int
  | 13 => .int
  | 14 => .int
  | 15 => .array .int
  | 16 => .array .int
  | 17 => .array .int
  | 18 => .int
  | 19 => .int
  | 20 => .int
  | 21 => .int
  | 22 => .int
  | 23 => .int
  | 24 => .boolean
  | 25 => .boolean
  | 26 => .array .int
  | 27 => .int
  | 28 => .int
  | 29 => .array .int
  | 30 => .array .int
  | 31 => .array .int
  | 32 => .int
  | 33 => .array .int
  | 34 => .array .int
  | 35 => .array .boolean
  | 36 => .array .int
  | 37 => .array .int
  | 38 => .int
  | 39 => .int
  | 40 => .int
  | 41 => .int
  | 42 => .int
  | 43 => .array .int
  | 44 => .array .long
  | 45 => .int
  | 46 => .int
  | 47 => .int
  | 48 => .int
  | 49 => .boolean
  | 50 => .boolean
  | 51 => .long
  | 52 => .array .int
  | 53 => .int
  | 54 => .int
  | _ => .int
abbrev wsX60 : List Cond := u_ws RX6 TX6 56
set_option maxRecDepth 100000 in
theorem nmX6 : ∀ a, a < 56 → ∀ b, b < 56 → a ≠ b → (TX6 a).2.1 ≠ (TX6 b).2.1 := by decide +kernel
set_option maxRecDepth 100000 in
theorem tyX6_ok : ∀ k, k < 56 → parseFieldDescriptor (TX6 k).2.2.1 = some (tyX6 k) := by decide +kernel
abbrev cX6_init : ByteArray := prog_24_method_9_code
def yX6_init : MethodName := ⟨RX6, "<init>", "()V"⟩
def dkwX6_init_39 : List UInt8 := [42, 2, 181, 0, 99, 42, 180, 0, 24, 16, 46, 4, 79, 42, 180, 0, 24, 16, 52, 2, 79, 177]
abbrev dktX6_init_39 : List UInt8 := dkwX6_init_39 ++ []
def dkwX6_init_38 : List UInt8 := [181, 0, 86, 42, 16, 21, 188, 11, 181, 0, 89, 42, 2, 181, 0, 93, 42, 16, 6, 188, 10, 181, 0, 96]
abbrev dktX6_init_38 : List UInt8 := dkwX6_init_38 ++ dktX6_init_39
def dkwX6_init_37 : List UInt8 := [181, 0, 77, 42, 16, 8, 188, 10, 181, 0, 80, 42, 16, 8, 188, 10, 181, 0, 83, 42, 16, 32, 188, 10]
abbrev dktX6_init_37 : List UInt8 := dkwX6_init_37 ++ dktX6_init_38
def dkwX6_init_36 : List UInt8 := [17, 1, 0, 188, 10, 181, 0, 71, 42, 16, 8, 188, 10, 181, 0, 74, 42, 17, 8, 0, 188, 4]
abbrev dktX6_init_36 : List UInt8 := dkwX6_init_36 ++ dktX6_init_37
def dkwX6_init_35 : List UInt8 := [188, 10, 181, 0, 62, 42, 16, 112, 188, 10, 181, 0, 65, 42, 16, 112, 188, 10, 181, 0, 68, 42]
abbrev dktX6_init_35 : List UInt8 := dkwX6_init_35 ++ dktX6_init_36
def dkwX6_init_34 : List UInt8 := [188, 10, 181, 0, 53, 42, 17, 1, 145, 188, 10, 181, 0, 56, 42, 16, 9, 188, 10, 181, 0, 59, 42, 7]
abbrev dktX6_init_34 : List UInt8 := dkwX6_init_34 ++ dktX6_init_35
def dkwX6_init_33 : List UInt8 := [8, 188, 10, 181, 0, 44, 42, 2, 181, 0, 47, 42, 17, 1, 145, 188, 10, 181, 0, 50, 42, 17, 1, 145]
abbrev dktX6_init_33 : List UInt8 := dkwX6_init_33 ++ dktX6_init_34
def dkwX6_init_32 : List UInt8 := [16, 120, 16, 115, 84, 89, 16, 121, 16, 32, 84, 181, 0, 37, 42, 17, 1, 144, 188, 8, 181, 0, 41, 42]
abbrev dktX6_init_32 : List UInt8 := dkwX6_init_32 ++ dktX6_init_33
def dkwX6_init_31 : List UInt8 := [16, 116, 16, 116, 84, 89, 16, 117, 16, 105, 84, 89, 16, 118, 16, 109, 84, 89, 16, 119, 16, 101, 84, 89]
abbrev dktX6_init_31 : List UInt8 := dkwX6_init_31 ++ dktX6_init_32
def dkwX6_init_30 : List UInt8 := [16, 112, 16, 97, 84, 89, 16, 113, 16, 115, 84, 89, 16, 114, 16, 115, 84, 89, 16, 115, 16, 32, 84, 89]
abbrev dktX6_init_30 : List UInt8 := dkwX6_init_30 ++ dktX6_init_31
def dkwX6_init_29 : List UInt8 := [16, 108, 16, 117, 84, 89, 16, 109, 16, 116, 84, 89, 16, 110, 16, 32, 84, 89, 16, 111, 16, 112, 84, 89]
abbrev dktX6_init_29 : List UInt8 := dkwX6_init_29 ++ dktX6_init_30
def dkwX6_init_28 : List UInt8 := [16, 104, 16, 115, 84, 89, 16, 105, 16, 101, 84, 89, 16, 106, 16, 32, 84, 89, 16, 107, 16, 99, 84, 89]
abbrev dktX6_init_28 : List UInt8 := dkwX6_init_28 ++ dktX6_init_29
def dkwX6_init_27 : List UInt8 := [16, 100, 16, 100, 84, 89, 16, 101, 16, 32, 84, 89, 16, 102, 16, 108, 84, 89, 16, 103, 16, 111, 84, 89]
abbrev dktX6_init_27 : List UInt8 := dkwX6_init_27 ++ dktX6_init_28
def dkwX6_init_26 : List UInt8 := [16, 96, 16, 32, 84, 89, 16, 97, 16, 114, 84, 89, 16, 98, 16, 101, 84, 89, 16, 99, 16, 97, 84, 89]
abbrev dktX6_init_26 : List UInt8 := dkwX6_init_26 ++ dktX6_init_27
def dkwX6_init_25 : List UInt8 := [16, 92, 16, 32, 84, 89, 16, 93, 16, 104, 84, 89, 16, 94, 16, 97, 84, 89, 16, 95, 16, 115, 84, 89]
abbrev dktX6_init_25 : List UInt8 := dkwX6_init_25 ++ dktX6_init_26
def dkwX6_init_24 : List UInt8 := [16, 88, 16, 32, 84, 89, 16, 89, 16, 97, 84, 89, 16, 90, 16, 108, 84, 89, 16, 91, 16, 108, 84, 89]
abbrev dktX6_init_24 : List UInt8 := dkwX6_init_24 ++ dktX6_init_25
def dkwX6_init_23 : List UInt8 := [16, 84, 16, 116, 84, 89, 16, 85, 16, 101, 84, 89, 16, 86, 16, 115, 84, 89, 16, 87, 16, 116, 84, 89]
abbrev dktX6_init_23 : List UInt8 := dkwX6_init_23 ++ dktX6_init_24
def dkwX6_init_22 : List UInt8 := [16, 80, 16, 101, 84, 89, 16, 81, 16, 32, 84, 89, 16, 82, 16, 108, 84, 89, 16, 83, 16, 97, 84, 89]
abbrev dktX6_init_22 : List UInt8 := dkwX6_init_22 ++ dktX6_init_23
def dkwX6_init_21 : List UInt8 := [16, 76, 16, 32, 84, 89, 16, 77, 16, 100, 84, 89, 16, 78, 16, 111, 84, 89, 16, 79, 16, 110, 84, 89]
abbrev dktX6_init_21 : List UInt8 := dkwX6_init_21 ++ dktX6_init_22
def dkwX6_init_20 : List UInt8 := [16, 72, 16, 32, 84, 89, 16, 73, 16, 100, 84, 89, 16, 74, 16, 97, 84, 89, 16, 75, 16, 121, 84, 89]
abbrev dktX6_init_20 : List UInt8 := dkwX6_init_20 ++ dktX6_init_21
def dkwX6_init_19 : List UInt8 := [16, 68, 16, 110, 84, 89, 16, 69, 16, 111, 84, 89, 16, 70, 16, 119, 84, 89, 16, 71, 16, 110, 84, 89]
abbrev dktX6_init_19 : List UInt8 := dkwX6_init_19 ++ dktX6_init_20
def dkwX6_init_18 : List UInt8 := [16, 64, 16, 103, 84, 89, 16, 65, 16, 104, 84, 89, 16, 66, 16, 32, 84, 89, 16, 67, 16, 107, 84, 89]
abbrev dktX6_init_18 : List UInt8 := dkwX6_init_18 ++ dktX6_init_19
def dkwX6_init_17 : List UInt8 := [16, 60, 16, 100, 84, 89, 16, 61, 16, 32, 84, 89, 16, 62, 16, 104, 84, 89, 16, 63, 16, 105, 84, 89]
abbrev dktX6_init_17 : List UInt8 := dkwX6_init_17 ++ dktX6_init_18
def dkwX6_init_16 : List UInt8 := [16, 56, 16, 32, 84, 89, 16, 57, 16, 109, 84, 89, 16, 58, 16, 111, 84, 89, 16, 59, 16, 111, 84, 89]
abbrev dktX6_init_16 : List UInt8 := dkwX6_init_16 ++ dktX6_init_17
def dkwX6_init_15 : List UInt8 := [16, 52, 16, 107, 84, 89, 16, 53, 16, 105, 84, 89, 16, 54, 16, 110, 84, 89, 16, 55, 16, 100, 84, 89]
abbrev dktX6_init_15 : List UInt8 := dkwX6_init_15 ++ dktX6_init_16
def dkwX6_init_14 : List UInt8 := [16, 48, 16, 111, 84, 89, 16, 49, 16, 110, 84, 89, 16, 50, 16, 103, 84, 89, 16, 51, 16, 32, 84, 89]
abbrev dktX6_init_14 : List UInt8 := dkwX6_init_14 ++ dktX6_init_15
def dkwX6_init_13 : List UInt8 := [16, 44, 16, 111, 84, 89, 16, 45, 16, 107, 84, 89, 16, 46, 16, 32, 84, 89, 16, 47, 16, 108, 84, 89]
abbrev dktX6_init_13 : List UInt8 := dkwX6_init_13 ++ dktX6_init_14
def dkwX6_init_12 : List UInt8 := [16, 40, 16, 115, 84, 89, 16, 41, 16, 32, 84, 89, 16, 42, 16, 98, 84, 89, 16, 43, 16, 111, 84, 89]
abbrev dktX6_init_12 : List UInt8 := dkwX6_init_12 ++ dktX6_init_13
def dkwX6_init_11 : List UInt8 := [16, 36, 16, 108, 84, 89, 16, 37, 16, 105, 84, 89, 16, 38, 16, 107, 84, 89, 16, 39, 16, 101, 84, 89]
abbrev dktX6_init_11 : List UInt8 := dkwX6_init_11 ++ dktX6_init_12
def dkwX6_init_10 : List UInt8 := [16, 32, 16, 101, 84, 89, 16, 33, 16, 101, 84, 89, 16, 34, 16, 107, 84, 89, 16, 35, 16, 32, 84, 89]
abbrev dktX6_init_10 : List UInt8 := dkwX6_init_10 ++ dktX6_init_11
def dkwX6_init_9 : List UInt8 := [16, 28, 16, 111, 84, 89, 16, 29, 16, 116, 84, 89, 16, 30, 16, 32, 84, 89, 16, 31, 16, 108, 84, 89]
abbrev dktX6_init_9 : List UInt8 := dkwX6_init_9 ++ dktX6_init_10
def dkwX6_init_8 : List UInt8 := [16, 24, 16, 110, 84, 89, 16, 25, 16, 100, 84, 89, 16, 26, 16, 32, 84, 89, 16, 27, 16, 110, 84, 89]
abbrev dktX6_init_8 : List UInt8 := dkwX6_init_8 ++ dktX6_init_9
def dkwX6_init_7 : List UInt8 := [16, 20, 16, 111, 84, 89, 16, 21, 16, 114, 84, 89, 16, 22, 16, 32, 84, 89, 16, 23, 16, 97, 84, 89]
abbrev dktX6_init_7 : List UInt8 := dkwX6_init_7 ++ dktX6_init_8
def dkwX6_init_6 : List UInt8 := [16, 16, 16, 32, 84, 89, 16, 17, 16, 105, 84, 89, 16, 18, 16, 102, 84, 89, 16, 19, 16, 32, 84, 89]
abbrev dktX6_init_6 : List UInt8 := dkwX6_init_6 ++ dktX6_init_7
def dkwX6_init_5 : List UInt8 := [16, 12, 16, 98, 84, 89, 16, 13, 16, 97, 84, 89, 16, 14, 16, 114, 84, 89, 16, 15, 16, 115, 84, 89]
abbrev dktX6_init_5 : List UInt8 := dkwX6_init_5 ++ dktX6_init_6
def dkwX6_init_4 : List UInt8 := [16, 8, 16, 108, 84, 89, 16, 9, 16, 116, 84, 89, 16, 10, 16, 115, 84, 89, 16, 11, 16, 32, 84, 89]
abbrev dktX6_init_4 : List UInt8 := dkwX6_init_4 ++ dktX6_init_5
def dkwX6_init_3 : List UInt8 := [89, 7, 16, 115, 84, 89, 8, 16, 32, 84, 89, 16, 6, 16, 119, 84, 89, 16, 7, 16, 105, 84, 89]
abbrev dktX6_init_3 : List UInt8 := dkwX6_init_3 ++ dktX6_init_4
def dkwX6_init_2 : List UInt8 := [16, 122, 188, 8, 89, 3, 16, 103, 84, 89, 4, 16, 114, 84, 89, 5, 16, 111, 84, 89, 6, 16, 119, 84]
abbrev dktX6_init_2 : List UInt8 := dkwX6_init_2 ++ dktX6_init_3
def dkwX6_init_1 : List UInt8 := [17, 44, 56, 188, 10, 181, 0, 27, 42, 5, 188, 4, 181, 0, 30, 42, 16, 12, 188, 10, 181, 0, 34, 42]
abbrev dktX6_init_1 : List UInt8 := dkwX6_init_1 ++ dktX6_init_2
def dkwX6_init_0 : List UInt8 := [42, 183, 0, 18, 42, 16, 7, 188, 10, 181, 0, 7, 42, 17, 22, 28, 188, 10, 181, 0, 24, 42]
abbrev dktX6_init_0 : List UInt8 := dkwX6_init_0 ++ dktX6_init_1
theorem dksX6_init_0 : cX6_init.data.toList.drop 0 = dktX6_init_0 := by decide +kernel
theorem dksX6_init_1 : cX6_init.data.toList.drop 22 = dktX6_init_1 := dk_seg dksX6_init_0 22 rfl rfl
theorem dksX6_init_2 : cX6_init.data.toList.drop 46 = dktX6_init_2 := dk_seg dksX6_init_1 24 rfl rfl
theorem dksX6_init_3 : cX6_init.data.toList.drop 70 = dktX6_init_3 := dk_seg dksX6_init_2 24 rfl rfl
theorem dksX6_init_4 : cX6_init.data.toList.drop 93 = dktX6_init_4 := dk_seg dksX6_init_3 23 rfl rfl
theorem dksX6_init_5 : cX6_init.data.toList.drop 117 = dktX6_init_5 := dk_seg dksX6_init_4 24 rfl rfl
theorem dksX6_init_6 : cX6_init.data.toList.drop 141 = dktX6_init_6 := dk_seg dksX6_init_5 24 rfl rfl
theorem dksX6_init_7 : cX6_init.data.toList.drop 165 = dktX6_init_7 := dk_seg dksX6_init_6 24 rfl rfl
theorem dksX6_init_8 : cX6_init.data.toList.drop 189 = dktX6_init_8 := dk_seg dksX6_init_7 24 rfl rfl
theorem dksX6_init_9 : cX6_init.data.toList.drop 213 = dktX6_init_9 := dk_seg dksX6_init_8 24 rfl rfl
theorem dksX6_init_10 : cX6_init.data.toList.drop 237 = dktX6_init_10 := dk_seg dksX6_init_9 24 rfl rfl
theorem dksX6_init_11 : cX6_init.data.toList.drop 261 = dktX6_init_11 := dk_seg dksX6_init_10 24 rfl rfl
theorem dksX6_init_12 : cX6_init.data.toList.drop 285 = dktX6_init_12 := dk_seg dksX6_init_11 24 rfl rfl
theorem dksX6_init_13 : cX6_init.data.toList.drop 309 = dktX6_init_13 := dk_seg dksX6_init_12 24 rfl rfl
theorem dksX6_init_14 : cX6_init.data.toList.drop 333 = dktX6_init_14 := dk_seg dksX6_init_13 24 rfl rfl
theorem dksX6_init_15 : cX6_init.data.toList.drop 357 = dktX6_init_15 := dk_seg dksX6_init_14 24 rfl rfl
theorem dksX6_init_16 : cX6_init.data.toList.drop 381 = dktX6_init_16 := dk_seg dksX6_init_15 24 rfl rfl
theorem dksX6_init_17 : cX6_init.data.toList.drop 405 = dktX6_init_17 := dk_seg dksX6_init_16 24 rfl rfl
theorem dksX6_init_18 : cX6_init.data.toList.drop 429 = dktX6_init_18 := dk_seg dksX6_init_17 24 rfl rfl
theorem dksX6_init_19 : cX6_init.data.toList.drop 453 = dktX6_init_19 := dk_seg dksX6_init_18 24 rfl rfl
theorem dksX6_init_20 : cX6_init.data.toList.drop 477 = dktX6_init_20 := dk_seg dksX6_init_19 24 rfl rfl
theorem dksX6_init_21 : cX6_init.data.toList.drop 501 = dktX6_init_21 := dk_seg dksX6_init_20 24 rfl rfl
theorem dksX6_init_22 : cX6_init.data.toList.drop 525 = dktX6_init_22 := dk_seg dksX6_init_21 24 rfl rfl
theorem dksX6_init_23 : cX6_init.data.toList.drop 549 = dktX6_init_23 := dk_seg dksX6_init_22 24 rfl rfl
theorem dksX6_init_24 : cX6_init.data.toList.drop 573 = dktX6_init_24 := dk_seg dksX6_init_23 24 rfl rfl
theorem dksX6_init_25 : cX6_init.data.toList.drop 597 = dktX6_init_25 := dk_seg dksX6_init_24 24 rfl rfl
theorem dksX6_init_26 : cX6_init.data.toList.drop 621 = dktX6_init_26 := dk_seg dksX6_init_25 24 rfl rfl
theorem dksX6_init_27 : cX6_init.data.toList.drop 645 = dktX6_init_27 := dk_seg dksX6_init_26 24 rfl rfl
theorem dksX6_init_28 : cX6_init.data.toList.drop 669 = dktX6_init_28 := dk_seg dksX6_init_27 24 rfl rfl
theorem dksX6_init_29 : cX6_init.data.toList.drop 693 = dktX6_init_29 := dk_seg dksX6_init_28 24 rfl rfl
theorem dksX6_init_30 : cX6_init.data.toList.drop 717 = dktX6_init_30 := dk_seg dksX6_init_29 24 rfl rfl
theorem dksX6_init_31 : cX6_init.data.toList.drop 741 = dktX6_init_31 := dk_seg dksX6_init_30 24 rfl rfl
theorem dksX6_init_32 : cX6_init.data.toList.drop 765 = dktX6_init_32 := dk_seg dksX6_init_31 24 rfl rfl
theorem dksX6_init_33 : cX6_init.data.toList.drop 789 = dktX6_init_33 := dk_seg dksX6_init_32 24 rfl rfl
theorem dksX6_init_34 : cX6_init.data.toList.drop 813 = dktX6_init_34 := dk_seg dksX6_init_33 24 rfl rfl
theorem dksX6_init_35 : cX6_init.data.toList.drop 837 = dktX6_init_35 := dk_seg dksX6_init_34 24 rfl rfl
theorem dksX6_init_36 : cX6_init.data.toList.drop 859 = dktX6_init_36 := dk_seg dksX6_init_35 22 rfl rfl
theorem dksX6_init_37 : cX6_init.data.toList.drop 881 = dktX6_init_37 := dk_seg dksX6_init_36 22 rfl rfl
theorem dksX6_init_38 : cX6_init.data.toList.drop 905 = dktX6_init_38 := dk_seg dksX6_init_37 24 rfl rfl
theorem dksX6_init_39 : cX6_init.data.toList.drop 929 = dktX6_init_39 := dk_seg dksX6_init_38 24 rfl rfl
theorem dX6_init_0 : decode cX6_init 0 = .ok (.aload_n 0, 1) := dk_42 (dk_at dksX6_init_0 0 rfl rfl)
theorem dX6_init_1 : decode cX6_init 1 = .ok (.invokespecial 18, 3) := dk_183 0 18 (dk_at dksX6_init_0 1 rfl rfl)
theorem dX6_init_4 : decode cX6_init 4 = .ok (.aload_n 0, 1) := dk_42 (dk_at dksX6_init_0 4 rfl rfl)
theorem dX6_init_5 : decode cX6_init 5 = .ok (.bipush 7, 2) := dk_16 7 (dk_at dksX6_init_0 5 rfl rfl)
theorem dX6_init_7 : decode cX6_init 7 = .ok (.newarray .int, 2) := dk_188_10 (dk_at dksX6_init_0 7 rfl rfl)
theorem dX6_init_9 : decode cX6_init 9 = .ok (.putfield 7, 3) := dk_181 0 7 (dk_at dksX6_init_0 9 rfl rfl)
theorem dX6_init_12 : decode cX6_init 12 = .ok (.aload_n 0, 1) := dk_42 (dk_at dksX6_init_0 12 rfl rfl)
theorem dX6_init_13 : decode cX6_init 13 = .ok (.sipush 5660, 3) := dk_17 22 28 (dk_at dksX6_init_0 13 rfl rfl)
theorem dX6_init_16 : decode cX6_init 16 = .ok (.newarray .int, 2) := dk_188_10 (dk_at dksX6_init_0 16 rfl rfl)
theorem dX6_init_18 : decode cX6_init 18 = .ok (.putfield 24, 3) := dk_181 0 24 (dk_at dksX6_init_0 18 rfl rfl)
theorem dX6_init_21 : decode cX6_init 21 = .ok (.aload_n 0, 1) := dk_42 (dk_at dksX6_init_0 21 rfl rfl)
theorem dX6_init_22 : decode cX6_init 22 = .ok (.sipush 11320, 3) := dk_17 44 56 (dk_at dksX6_init_1 0 rfl rfl)
theorem dX6_init_25 : decode cX6_init 25 = .ok (.newarray .int, 2) := dk_188_10 (dk_at dksX6_init_1 3 rfl rfl)
theorem dX6_init_27 : decode cX6_init 27 = .ok (.putfield 27, 3) := dk_181 0 27 (dk_at dksX6_init_1 5 rfl rfl)
theorem dX6_init_30 : decode cX6_init 30 = .ok (.aload_n 0, 1) := dk_42 (dk_at dksX6_init_1 8 rfl rfl)
theorem dX6_init_31 : decode cX6_init 31 = .ok (.iconst 2, 1) := dk_5 (dk_at dksX6_init_1 9 rfl rfl)
theorem dX6_init_32 : decode cX6_init 32 = .ok (.newarray .boolean, 2) := dk_188_4 (dk_at dksX6_init_1 10 rfl rfl)
theorem dX6_init_34 : decode cX6_init 34 = .ok (.putfield 30, 3) := dk_181 0 30 (dk_at dksX6_init_1 12 rfl rfl)
theorem dX6_init_37 : decode cX6_init 37 = .ok (.aload_n 0, 1) := dk_42 (dk_at dksX6_init_1 15 rfl rfl)
theorem dX6_init_38 : decode cX6_init 38 = .ok (.bipush 12, 2) := dk_16 12 (dk_at dksX6_init_1 16 rfl rfl)
theorem dX6_init_40 : decode cX6_init 40 = .ok (.newarray .int, 2) := dk_188_10 (dk_at dksX6_init_1 18 rfl rfl)
theorem dX6_init_42 : decode cX6_init 42 = .ok (.putfield 34, 3) := dk_181 0 34 (dk_at dksX6_init_1 20 rfl rfl)
theorem dX6_init_45 : decode cX6_init 45 = .ok (.aload_n 0, 1) := dk_42 (dk_at dksX6_init_1 23 rfl rfl)
theorem dX6_init_46 : decode cX6_init 46 = .ok (.bipush 122, 2) := dk_16 122 (dk_at dksX6_init_2 0 rfl rfl)
theorem dX6_init_48 : decode cX6_init 48 = .ok (.newarray .byte, 2) := dk_188_8 (dk_at dksX6_init_2 2 rfl rfl)
theorem dX6_init_50 : decode cX6_init 50 = .ok (.dup, 1) := dk_89 (dk_at dksX6_init_2 4 rfl rfl)
theorem dX6_init_51 : decode cX6_init 51 = .ok (.iconst 0, 1) := dk_3 (dk_at dksX6_init_2 5 rfl rfl)
theorem dX6_init_52 : decode cX6_init 52 = .ok (.bipush 103, 2) := dk_16 103 (dk_at dksX6_init_2 6 rfl rfl)
theorem dX6_init_54 : decode cX6_init 54 = .ok (.bastore, 1) := dk_84 (dk_at dksX6_init_2 8 rfl rfl)
theorem dX6_init_55 : decode cX6_init 55 = .ok (.dup, 1) := dk_89 (dk_at dksX6_init_2 9 rfl rfl)
theorem dX6_init_56 : decode cX6_init 56 = .ok (.iconst 1, 1) := dk_4 (dk_at dksX6_init_2 10 rfl rfl)
theorem dX6_init_57 : decode cX6_init 57 = .ok (.bipush 114, 2) := dk_16 114 (dk_at dksX6_init_2 11 rfl rfl)
theorem dX6_init_59 : decode cX6_init 59 = .ok (.bastore, 1) := dk_84 (dk_at dksX6_init_2 13 rfl rfl)
theorem dX6_init_60 : decode cX6_init 60 = .ok (.dup, 1) := dk_89 (dk_at dksX6_init_2 14 rfl rfl)
theorem dX6_init_61 : decode cX6_init 61 = .ok (.iconst 2, 1) := dk_5 (dk_at dksX6_init_2 15 rfl rfl)
theorem dX6_init_62 : decode cX6_init 62 = .ok (.bipush 111, 2) := dk_16 111 (dk_at dksX6_init_2 16 rfl rfl)
theorem dX6_init_64 : decode cX6_init 64 = .ok (.bastore, 1) := dk_84 (dk_at dksX6_init_2 18 rfl rfl)
theorem dX6_init_65 : decode cX6_init 65 = .ok (.dup, 1) := dk_89 (dk_at dksX6_init_2 19 rfl rfl)
theorem dX6_init_66 : decode cX6_init 66 = .ok (.iconst 3, 1) := dk_6 (dk_at dksX6_init_2 20 rfl rfl)
theorem dX6_init_67 : decode cX6_init 67 = .ok (.bipush 119, 2) := dk_16 119 (dk_at dksX6_init_2 21 rfl rfl)
theorem dX6_init_69 : decode cX6_init 69 = .ok (.bastore, 1) := dk_84 (dk_at dksX6_init_2 23 rfl rfl)
theorem dX6_init_70 : decode cX6_init 70 = .ok (.dup, 1) := dk_89 (dk_at dksX6_init_3 0 rfl rfl)
theorem dX6_init_71 : decode cX6_init 71 = .ok (.iconst 4, 1) := dk_7 (dk_at dksX6_init_3 1 rfl rfl)
theorem dX6_init_72 : decode cX6_init 72 = .ok (.bipush 115, 2) := dk_16 115 (dk_at dksX6_init_3 2 rfl rfl)
theorem dX6_init_74 : decode cX6_init 74 = .ok (.bastore, 1) := dk_84 (dk_at dksX6_init_3 4 rfl rfl)
theorem dX6_init_75 : decode cX6_init 75 = .ok (.dup, 1) := dk_89 (dk_at dksX6_init_3 5 rfl rfl)
theorem dX6_init_76 : decode cX6_init 76 = .ok (.iconst 5, 1) := dk_8 (dk_at dksX6_init_3 6 rfl rfl)
theorem dX6_init_77 : decode cX6_init 77 = .ok (.bipush 32, 2) := dk_16 32 (dk_at dksX6_init_3 7 rfl rfl)
theorem dX6_init_79 : decode cX6_init 79 = .ok (.bastore, 1) := dk_84 (dk_at dksX6_init_3 9 rfl rfl)
theorem dX6_init_80 : decode cX6_init 80 = .ok (.dup, 1) := dk_89 (dk_at dksX6_init_3 10 rfl rfl)
theorem dX6_init_81 : decode cX6_init 81 = .ok (.bipush 6, 2) := dk_16 6 (dk_at dksX6_init_3 11 rfl rfl)
theorem dX6_init_83 : decode cX6_init 83 = .ok (.bipush 119, 2) := dk_16 119 (dk_at dksX6_init_3 13 rfl rfl)
theorem dX6_init_85 : decode cX6_init 85 = .ok (.bastore, 1) := dk_84 (dk_at dksX6_init_3 15 rfl rfl)
theorem dX6_init_86 : decode cX6_init 86 = .ok (.dup, 1) := dk_89 (dk_at dksX6_init_3 16 rfl rfl)
theorem dX6_init_87 : decode cX6_init 87 = .ok (.bipush 7, 2) := dk_16 7 (dk_at dksX6_init_3 17 rfl rfl)
theorem dX6_init_89 : decode cX6_init 89 = .ok (.bipush 105, 2) := dk_16 105 (dk_at dksX6_init_3 19 rfl rfl)
theorem dX6_init_91 : decode cX6_init 91 = .ok (.bastore, 1) := dk_84 (dk_at dksX6_init_3 21 rfl rfl)
theorem dX6_init_92 : decode cX6_init 92 = .ok (.dup, 1) := dk_89 (dk_at dksX6_init_3 22 rfl rfl)
theorem dX6_init_93 : decode cX6_init 93 = .ok (.bipush 8, 2) := dk_16 8 (dk_at dksX6_init_4 0 rfl rfl)
theorem dX6_init_95 : decode cX6_init 95 = .ok (.bipush 108, 2) := dk_16 108 (dk_at dksX6_init_4 2 rfl rfl)
theorem dX6_init_97 : decode cX6_init 97 = .ok (.bastore, 1) := dk_84 (dk_at dksX6_init_4 4 rfl rfl)
theorem dX6_init_98 : decode cX6_init 98 = .ok (.dup, 1) := dk_89 (dk_at dksX6_init_4 5 rfl rfl)
theorem dX6_init_99 : decode cX6_init 99 = .ok (.bipush 9, 2) := dk_16 9 (dk_at dksX6_init_4 6 rfl rfl)
theorem dX6_init_101 : decode cX6_init 101 = .ok (.bipush 116, 2) := dk_16 116 (dk_at dksX6_init_4 8 rfl rfl)
theorem dX6_init_103 : decode cX6_init 103 = .ok (.bastore, 1) := dk_84 (dk_at dksX6_init_4 10 rfl rfl)
theorem dX6_init_104 : decode cX6_init 104 = .ok (.dup, 1) := dk_89 (dk_at dksX6_init_4 11 rfl rfl)
theorem dX6_init_105 : decode cX6_init 105 = .ok (.bipush 10, 2) := dk_16 10 (dk_at dksX6_init_4 12 rfl rfl)
theorem dX6_init_107 : decode cX6_init 107 = .ok (.bipush 115, 2) := dk_16 115 (dk_at dksX6_init_4 14 rfl rfl)
theorem dX6_init_109 : decode cX6_init 109 = .ok (.bastore, 1) := dk_84 (dk_at dksX6_init_4 16 rfl rfl)
theorem dX6_init_110 : decode cX6_init 110 = .ok (.dup, 1) := dk_89 (dk_at dksX6_init_4 17 rfl rfl)
theorem dX6_init_111 : decode cX6_init 111 = .ok (.bipush 11, 2) := dk_16 11 (dk_at dksX6_init_4 18 rfl rfl)
theorem dX6_init_113 : decode cX6_init 113 = .ok (.bipush 32, 2) := dk_16 32 (dk_at dksX6_init_4 20 rfl rfl)
theorem dX6_init_115 : decode cX6_init 115 = .ok (.bastore, 1) := dk_84 (dk_at dksX6_init_4 22 rfl rfl)
theorem dX6_init_116 : decode cX6_init 116 = .ok (.dup, 1) := dk_89 (dk_at dksX6_init_4 23 rfl rfl)
theorem dX6_init_117 : decode cX6_init 117 = .ok (.bipush 12, 2) := dk_16 12 (dk_at dksX6_init_5 0 rfl rfl)
theorem dX6_init_119 : decode cX6_init 119 = .ok (.bipush 98, 2) := dk_16 98 (dk_at dksX6_init_5 2 rfl rfl)
theorem dX6_init_121 : decode cX6_init 121 = .ok (.bastore, 1) := dk_84 (dk_at dksX6_init_5 4 rfl rfl)
theorem dX6_init_122 : decode cX6_init 122 = .ok (.dup, 1) := dk_89 (dk_at dksX6_init_5 5 rfl rfl)
theorem dX6_init_123 : decode cX6_init 123 = .ok (.bipush 13, 2) := dk_16 13 (dk_at dksX6_init_5 6 rfl rfl)
theorem dX6_init_125 : decode cX6_init 125 = .ok (.bipush 97, 2) := dk_16 97 (dk_at dksX6_init_5 8 rfl rfl)
theorem dX6_init_127 : decode cX6_init 127 = .ok (.bastore, 1) := dk_84 (dk_at dksX6_init_5 10 rfl rfl)
theorem dX6_init_128 : decode cX6_init 128 = .ok (.dup, 1) := dk_89 (dk_at dksX6_init_5 11 rfl rfl)
theorem dX6_init_129 : decode cX6_init 129 = .ok (.bipush 14, 2) := dk_16 14 (dk_at dksX6_init_5 12 rfl rfl)
theorem dX6_init_131 : decode cX6_init 131 = .ok (.bipush 114, 2) := dk_16 114 (dk_at dksX6_init_5 14 rfl rfl)
theorem dX6_init_133 : decode cX6_init 133 = .ok (.bastore, 1) := dk_84 (dk_at dksX6_init_5 16 rfl rfl)
theorem dX6_init_134 : decode cX6_init 134 = .ok (.dup, 1) := dk_89 (dk_at dksX6_init_5 17 rfl rfl)
theorem dX6_init_135 : decode cX6_init 135 = .ok (.bipush 15, 2) := dk_16 15 (dk_at dksX6_init_5 18 rfl rfl)
theorem dX6_init_137 : decode cX6_init 137 = .ok (.bipush 115, 2) := dk_16 115 (dk_at dksX6_init_5 20 rfl rfl)
theorem dX6_init_139 : decode cX6_init 139 = .ok (.bastore, 1) := dk_84 (dk_at dksX6_init_5 22 rfl rfl)
theorem dX6_init_140 : decode cX6_init 140 = .ok (.dup, 1) := dk_89 (dk_at dksX6_init_5 23 rfl rfl)
theorem dX6_init_141 : decode cX6_init 141 = .ok (.bipush 16, 2) := dk_16 16 (dk_at dksX6_init_6 0 rfl rfl)
theorem dX6_init_143 : decode cX6_init 143 = .ok (.bipush 32, 2) := dk_16 32 (dk_at dksX6_init_6 2 rfl rfl)
theorem dX6_init_145 : decode cX6_init 145 = .ok (.bastore, 1) := dk_84 (dk_at dksX6_init_6 4 rfl rfl)
theorem dX6_init_146 : decode cX6_init 146 = .ok (.dup, 1) := dk_89 (dk_at dksX6_init_6 5 rfl rfl)
theorem dX6_init_147 : decode cX6_init 147 = .ok (.bipush 17, 2) := dk_16 17 (dk_at dksX6_init_6 6 rfl rfl)
theorem dX6_init_149 : decode cX6_init 149 = .ok (.bipush 105, 2) := dk_16 105 (dk_at dksX6_init_6 8 rfl rfl)
theorem dX6_init_151 : decode cX6_init 151 = .ok (.bastore, 1) := dk_84 (dk_at dksX6_init_6 10 rfl rfl)
theorem dX6_init_152 : decode cX6_init 152 = .ok (.dup, 1) := dk_89 (dk_at dksX6_init_6 11 rfl rfl)
theorem dX6_init_153 : decode cX6_init 153 = .ok (.bipush 18, 2) := dk_16 18 (dk_at dksX6_init_6 12 rfl rfl)
theorem dX6_init_155 : decode cX6_init 155 = .ok (.bipush 102, 2) := dk_16 102 (dk_at dksX6_init_6 14 rfl rfl)
theorem dX6_init_157 : decode cX6_init 157 = .ok (.bastore, 1) := dk_84 (dk_at dksX6_init_6 16 rfl rfl)
theorem dX6_init_158 : decode cX6_init 158 = .ok (.dup, 1) := dk_89 (dk_at dksX6_init_6 17 rfl rfl)
theorem dX6_init_159 : decode cX6_init 159 = .ok (.bipush 19, 2) := dk_16 19 (dk_at dksX6_init_6 18 rfl rfl)
theorem dX6_init_161 : decode cX6_init 161 = .ok (.bipush 32, 2) := dk_16 32 (dk_at dksX6_init_6 20 rfl rfl)
theorem dX6_init_163 : decode cX6_init 163 = .ok (.bastore, 1) := dk_84 (dk_at dksX6_init_6 22 rfl rfl)
theorem dX6_init_164 : decode cX6_init 164 = .ok (.dup, 1) := dk_89 (dk_at dksX6_init_6 23 rfl rfl)
theorem dX6_init_165 : decode cX6_init 165 = .ok (.bipush 20, 2) := dk_16 20 (dk_at dksX6_init_7 0 rfl rfl)
theorem dX6_init_167 : decode cX6_init 167 = .ok (.bipush 111, 2) := dk_16 111 (dk_at dksX6_init_7 2 rfl rfl)
theorem dX6_init_169 : decode cX6_init 169 = .ok (.bastore, 1) := dk_84 (dk_at dksX6_init_7 4 rfl rfl)
theorem dX6_init_170 : decode cX6_init 170 = .ok (.dup, 1) := dk_89 (dk_at dksX6_init_7 5 rfl rfl)
theorem dX6_init_171 : decode cX6_init 171 = .ok (.bipush 21, 2) := dk_16 21 (dk_at dksX6_init_7 6 rfl rfl)
theorem dX6_init_173 : decode cX6_init 173 = .ok (.bipush 114, 2) := dk_16 114 (dk_at dksX6_init_7 8 rfl rfl)
theorem dX6_init_175 : decode cX6_init 175 = .ok (.bastore, 1) := dk_84 (dk_at dksX6_init_7 10 rfl rfl)
theorem dX6_init_176 : decode cX6_init 176 = .ok (.dup, 1) := dk_89 (dk_at dksX6_init_7 11 rfl rfl)
theorem dX6_init_177 : decode cX6_init 177 = .ok (.bipush 22, 2) := dk_16 22 (dk_at dksX6_init_7 12 rfl rfl)
theorem dX6_init_179 : decode cX6_init 179 = .ok (.bipush 32, 2) := dk_16 32 (dk_at dksX6_init_7 14 rfl rfl)
theorem dX6_init_181 : decode cX6_init 181 = .ok (.bastore, 1) := dk_84 (dk_at dksX6_init_7 16 rfl rfl)
theorem dX6_init_182 : decode cX6_init 182 = .ok (.dup, 1) := dk_89 (dk_at dksX6_init_7 17 rfl rfl)
theorem dX6_init_183 : decode cX6_init 183 = .ok (.bipush 23, 2) := dk_16 23 (dk_at dksX6_init_7 18 rfl rfl)
theorem dX6_init_185 : decode cX6_init 185 = .ok (.bipush 97, 2) := dk_16 97 (dk_at dksX6_init_7 20 rfl rfl)
theorem dX6_init_187 : decode cX6_init 187 = .ok (.bastore, 1) := dk_84 (dk_at dksX6_init_7 22 rfl rfl)
theorem dX6_init_188 : decode cX6_init 188 = .ok (.dup, 1) := dk_89 (dk_at dksX6_init_7 23 rfl rfl)
theorem dX6_init_189 : decode cX6_init 189 = .ok (.bipush 24, 2) := dk_16 24 (dk_at dksX6_init_8 0 rfl rfl)
theorem dX6_init_191 : decode cX6_init 191 = .ok (.bipush 110, 2) := dk_16 110 (dk_at dksX6_init_8 2 rfl rfl)
theorem dX6_init_193 : decode cX6_init 193 = .ok (.bastore, 1) := dk_84 (dk_at dksX6_init_8 4 rfl rfl)
theorem dX6_init_194 : decode cX6_init 194 = .ok (.dup, 1) := dk_89 (dk_at dksX6_init_8 5 rfl rfl)
theorem dX6_init_195 : decode cX6_init 195 = .ok (.bipush 25, 2) := dk_16 25 (dk_at dksX6_init_8 6 rfl rfl)
theorem dX6_init_197 : decode cX6_init 197 = .ok (.bipush 100, 2) := dk_16 100 (dk_at dksX6_init_8 8 rfl rfl)
theorem dX6_init_199 : decode cX6_init 199 = .ok (.bastore, 1) := dk_84 (dk_at dksX6_init_8 10 rfl rfl)
theorem dX6_init_200 : decode cX6_init 200 = .ok (.dup, 1) := dk_89 (dk_at dksX6_init_8 11 rfl rfl)
theorem dX6_init_201 : decode cX6_init 201 = .ok (.bipush 26, 2) := dk_16 26 (dk_at dksX6_init_8 12 rfl rfl)
theorem dX6_init_203 : decode cX6_init 203 = .ok (.bipush 32, 2) := dk_16 32 (dk_at dksX6_init_8 14 rfl rfl)
theorem dX6_init_205 : decode cX6_init 205 = .ok (.bastore, 1) := dk_84 (dk_at dksX6_init_8 16 rfl rfl)
theorem dX6_init_206 : decode cX6_init 206 = .ok (.dup, 1) := dk_89 (dk_at dksX6_init_8 17 rfl rfl)
theorem dX6_init_207 : decode cX6_init 207 = .ok (.bipush 27, 2) := dk_16 27 (dk_at dksX6_init_8 18 rfl rfl)
theorem dX6_init_209 : decode cX6_init 209 = .ok (.bipush 110, 2) := dk_16 110 (dk_at dksX6_init_8 20 rfl rfl)
theorem dX6_init_211 : decode cX6_init 211 = .ok (.bastore, 1) := dk_84 (dk_at dksX6_init_8 22 rfl rfl)
theorem dX6_init_212 : decode cX6_init 212 = .ok (.dup, 1) := dk_89 (dk_at dksX6_init_8 23 rfl rfl)
theorem dX6_init_213 : decode cX6_init 213 = .ok (.bipush 28, 2) := dk_16 28 (dk_at dksX6_init_9 0 rfl rfl)
theorem dX6_init_215 : decode cX6_init 215 = .ok (.bipush 111, 2) := dk_16 111 (dk_at dksX6_init_9 2 rfl rfl)
theorem dX6_init_217 : decode cX6_init 217 = .ok (.bastore, 1) := dk_84 (dk_at dksX6_init_9 4 rfl rfl)
theorem dX6_init_218 : decode cX6_init 218 = .ok (.dup, 1) := dk_89 (dk_at dksX6_init_9 5 rfl rfl)
theorem dX6_init_219 : decode cX6_init 219 = .ok (.bipush 29, 2) := dk_16 29 (dk_at dksX6_init_9 6 rfl rfl)
theorem dX6_init_221 : decode cX6_init 221 = .ok (.bipush 116, 2) := dk_16 116 (dk_at dksX6_init_9 8 rfl rfl)
theorem dX6_init_223 : decode cX6_init 223 = .ok (.bastore, 1) := dk_84 (dk_at dksX6_init_9 10 rfl rfl)
theorem dX6_init_224 : decode cX6_init 224 = .ok (.dup, 1) := dk_89 (dk_at dksX6_init_9 11 rfl rfl)
theorem dX6_init_225 : decode cX6_init 225 = .ok (.bipush 30, 2) := dk_16 30 (dk_at dksX6_init_9 12 rfl rfl)
theorem dX6_init_227 : decode cX6_init 227 = .ok (.bipush 32, 2) := dk_16 32 (dk_at dksX6_init_9 14 rfl rfl)
theorem dX6_init_229 : decode cX6_init 229 = .ok (.bastore, 1) := dk_84 (dk_at dksX6_init_9 16 rfl rfl)
theorem dX6_init_230 : decode cX6_init 230 = .ok (.dup, 1) := dk_89 (dk_at dksX6_init_9 17 rfl rfl)
theorem dX6_init_231 : decode cX6_init 231 = .ok (.bipush 31, 2) := dk_16 31 (dk_at dksX6_init_9 18 rfl rfl)
theorem dX6_init_233 : decode cX6_init 233 = .ok (.bipush 108, 2) := dk_16 108 (dk_at dksX6_init_9 20 rfl rfl)
theorem dX6_init_235 : decode cX6_init 235 = .ok (.bastore, 1) := dk_84 (dk_at dksX6_init_9 22 rfl rfl)
theorem dX6_init_236 : decode cX6_init 236 = .ok (.dup, 1) := dk_89 (dk_at dksX6_init_9 23 rfl rfl)
theorem dX6_init_237 : decode cX6_init 237 = .ok (.bipush 32, 2) := dk_16 32 (dk_at dksX6_init_10 0 rfl rfl)
theorem dX6_init_239 : decode cX6_init 239 = .ok (.bipush 101, 2) := dk_16 101 (dk_at dksX6_init_10 2 rfl rfl)
theorem dX6_init_241 : decode cX6_init 241 = .ok (.bastore, 1) := dk_84 (dk_at dksX6_init_10 4 rfl rfl)
theorem dX6_init_242 : decode cX6_init 242 = .ok (.dup, 1) := dk_89 (dk_at dksX6_init_10 5 rfl rfl)
theorem dX6_init_243 : decode cX6_init 243 = .ok (.bipush 33, 2) := dk_16 33 (dk_at dksX6_init_10 6 rfl rfl)
theorem dX6_init_245 : decode cX6_init 245 = .ok (.bipush 101, 2) := dk_16 101 (dk_at dksX6_init_10 8 rfl rfl)
theorem dX6_init_247 : decode cX6_init 247 = .ok (.bastore, 1) := dk_84 (dk_at dksX6_init_10 10 rfl rfl)
theorem dX6_init_248 : decode cX6_init 248 = .ok (.dup, 1) := dk_89 (dk_at dksX6_init_10 11 rfl rfl)
theorem dX6_init_249 : decode cX6_init 249 = .ok (.bipush 34, 2) := dk_16 34 (dk_at dksX6_init_10 12 rfl rfl)
theorem dX6_init_251 : decode cX6_init 251 = .ok (.bipush 107, 2) := dk_16 107 (dk_at dksX6_init_10 14 rfl rfl)
theorem dX6_init_253 : decode cX6_init 253 = .ok (.bastore, 1) := dk_84 (dk_at dksX6_init_10 16 rfl rfl)
theorem dX6_init_254 : decode cX6_init 254 = .ok (.dup, 1) := dk_89 (dk_at dksX6_init_10 17 rfl rfl)
theorem dX6_init_255 : decode cX6_init 255 = .ok (.bipush 35, 2) := dk_16 35 (dk_at dksX6_init_10 18 rfl rfl)
theorem dX6_init_257 : decode cX6_init 257 = .ok (.bipush 32, 2) := dk_16 32 (dk_at dksX6_init_10 20 rfl rfl)
theorem dX6_init_259 : decode cX6_init 259 = .ok (.bastore, 1) := dk_84 (dk_at dksX6_init_10 22 rfl rfl)
theorem dX6_init_260 : decode cX6_init 260 = .ok (.dup, 1) := dk_89 (dk_at dksX6_init_10 23 rfl rfl)
theorem dX6_init_261 : decode cX6_init 261 = .ok (.bipush 36, 2) := dk_16 36 (dk_at dksX6_init_11 0 rfl rfl)
theorem dX6_init_263 : decode cX6_init 263 = .ok (.bipush 108, 2) := dk_16 108 (dk_at dksX6_init_11 2 rfl rfl)
theorem dX6_init_265 : decode cX6_init 265 = .ok (.bastore, 1) := dk_84 (dk_at dksX6_init_11 4 rfl rfl)
theorem dX6_init_266 : decode cX6_init 266 = .ok (.dup, 1) := dk_89 (dk_at dksX6_init_11 5 rfl rfl)
theorem dX6_init_267 : decode cX6_init 267 = .ok (.bipush 37, 2) := dk_16 37 (dk_at dksX6_init_11 6 rfl rfl)
theorem dX6_init_269 : decode cX6_init 269 = .ok (.bipush 105, 2) := dk_16 105 (dk_at dksX6_init_11 8 rfl rfl)
theorem dX6_init_271 : decode cX6_init 271 = .ok (.bastore, 1) := dk_84 (dk_at dksX6_init_11 10 rfl rfl)
theorem dX6_init_272 : decode cX6_init 272 = .ok (.dup, 1) := dk_89 (dk_at dksX6_init_11 11 rfl rfl)
theorem dX6_init_273 : decode cX6_init 273 = .ok (.bipush 38, 2) := dk_16 38 (dk_at dksX6_init_11 12 rfl rfl)
theorem dX6_init_275 : decode cX6_init 275 = .ok (.bipush 107, 2) := dk_16 107 (dk_at dksX6_init_11 14 rfl rfl)
theorem dX6_init_277 : decode cX6_init 277 = .ok (.bastore, 1) := dk_84 (dk_at dksX6_init_11 16 rfl rfl)
theorem dX6_init_278 : decode cX6_init 278 = .ok (.dup, 1) := dk_89 (dk_at dksX6_init_11 17 rfl rfl)
theorem dX6_init_279 : decode cX6_init 279 = .ok (.bipush 39, 2) := dk_16 39 (dk_at dksX6_init_11 18 rfl rfl)
theorem dX6_init_281 : decode cX6_init 281 = .ok (.bipush 101, 2) := dk_16 101 (dk_at dksX6_init_11 20 rfl rfl)
theorem dX6_init_283 : decode cX6_init 283 = .ok (.bastore, 1) := dk_84 (dk_at dksX6_init_11 22 rfl rfl)
theorem dX6_init_284 : decode cX6_init 284 = .ok (.dup, 1) := dk_89 (dk_at dksX6_init_11 23 rfl rfl)
theorem dX6_init_285 : decode cX6_init 285 = .ok (.bipush 40, 2) := dk_16 40 (dk_at dksX6_init_12 0 rfl rfl)
theorem dX6_init_287 : decode cX6_init 287 = .ok (.bipush 115, 2) := dk_16 115 (dk_at dksX6_init_12 2 rfl rfl)
theorem dX6_init_289 : decode cX6_init 289 = .ok (.bastore, 1) := dk_84 (dk_at dksX6_init_12 4 rfl rfl)
theorem dX6_init_290 : decode cX6_init 290 = .ok (.dup, 1) := dk_89 (dk_at dksX6_init_12 5 rfl rfl)
theorem dX6_init_291 : decode cX6_init 291 = .ok (.bipush 41, 2) := dk_16 41 (dk_at dksX6_init_12 6 rfl rfl)
theorem dX6_init_293 : decode cX6_init 293 = .ok (.bipush 32, 2) := dk_16 32 (dk_at dksX6_init_12 8 rfl rfl)
theorem dX6_init_295 : decode cX6_init 295 = .ok (.bastore, 1) := dk_84 (dk_at dksX6_init_12 10 rfl rfl)
theorem dX6_init_296 : decode cX6_init 296 = .ok (.dup, 1) := dk_89 (dk_at dksX6_init_12 11 rfl rfl)
theorem dX6_init_297 : decode cX6_init 297 = .ok (.bipush 42, 2) := dk_16 42 (dk_at dksX6_init_12 12 rfl rfl)
theorem dX6_init_299 : decode cX6_init 299 = .ok (.bipush 98, 2) := dk_16 98 (dk_at dksX6_init_12 14 rfl rfl)
theorem dX6_init_301 : decode cX6_init 301 = .ok (.bastore, 1) := dk_84 (dk_at dksX6_init_12 16 rfl rfl)
theorem dX6_init_302 : decode cX6_init 302 = .ok (.dup, 1) := dk_89 (dk_at dksX6_init_12 17 rfl rfl)
theorem dX6_init_303 : decode cX6_init 303 = .ok (.bipush 43, 2) := dk_16 43 (dk_at dksX6_init_12 18 rfl rfl)
theorem dX6_init_305 : decode cX6_init 305 = .ok (.bipush 111, 2) := dk_16 111 (dk_at dksX6_init_12 20 rfl rfl)
theorem dX6_init_307 : decode cX6_init 307 = .ok (.bastore, 1) := dk_84 (dk_at dksX6_init_12 22 rfl rfl)
theorem dX6_init_308 : decode cX6_init 308 = .ok (.dup, 1) := dk_89 (dk_at dksX6_init_12 23 rfl rfl)
theorem dX6_init_309 : decode cX6_init 309 = .ok (.bipush 44, 2) := dk_16 44 (dk_at dksX6_init_13 0 rfl rfl)
theorem dX6_init_311 : decode cX6_init 311 = .ok (.bipush 111, 2) := dk_16 111 (dk_at dksX6_init_13 2 rfl rfl)
theorem dX6_init_313 : decode cX6_init 313 = .ok (.bastore, 1) := dk_84 (dk_at dksX6_init_13 4 rfl rfl)
theorem dX6_init_314 : decode cX6_init 314 = .ok (.dup, 1) := dk_89 (dk_at dksX6_init_13 5 rfl rfl)
theorem dX6_init_315 : decode cX6_init 315 = .ok (.bipush 45, 2) := dk_16 45 (dk_at dksX6_init_13 6 rfl rfl)
theorem dX6_init_317 : decode cX6_init 317 = .ok (.bipush 107, 2) := dk_16 107 (dk_at dksX6_init_13 8 rfl rfl)
theorem dX6_init_319 : decode cX6_init 319 = .ok (.bastore, 1) := dk_84 (dk_at dksX6_init_13 10 rfl rfl)
theorem dX6_init_320 : decode cX6_init 320 = .ok (.dup, 1) := dk_89 (dk_at dksX6_init_13 11 rfl rfl)
theorem dX6_init_321 : decode cX6_init 321 = .ok (.bipush 46, 2) := dk_16 46 (dk_at dksX6_init_13 12 rfl rfl)
theorem dX6_init_323 : decode cX6_init 323 = .ok (.bipush 32, 2) := dk_16 32 (dk_at dksX6_init_13 14 rfl rfl)
theorem dX6_init_325 : decode cX6_init 325 = .ok (.bastore, 1) := dk_84 (dk_at dksX6_init_13 16 rfl rfl)
theorem dX6_init_326 : decode cX6_init 326 = .ok (.dup, 1) := dk_89 (dk_at dksX6_init_13 17 rfl rfl)
theorem dX6_init_327 : decode cX6_init 327 = .ok (.bipush 47, 2) := dk_16 47 (dk_at dksX6_init_13 18 rfl rfl)
theorem dX6_init_329 : decode cX6_init 329 = .ok (.bipush 108, 2) := dk_16 108 (dk_at dksX6_init_13 20 rfl rfl)
theorem dX6_init_331 : decode cX6_init 331 = .ok (.bastore, 1) := dk_84 (dk_at dksX6_init_13 22 rfl rfl)
theorem dX6_init_332 : decode cX6_init 332 = .ok (.dup, 1) := dk_89 (dk_at dksX6_init_13 23 rfl rfl)
theorem dX6_init_333 : decode cX6_init 333 = .ok (.bipush 48, 2) := dk_16 48 (dk_at dksX6_init_14 0 rfl rfl)
theorem dX6_init_335 : decode cX6_init 335 = .ok (.bipush 111, 2) := dk_16 111 (dk_at dksX6_init_14 2 rfl rfl)
theorem dX6_init_337 : decode cX6_init 337 = .ok (.bastore, 1) := dk_84 (dk_at dksX6_init_14 4 rfl rfl)
theorem dX6_init_338 : decode cX6_init 338 = .ok (.dup, 1) := dk_89 (dk_at dksX6_init_14 5 rfl rfl)
theorem dX6_init_339 : decode cX6_init 339 = .ok (.bipush 49, 2) := dk_16 49 (dk_at dksX6_init_14 6 rfl rfl)
theorem dX6_init_341 : decode cX6_init 341 = .ok (.bipush 110, 2) := dk_16 110 (dk_at dksX6_init_14 8 rfl rfl)
theorem dX6_init_343 : decode cX6_init 343 = .ok (.bastore, 1) := dk_84 (dk_at dksX6_init_14 10 rfl rfl)
theorem dX6_init_344 : decode cX6_init 344 = .ok (.dup, 1) := dk_89 (dk_at dksX6_init_14 11 rfl rfl)
theorem dX6_init_345 : decode cX6_init 345 = .ok (.bipush 50, 2) := dk_16 50 (dk_at dksX6_init_14 12 rfl rfl)
theorem dX6_init_347 : decode cX6_init 347 = .ok (.bipush 103, 2) := dk_16 103 (dk_at dksX6_init_14 14 rfl rfl)
theorem dX6_init_349 : decode cX6_init 349 = .ok (.bastore, 1) := dk_84 (dk_at dksX6_init_14 16 rfl rfl)
theorem dX6_init_350 : decode cX6_init 350 = .ok (.dup, 1) := dk_89 (dk_at dksX6_init_14 17 rfl rfl)
theorem dX6_init_351 : decode cX6_init 351 = .ok (.bipush 51, 2) := dk_16 51 (dk_at dksX6_init_14 18 rfl rfl)
theorem dX6_init_353 : decode cX6_init 353 = .ok (.bipush 32, 2) := dk_16 32 (dk_at dksX6_init_14 20 rfl rfl)
theorem dX6_init_355 : decode cX6_init 355 = .ok (.bastore, 1) := dk_84 (dk_at dksX6_init_14 22 rfl rfl)
theorem dX6_init_356 : decode cX6_init 356 = .ok (.dup, 1) := dk_89 (dk_at dksX6_init_14 23 rfl rfl)
theorem dX6_init_357 : decode cX6_init 357 = .ok (.bipush 52, 2) := dk_16 52 (dk_at dksX6_init_15 0 rfl rfl)
theorem dX6_init_359 : decode cX6_init 359 = .ok (.bipush 107, 2) := dk_16 107 (dk_at dksX6_init_15 2 rfl rfl)
theorem dX6_init_361 : decode cX6_init 361 = .ok (.bastore, 1) := dk_84 (dk_at dksX6_init_15 4 rfl rfl)
theorem dX6_init_362 : decode cX6_init 362 = .ok (.dup, 1) := dk_89 (dk_at dksX6_init_15 5 rfl rfl)
theorem dX6_init_363 : decode cX6_init 363 = .ok (.bipush 53, 2) := dk_16 53 (dk_at dksX6_init_15 6 rfl rfl)
theorem dX6_init_365 : decode cX6_init 365 = .ok (.bipush 105, 2) := dk_16 105 (dk_at dksX6_init_15 8 rfl rfl)
theorem dX6_init_367 : decode cX6_init 367 = .ok (.bastore, 1) := dk_84 (dk_at dksX6_init_15 10 rfl rfl)
theorem dX6_init_368 : decode cX6_init 368 = .ok (.dup, 1) := dk_89 (dk_at dksX6_init_15 11 rfl rfl)
theorem dX6_init_369 : decode cX6_init 369 = .ok (.bipush 54, 2) := dk_16 54 (dk_at dksX6_init_15 12 rfl rfl)
theorem dX6_init_371 : decode cX6_init 371 = .ok (.bipush 110, 2) := dk_16 110 (dk_at dksX6_init_15 14 rfl rfl)
theorem dX6_init_373 : decode cX6_init 373 = .ok (.bastore, 1) := dk_84 (dk_at dksX6_init_15 16 rfl rfl)
theorem dX6_init_374 : decode cX6_init 374 = .ok (.dup, 1) := dk_89 (dk_at dksX6_init_15 17 rfl rfl)
theorem dX6_init_375 : decode cX6_init 375 = .ok (.bipush 55, 2) := dk_16 55 (dk_at dksX6_init_15 18 rfl rfl)
theorem dX6_init_377 : decode cX6_init 377 = .ok (.bipush 100, 2) := dk_16 100 (dk_at dksX6_init_15 20 rfl rfl)
theorem dX6_init_379 : decode cX6_init 379 = .ok (.bastore, 1) := dk_84 (dk_at dksX6_init_15 22 rfl rfl)
theorem dX6_init_380 : decode cX6_init 380 = .ok (.dup, 1) := dk_89 (dk_at dksX6_init_15 23 rfl rfl)
theorem dX6_init_381 : decode cX6_init 381 = .ok (.bipush 56, 2) := dk_16 56 (dk_at dksX6_init_16 0 rfl rfl)
theorem dX6_init_383 : decode cX6_init 383 = .ok (.bipush 32, 2) := dk_16 32 (dk_at dksX6_init_16 2 rfl rfl)
theorem dX6_init_385 : decode cX6_init 385 = .ok (.bastore, 1) := dk_84 (dk_at dksX6_init_16 4 rfl rfl)
theorem dX6_init_386 : decode cX6_init 386 = .ok (.dup, 1) := dk_89 (dk_at dksX6_init_16 5 rfl rfl)
theorem dX6_init_387 : decode cX6_init 387 = .ok (.bipush 57, 2) := dk_16 57 (dk_at dksX6_init_16 6 rfl rfl)
theorem dX6_init_389 : decode cX6_init 389 = .ok (.bipush 109, 2) := dk_16 109 (dk_at dksX6_init_16 8 rfl rfl)
theorem dX6_init_391 : decode cX6_init 391 = .ok (.bastore, 1) := dk_84 (dk_at dksX6_init_16 10 rfl rfl)
theorem dX6_init_392 : decode cX6_init 392 = .ok (.dup, 1) := dk_89 (dk_at dksX6_init_16 11 rfl rfl)
theorem dX6_init_393 : decode cX6_init 393 = .ok (.bipush 58, 2) := dk_16 58 (dk_at dksX6_init_16 12 rfl rfl)
theorem dX6_init_395 : decode cX6_init 395 = .ok (.bipush 111, 2) := dk_16 111 (dk_at dksX6_init_16 14 rfl rfl)
theorem dX6_init_397 : decode cX6_init 397 = .ok (.bastore, 1) := dk_84 (dk_at dksX6_init_16 16 rfl rfl)
theorem dX6_init_398 : decode cX6_init 398 = .ok (.dup, 1) := dk_89 (dk_at dksX6_init_16 17 rfl rfl)
theorem dX6_init_399 : decode cX6_init 399 = .ok (.bipush 59, 2) := dk_16 59 (dk_at dksX6_init_16 18 rfl rfl)
theorem dX6_init_401 : decode cX6_init 401 = .ok (.bipush 111, 2) := dk_16 111 (dk_at dksX6_init_16 20 rfl rfl)
theorem dX6_init_403 : decode cX6_init 403 = .ok (.bastore, 1) := dk_84 (dk_at dksX6_init_16 22 rfl rfl)
theorem dX6_init_404 : decode cX6_init 404 = .ok (.dup, 1) := dk_89 (dk_at dksX6_init_16 23 rfl rfl)
theorem dX6_init_405 : decode cX6_init 405 = .ok (.bipush 60, 2) := dk_16 60 (dk_at dksX6_init_17 0 rfl rfl)
theorem dX6_init_407 : decode cX6_init 407 = .ok (.bipush 100, 2) := dk_16 100 (dk_at dksX6_init_17 2 rfl rfl)
theorem dX6_init_409 : decode cX6_init 409 = .ok (.bastore, 1) := dk_84 (dk_at dksX6_init_17 4 rfl rfl)
theorem dX6_init_410 : decode cX6_init 410 = .ok (.dup, 1) := dk_89 (dk_at dksX6_init_17 5 rfl rfl)
theorem dX6_init_411 : decode cX6_init 411 = .ok (.bipush 61, 2) := dk_16 61 (dk_at dksX6_init_17 6 rfl rfl)
theorem dX6_init_413 : decode cX6_init 413 = .ok (.bipush 32, 2) := dk_16 32 (dk_at dksX6_init_17 8 rfl rfl)
theorem dX6_init_415 : decode cX6_init 415 = .ok (.bastore, 1) := dk_84 (dk_at dksX6_init_17 10 rfl rfl)
theorem dX6_init_416 : decode cX6_init 416 = .ok (.dup, 1) := dk_89 (dk_at dksX6_init_17 11 rfl rfl)
theorem dX6_init_417 : decode cX6_init 417 = .ok (.bipush 62, 2) := dk_16 62 (dk_at dksX6_init_17 12 rfl rfl)
theorem dX6_init_419 : decode cX6_init 419 = .ok (.bipush 104, 2) := dk_16 104 (dk_at dksX6_init_17 14 rfl rfl)
theorem dX6_init_421 : decode cX6_init 421 = .ok (.bastore, 1) := dk_84 (dk_at dksX6_init_17 16 rfl rfl)
theorem dX6_init_422 : decode cX6_init 422 = .ok (.dup, 1) := dk_89 (dk_at dksX6_init_17 17 rfl rfl)
theorem dX6_init_423 : decode cX6_init 423 = .ok (.bipush 63, 2) := dk_16 63 (dk_at dksX6_init_17 18 rfl rfl)
theorem dX6_init_425 : decode cX6_init 425 = .ok (.bipush 105, 2) := dk_16 105 (dk_at dksX6_init_17 20 rfl rfl)
theorem dX6_init_427 : decode cX6_init 427 = .ok (.bastore, 1) := dk_84 (dk_at dksX6_init_17 22 rfl rfl)
theorem dX6_init_428 : decode cX6_init 428 = .ok (.dup, 1) := dk_89 (dk_at dksX6_init_17 23 rfl rfl)
theorem dX6_init_429 : decode cX6_init 429 = .ok (.bipush 64, 2) := dk_16 64 (dk_at dksX6_init_18 0 rfl rfl)
theorem dX6_init_431 : decode cX6_init 431 = .ok (.bipush 103, 2) := dk_16 103 (dk_at dksX6_init_18 2 rfl rfl)
theorem dX6_init_433 : decode cX6_init 433 = .ok (.bastore, 1) := dk_84 (dk_at dksX6_init_18 4 rfl rfl)
theorem dX6_init_434 : decode cX6_init 434 = .ok (.dup, 1) := dk_89 (dk_at dksX6_init_18 5 rfl rfl)
theorem dX6_init_435 : decode cX6_init 435 = .ok (.bipush 65, 2) := dk_16 65 (dk_at dksX6_init_18 6 rfl rfl)
theorem dX6_init_437 : decode cX6_init 437 = .ok (.bipush 104, 2) := dk_16 104 (dk_at dksX6_init_18 8 rfl rfl)
theorem dX6_init_439 : decode cX6_init 439 = .ok (.bastore, 1) := dk_84 (dk_at dksX6_init_18 10 rfl rfl)
theorem dX6_init_440 : decode cX6_init 440 = .ok (.dup, 1) := dk_89 (dk_at dksX6_init_18 11 rfl rfl)
theorem dX6_init_441 : decode cX6_init 441 = .ok (.bipush 66, 2) := dk_16 66 (dk_at dksX6_init_18 12 rfl rfl)
theorem dX6_init_443 : decode cX6_init 443 = .ok (.bipush 32, 2) := dk_16 32 (dk_at dksX6_init_18 14 rfl rfl)
theorem dX6_init_445 : decode cX6_init 445 = .ok (.bastore, 1) := dk_84 (dk_at dksX6_init_18 16 rfl rfl)
theorem dX6_init_446 : decode cX6_init 446 = .ok (.dup, 1) := dk_89 (dk_at dksX6_init_18 17 rfl rfl)
theorem dX6_init_447 : decode cX6_init 447 = .ok (.bipush 67, 2) := dk_16 67 (dk_at dksX6_init_18 18 rfl rfl)
theorem dX6_init_449 : decode cX6_init 449 = .ok (.bipush 107, 2) := dk_16 107 (dk_at dksX6_init_18 20 rfl rfl)
theorem dX6_init_451 : decode cX6_init 451 = .ok (.bastore, 1) := dk_84 (dk_at dksX6_init_18 22 rfl rfl)
theorem dX6_init_452 : decode cX6_init 452 = .ok (.dup, 1) := dk_89 (dk_at dksX6_init_18 23 rfl rfl)
theorem dX6_init_453 : decode cX6_init 453 = .ok (.bipush 68, 2) := dk_16 68 (dk_at dksX6_init_19 0 rfl rfl)
theorem dX6_init_455 : decode cX6_init 455 = .ok (.bipush 110, 2) := dk_16 110 (dk_at dksX6_init_19 2 rfl rfl)
theorem dX6_init_457 : decode cX6_init 457 = .ok (.bastore, 1) := dk_84 (dk_at dksX6_init_19 4 rfl rfl)
theorem dX6_init_458 : decode cX6_init 458 = .ok (.dup, 1) := dk_89 (dk_at dksX6_init_19 5 rfl rfl)
theorem dX6_init_459 : decode cX6_init 459 = .ok (.bipush 69, 2) := dk_16 69 (dk_at dksX6_init_19 6 rfl rfl)
theorem dX6_init_461 : decode cX6_init 461 = .ok (.bipush 111, 2) := dk_16 111 (dk_at dksX6_init_19 8 rfl rfl)
theorem dX6_init_463 : decode cX6_init 463 = .ok (.bastore, 1) := dk_84 (dk_at dksX6_init_19 10 rfl rfl)
theorem dX6_init_464 : decode cX6_init 464 = .ok (.dup, 1) := dk_89 (dk_at dksX6_init_19 11 rfl rfl)
theorem dX6_init_465 : decode cX6_init 465 = .ok (.bipush 70, 2) := dk_16 70 (dk_at dksX6_init_19 12 rfl rfl)
theorem dX6_init_467 : decode cX6_init 467 = .ok (.bipush 119, 2) := dk_16 119 (dk_at dksX6_init_19 14 rfl rfl)
theorem dX6_init_469 : decode cX6_init 469 = .ok (.bastore, 1) := dk_84 (dk_at dksX6_init_19 16 rfl rfl)
theorem dX6_init_470 : decode cX6_init 470 = .ok (.dup, 1) := dk_89 (dk_at dksX6_init_19 17 rfl rfl)
theorem dX6_init_471 : decode cX6_init 471 = .ok (.bipush 71, 2) := dk_16 71 (dk_at dksX6_init_19 18 rfl rfl)
theorem dX6_init_473 : decode cX6_init 473 = .ok (.bipush 110, 2) := dk_16 110 (dk_at dksX6_init_19 20 rfl rfl)
theorem dX6_init_475 : decode cX6_init 475 = .ok (.bastore, 1) := dk_84 (dk_at dksX6_init_19 22 rfl rfl)
theorem dX6_init_476 : decode cX6_init 476 = .ok (.dup, 1) := dk_89 (dk_at dksX6_init_19 23 rfl rfl)
theorem dX6_init_477 : decode cX6_init 477 = .ok (.bipush 72, 2) := dk_16 72 (dk_at dksX6_init_20 0 rfl rfl)
theorem dX6_init_479 : decode cX6_init 479 = .ok (.bipush 32, 2) := dk_16 32 (dk_at dksX6_init_20 2 rfl rfl)
theorem dX6_init_481 : decode cX6_init 481 = .ok (.bastore, 1) := dk_84 (dk_at dksX6_init_20 4 rfl rfl)
theorem dX6_init_482 : decode cX6_init 482 = .ok (.dup, 1) := dk_89 (dk_at dksX6_init_20 5 rfl rfl)
theorem dX6_init_483 : decode cX6_init 483 = .ok (.bipush 73, 2) := dk_16 73 (dk_at dksX6_init_20 6 rfl rfl)
theorem dX6_init_485 : decode cX6_init 485 = .ok (.bipush 100, 2) := dk_16 100 (dk_at dksX6_init_20 8 rfl rfl)
theorem dX6_init_487 : decode cX6_init 487 = .ok (.bastore, 1) := dk_84 (dk_at dksX6_init_20 10 rfl rfl)
theorem dX6_init_488 : decode cX6_init 488 = .ok (.dup, 1) := dk_89 (dk_at dksX6_init_20 11 rfl rfl)
theorem dX6_init_489 : decode cX6_init 489 = .ok (.bipush 74, 2) := dk_16 74 (dk_at dksX6_init_20 12 rfl rfl)
theorem dX6_init_491 : decode cX6_init 491 = .ok (.bipush 97, 2) := dk_16 97 (dk_at dksX6_init_20 14 rfl rfl)
theorem dX6_init_493 : decode cX6_init 493 = .ok (.bastore, 1) := dk_84 (dk_at dksX6_init_20 16 rfl rfl)
theorem dX6_init_494 : decode cX6_init 494 = .ok (.dup, 1) := dk_89 (dk_at dksX6_init_20 17 rfl rfl)
theorem dX6_init_495 : decode cX6_init 495 = .ok (.bipush 75, 2) := dk_16 75 (dk_at dksX6_init_20 18 rfl rfl)
theorem dX6_init_497 : decode cX6_init 497 = .ok (.bipush 121, 2) := dk_16 121 (dk_at dksX6_init_20 20 rfl rfl)
theorem dX6_init_499 : decode cX6_init 499 = .ok (.bastore, 1) := dk_84 (dk_at dksX6_init_20 22 rfl rfl)
theorem dX6_init_500 : decode cX6_init 500 = .ok (.dup, 1) := dk_89 (dk_at dksX6_init_20 23 rfl rfl)
theorem dX6_init_501 : decode cX6_init 501 = .ok (.bipush 76, 2) := dk_16 76 (dk_at dksX6_init_21 0 rfl rfl)
theorem dX6_init_503 : decode cX6_init 503 = .ok (.bipush 32, 2) := dk_16 32 (dk_at dksX6_init_21 2 rfl rfl)
theorem dX6_init_505 : decode cX6_init 505 = .ok (.bastore, 1) := dk_84 (dk_at dksX6_init_21 4 rfl rfl)
theorem dX6_init_506 : decode cX6_init 506 = .ok (.dup, 1) := dk_89 (dk_at dksX6_init_21 5 rfl rfl)
theorem dX6_init_507 : decode cX6_init 507 = .ok (.bipush 77, 2) := dk_16 77 (dk_at dksX6_init_21 6 rfl rfl)
theorem dX6_init_509 : decode cX6_init 509 = .ok (.bipush 100, 2) := dk_16 100 (dk_at dksX6_init_21 8 rfl rfl)
theorem dX6_init_511 : decode cX6_init 511 = .ok (.bastore, 1) := dk_84 (dk_at dksX6_init_21 10 rfl rfl)
theorem dX6_init_512 : decode cX6_init 512 = .ok (.dup, 1) := dk_89 (dk_at dksX6_init_21 11 rfl rfl)
theorem dX6_init_513 : decode cX6_init 513 = .ok (.bipush 78, 2) := dk_16 78 (dk_at dksX6_init_21 12 rfl rfl)
theorem dX6_init_515 : decode cX6_init 515 = .ok (.bipush 111, 2) := dk_16 111 (dk_at dksX6_init_21 14 rfl rfl)
theorem dX6_init_517 : decode cX6_init 517 = .ok (.bastore, 1) := dk_84 (dk_at dksX6_init_21 16 rfl rfl)
theorem dX6_init_518 : decode cX6_init 518 = .ok (.dup, 1) := dk_89 (dk_at dksX6_init_21 17 rfl rfl)
theorem dX6_init_519 : decode cX6_init 519 = .ok (.bipush 79, 2) := dk_16 79 (dk_at dksX6_init_21 18 rfl rfl)
theorem dX6_init_521 : decode cX6_init 521 = .ok (.bipush 110, 2) := dk_16 110 (dk_at dksX6_init_21 20 rfl rfl)
theorem dX6_init_523 : decode cX6_init 523 = .ok (.bastore, 1) := dk_84 (dk_at dksX6_init_21 22 rfl rfl)
theorem dX6_init_524 : decode cX6_init 524 = .ok (.dup, 1) := dk_89 (dk_at dksX6_init_21 23 rfl rfl)
theorem dX6_init_525 : decode cX6_init 525 = .ok (.bipush 80, 2) := dk_16 80 (dk_at dksX6_init_22 0 rfl rfl)
theorem dX6_init_527 : decode cX6_init 527 = .ok (.bipush 101, 2) := dk_16 101 (dk_at dksX6_init_22 2 rfl rfl)
theorem dX6_init_529 : decode cX6_init 529 = .ok (.bastore, 1) := dk_84 (dk_at dksX6_init_22 4 rfl rfl)
theorem dX6_init_530 : decode cX6_init 530 = .ok (.dup, 1) := dk_89 (dk_at dksX6_init_22 5 rfl rfl)
theorem dX6_init_531 : decode cX6_init 531 = .ok (.bipush 81, 2) := dk_16 81 (dk_at dksX6_init_22 6 rfl rfl)
theorem dX6_init_533 : decode cX6_init 533 = .ok (.bipush 32, 2) := dk_16 32 (dk_at dksX6_init_22 8 rfl rfl)
theorem dX6_init_535 : decode cX6_init 535 = .ok (.bastore, 1) := dk_84 (dk_at dksX6_init_22 10 rfl rfl)
theorem dX6_init_536 : decode cX6_init 536 = .ok (.dup, 1) := dk_89 (dk_at dksX6_init_22 11 rfl rfl)
theorem dX6_init_537 : decode cX6_init 537 = .ok (.bipush 82, 2) := dk_16 82 (dk_at dksX6_init_22 12 rfl rfl)
theorem dX6_init_539 : decode cX6_init 539 = .ok (.bipush 108, 2) := dk_16 108 (dk_at dksX6_init_22 14 rfl rfl)
theorem dX6_init_541 : decode cX6_init 541 = .ok (.bastore, 1) := dk_84 (dk_at dksX6_init_22 16 rfl rfl)
theorem dX6_init_542 : decode cX6_init 542 = .ok (.dup, 1) := dk_89 (dk_at dksX6_init_22 17 rfl rfl)
theorem dX6_init_543 : decode cX6_init 543 = .ok (.bipush 83, 2) := dk_16 83 (dk_at dksX6_init_22 18 rfl rfl)
theorem dX6_init_545 : decode cX6_init 545 = .ok (.bipush 97, 2) := dk_16 97 (dk_at dksX6_init_22 20 rfl rfl)
theorem dX6_init_547 : decode cX6_init 547 = .ok (.bastore, 1) := dk_84 (dk_at dksX6_init_22 22 rfl rfl)
theorem dX6_init_548 : decode cX6_init 548 = .ok (.dup, 1) := dk_89 (dk_at dksX6_init_22 23 rfl rfl)
theorem dX6_init_549 : decode cX6_init 549 = .ok (.bipush 84, 2) := dk_16 84 (dk_at dksX6_init_23 0 rfl rfl)
theorem dX6_init_551 : decode cX6_init 551 = .ok (.bipush 116, 2) := dk_16 116 (dk_at dksX6_init_23 2 rfl rfl)
theorem dX6_init_553 : decode cX6_init 553 = .ok (.bastore, 1) := dk_84 (dk_at dksX6_init_23 4 rfl rfl)
theorem dX6_init_554 : decode cX6_init 554 = .ok (.dup, 1) := dk_89 (dk_at dksX6_init_23 5 rfl rfl)
theorem dX6_init_555 : decode cX6_init 555 = .ok (.bipush 85, 2) := dk_16 85 (dk_at dksX6_init_23 6 rfl rfl)
theorem dX6_init_557 : decode cX6_init 557 = .ok (.bipush 101, 2) := dk_16 101 (dk_at dksX6_init_23 8 rfl rfl)
theorem dX6_init_559 : decode cX6_init 559 = .ok (.bastore, 1) := dk_84 (dk_at dksX6_init_23 10 rfl rfl)
theorem dX6_init_560 : decode cX6_init 560 = .ok (.dup, 1) := dk_89 (dk_at dksX6_init_23 11 rfl rfl)
theorem dX6_init_561 : decode cX6_init 561 = .ok (.bipush 86, 2) := dk_16 86 (dk_at dksX6_init_23 12 rfl rfl)
theorem dX6_init_563 : decode cX6_init 563 = .ok (.bipush 115, 2) := dk_16 115 (dk_at dksX6_init_23 14 rfl rfl)
theorem dX6_init_565 : decode cX6_init 565 = .ok (.bastore, 1) := dk_84 (dk_at dksX6_init_23 16 rfl rfl)
theorem dX6_init_566 : decode cX6_init 566 = .ok (.dup, 1) := dk_89 (dk_at dksX6_init_23 17 rfl rfl)
theorem dX6_init_567 : decode cX6_init 567 = .ok (.bipush 87, 2) := dk_16 87 (dk_at dksX6_init_23 18 rfl rfl)
theorem dX6_init_569 : decode cX6_init 569 = .ok (.bipush 116, 2) := dk_16 116 (dk_at dksX6_init_23 20 rfl rfl)
theorem dX6_init_571 : decode cX6_init 571 = .ok (.bastore, 1) := dk_84 (dk_at dksX6_init_23 22 rfl rfl)
theorem dX6_init_572 : decode cX6_init 572 = .ok (.dup, 1) := dk_89 (dk_at dksX6_init_23 23 rfl rfl)
theorem dX6_init_573 : decode cX6_init 573 = .ok (.bipush 88, 2) := dk_16 88 (dk_at dksX6_init_24 0 rfl rfl)
theorem dX6_init_575 : decode cX6_init 575 = .ok (.bipush 32, 2) := dk_16 32 (dk_at dksX6_init_24 2 rfl rfl)
theorem dX6_init_577 : decode cX6_init 577 = .ok (.bastore, 1) := dk_84 (dk_at dksX6_init_24 4 rfl rfl)
theorem dX6_init_578 : decode cX6_init 578 = .ok (.dup, 1) := dk_89 (dk_at dksX6_init_24 5 rfl rfl)
theorem dX6_init_579 : decode cX6_init 579 = .ok (.bipush 89, 2) := dk_16 89 (dk_at dksX6_init_24 6 rfl rfl)
theorem dX6_init_581 : decode cX6_init 581 = .ok (.bipush 97, 2) := dk_16 97 (dk_at dksX6_init_24 8 rfl rfl)
theorem dX6_init_583 : decode cX6_init 583 = .ok (.bastore, 1) := dk_84 (dk_at dksX6_init_24 10 rfl rfl)
theorem dX6_init_584 : decode cX6_init 584 = .ok (.dup, 1) := dk_89 (dk_at dksX6_init_24 11 rfl rfl)
theorem dX6_init_585 : decode cX6_init 585 = .ok (.bipush 90, 2) := dk_16 90 (dk_at dksX6_init_24 12 rfl rfl)
theorem dX6_init_587 : decode cX6_init 587 = .ok (.bipush 108, 2) := dk_16 108 (dk_at dksX6_init_24 14 rfl rfl)
theorem dX6_init_589 : decode cX6_init 589 = .ok (.bastore, 1) := dk_84 (dk_at dksX6_init_24 16 rfl rfl)
theorem dX6_init_590 : decode cX6_init 590 = .ok (.dup, 1) := dk_89 (dk_at dksX6_init_24 17 rfl rfl)
theorem dX6_init_591 : decode cX6_init 591 = .ok (.bipush 91, 2) := dk_16 91 (dk_at dksX6_init_24 18 rfl rfl)
theorem dX6_init_593 : decode cX6_init 593 = .ok (.bipush 108, 2) := dk_16 108 (dk_at dksX6_init_24 20 rfl rfl)
theorem dX6_init_595 : decode cX6_init 595 = .ok (.bastore, 1) := dk_84 (dk_at dksX6_init_24 22 rfl rfl)
theorem dX6_init_596 : decode cX6_init 596 = .ok (.dup, 1) := dk_89 (dk_at dksX6_init_24 23 rfl rfl)
theorem dX6_init_597 : decode cX6_init 597 = .ok (.bipush 92, 2) := dk_16 92 (dk_at dksX6_init_25 0 rfl rfl)
theorem dX6_init_599 : decode cX6_init 599 = .ok (.bipush 32, 2) := dk_16 32 (dk_at dksX6_init_25 2 rfl rfl)
theorem dX6_init_601 : decode cX6_init 601 = .ok (.bastore, 1) := dk_84 (dk_at dksX6_init_25 4 rfl rfl)
theorem dX6_init_602 : decode cX6_init 602 = .ok (.dup, 1) := dk_89 (dk_at dksX6_init_25 5 rfl rfl)
theorem dX6_init_603 : decode cX6_init 603 = .ok (.bipush 93, 2) := dk_16 93 (dk_at dksX6_init_25 6 rfl rfl)
theorem dX6_init_605 : decode cX6_init 605 = .ok (.bipush 104, 2) := dk_16 104 (dk_at dksX6_init_25 8 rfl rfl)
theorem dX6_init_607 : decode cX6_init 607 = .ok (.bastore, 1) := dk_84 (dk_at dksX6_init_25 10 rfl rfl)
theorem dX6_init_608 : decode cX6_init 608 = .ok (.dup, 1) := dk_89 (dk_at dksX6_init_25 11 rfl rfl)
theorem dX6_init_609 : decode cX6_init 609 = .ok (.bipush 94, 2) := dk_16 94 (dk_at dksX6_init_25 12 rfl rfl)
theorem dX6_init_611 : decode cX6_init 611 = .ok (.bipush 97, 2) := dk_16 97 (dk_at dksX6_init_25 14 rfl rfl)
theorem dX6_init_613 : decode cX6_init 613 = .ok (.bastore, 1) := dk_84 (dk_at dksX6_init_25 16 rfl rfl)
theorem dX6_init_614 : decode cX6_init 614 = .ok (.dup, 1) := dk_89 (dk_at dksX6_init_25 17 rfl rfl)
theorem dX6_init_615 : decode cX6_init 615 = .ok (.bipush 95, 2) := dk_16 95 (dk_at dksX6_init_25 18 rfl rfl)
theorem dX6_init_617 : decode cX6_init 617 = .ok (.bipush 115, 2) := dk_16 115 (dk_at dksX6_init_25 20 rfl rfl)
theorem dX6_init_619 : decode cX6_init 619 = .ok (.bastore, 1) := dk_84 (dk_at dksX6_init_25 22 rfl rfl)
theorem dX6_init_620 : decode cX6_init 620 = .ok (.dup, 1) := dk_89 (dk_at dksX6_init_25 23 rfl rfl)
theorem dX6_init_621 : decode cX6_init 621 = .ok (.bipush 96, 2) := dk_16 96 (dk_at dksX6_init_26 0 rfl rfl)
theorem dX6_init_623 : decode cX6_init 623 = .ok (.bipush 32, 2) := dk_16 32 (dk_at dksX6_init_26 2 rfl rfl)
theorem dX6_init_625 : decode cX6_init 625 = .ok (.bastore, 1) := dk_84 (dk_at dksX6_init_26 4 rfl rfl)
theorem dX6_init_626 : decode cX6_init 626 = .ok (.dup, 1) := dk_89 (dk_at dksX6_init_26 5 rfl rfl)
theorem dX6_init_627 : decode cX6_init 627 = .ok (.bipush 97, 2) := dk_16 97 (dk_at dksX6_init_26 6 rfl rfl)
theorem dX6_init_629 : decode cX6_init 629 = .ok (.bipush 114, 2) := dk_16 114 (dk_at dksX6_init_26 8 rfl rfl)
theorem dX6_init_631 : decode cX6_init 631 = .ok (.bastore, 1) := dk_84 (dk_at dksX6_init_26 10 rfl rfl)
theorem dX6_init_632 : decode cX6_init 632 = .ok (.dup, 1) := dk_89 (dk_at dksX6_init_26 11 rfl rfl)
theorem dX6_init_633 : decode cX6_init 633 = .ok (.bipush 98, 2) := dk_16 98 (dk_at dksX6_init_26 12 rfl rfl)
theorem dX6_init_635 : decode cX6_init 635 = .ok (.bipush 101, 2) := dk_16 101 (dk_at dksX6_init_26 14 rfl rfl)
theorem dX6_init_637 : decode cX6_init 637 = .ok (.bastore, 1) := dk_84 (dk_at dksX6_init_26 16 rfl rfl)
theorem dX6_init_638 : decode cX6_init 638 = .ok (.dup, 1) := dk_89 (dk_at dksX6_init_26 17 rfl rfl)
theorem dX6_init_639 : decode cX6_init 639 = .ok (.bipush 99, 2) := dk_16 99 (dk_at dksX6_init_26 18 rfl rfl)
theorem dX6_init_641 : decode cX6_init 641 = .ok (.bipush 97, 2) := dk_16 97 (dk_at dksX6_init_26 20 rfl rfl)
theorem dX6_init_643 : decode cX6_init 643 = .ok (.bastore, 1) := dk_84 (dk_at dksX6_init_26 22 rfl rfl)
theorem dX6_init_644 : decode cX6_init 644 = .ok (.dup, 1) := dk_89 (dk_at dksX6_init_26 23 rfl rfl)
theorem dX6_init_645 : decode cX6_init 645 = .ok (.bipush 100, 2) := dk_16 100 (dk_at dksX6_init_27 0 rfl rfl)
theorem dX6_init_647 : decode cX6_init 647 = .ok (.bipush 100, 2) := dk_16 100 (dk_at dksX6_init_27 2 rfl rfl)
theorem dX6_init_649 : decode cX6_init 649 = .ok (.bastore, 1) := dk_84 (dk_at dksX6_init_27 4 rfl rfl)
theorem dX6_init_650 : decode cX6_init 650 = .ok (.dup, 1) := dk_89 (dk_at dksX6_init_27 5 rfl rfl)
theorem dX6_init_651 : decode cX6_init 651 = .ok (.bipush 101, 2) := dk_16 101 (dk_at dksX6_init_27 6 rfl rfl)
theorem dX6_init_653 : decode cX6_init 653 = .ok (.bipush 32, 2) := dk_16 32 (dk_at dksX6_init_27 8 rfl rfl)
theorem dX6_init_655 : decode cX6_init 655 = .ok (.bastore, 1) := dk_84 (dk_at dksX6_init_27 10 rfl rfl)
theorem dX6_init_656 : decode cX6_init 656 = .ok (.dup, 1) := dk_89 (dk_at dksX6_init_27 11 rfl rfl)
theorem dX6_init_657 : decode cX6_init 657 = .ok (.bipush 102, 2) := dk_16 102 (dk_at dksX6_init_27 12 rfl rfl)
theorem dX6_init_659 : decode cX6_init 659 = .ok (.bipush 108, 2) := dk_16 108 (dk_at dksX6_init_27 14 rfl rfl)
theorem dX6_init_661 : decode cX6_init 661 = .ok (.bastore, 1) := dk_84 (dk_at dksX6_init_27 16 rfl rfl)
theorem dX6_init_662 : decode cX6_init 662 = .ok (.dup, 1) := dk_89 (dk_at dksX6_init_27 17 rfl rfl)
theorem dX6_init_663 : decode cX6_init 663 = .ok (.bipush 103, 2) := dk_16 103 (dk_at dksX6_init_27 18 rfl rfl)
theorem dX6_init_665 : decode cX6_init 665 = .ok (.bipush 111, 2) := dk_16 111 (dk_at dksX6_init_27 20 rfl rfl)
theorem dX6_init_667 : decode cX6_init 667 = .ok (.bastore, 1) := dk_84 (dk_at dksX6_init_27 22 rfl rfl)
theorem dX6_init_668 : decode cX6_init 668 = .ok (.dup, 1) := dk_89 (dk_at dksX6_init_27 23 rfl rfl)
theorem dX6_init_669 : decode cX6_init 669 = .ok (.bipush 104, 2) := dk_16 104 (dk_at dksX6_init_28 0 rfl rfl)
theorem dX6_init_671 : decode cX6_init 671 = .ok (.bipush 115, 2) := dk_16 115 (dk_at dksX6_init_28 2 rfl rfl)
theorem dX6_init_673 : decode cX6_init 673 = .ok (.bastore, 1) := dk_84 (dk_at dksX6_init_28 4 rfl rfl)
theorem dX6_init_674 : decode cX6_init 674 = .ok (.dup, 1) := dk_89 (dk_at dksX6_init_28 5 rfl rfl)
theorem dX6_init_675 : decode cX6_init 675 = .ok (.bipush 105, 2) := dk_16 105 (dk_at dksX6_init_28 6 rfl rfl)
theorem dX6_init_677 : decode cX6_init 677 = .ok (.bipush 101, 2) := dk_16 101 (dk_at dksX6_init_28 8 rfl rfl)
theorem dX6_init_679 : decode cX6_init 679 = .ok (.bastore, 1) := dk_84 (dk_at dksX6_init_28 10 rfl rfl)
theorem dX6_init_680 : decode cX6_init 680 = .ok (.dup, 1) := dk_89 (dk_at dksX6_init_28 11 rfl rfl)
theorem dX6_init_681 : decode cX6_init 681 = .ok (.bipush 106, 2) := dk_16 106 (dk_at dksX6_init_28 12 rfl rfl)
theorem dX6_init_683 : decode cX6_init 683 = .ok (.bipush 32, 2) := dk_16 32 (dk_at dksX6_init_28 14 rfl rfl)
theorem dX6_init_685 : decode cX6_init 685 = .ok (.bastore, 1) := dk_84 (dk_at dksX6_init_28 16 rfl rfl)
theorem dX6_init_686 : decode cX6_init 686 = .ok (.dup, 1) := dk_89 (dk_at dksX6_init_28 17 rfl rfl)
theorem dX6_init_687 : decode cX6_init 687 = .ok (.bipush 107, 2) := dk_16 107 (dk_at dksX6_init_28 18 rfl rfl)
theorem dX6_init_689 : decode cX6_init 689 = .ok (.bipush 99, 2) := dk_16 99 (dk_at dksX6_init_28 20 rfl rfl)
theorem dX6_init_691 : decode cX6_init 691 = .ok (.bastore, 1) := dk_84 (dk_at dksX6_init_28 22 rfl rfl)
theorem dX6_init_692 : decode cX6_init 692 = .ok (.dup, 1) := dk_89 (dk_at dksX6_init_28 23 rfl rfl)
theorem dX6_init_693 : decode cX6_init 693 = .ok (.bipush 108, 2) := dk_16 108 (dk_at dksX6_init_29 0 rfl rfl)
theorem dX6_init_695 : decode cX6_init 695 = .ok (.bipush 117, 2) := dk_16 117 (dk_at dksX6_init_29 2 rfl rfl)
theorem dX6_init_697 : decode cX6_init 697 = .ok (.bastore, 1) := dk_84 (dk_at dksX6_init_29 4 rfl rfl)
theorem dX6_init_698 : decode cX6_init 698 = .ok (.dup, 1) := dk_89 (dk_at dksX6_init_29 5 rfl rfl)
theorem dX6_init_699 : decode cX6_init 699 = .ok (.bipush 109, 2) := dk_16 109 (dk_at dksX6_init_29 6 rfl rfl)
theorem dX6_init_701 : decode cX6_init 701 = .ok (.bipush 116, 2) := dk_16 116 (dk_at dksX6_init_29 8 rfl rfl)
theorem dX6_init_703 : decode cX6_init 703 = .ok (.bastore, 1) := dk_84 (dk_at dksX6_init_29 10 rfl rfl)
theorem dX6_init_704 : decode cX6_init 704 = .ok (.dup, 1) := dk_89 (dk_at dksX6_init_29 11 rfl rfl)
theorem dX6_init_705 : decode cX6_init 705 = .ok (.bipush 110, 2) := dk_16 110 (dk_at dksX6_init_29 12 rfl rfl)
theorem dX6_init_707 : decode cX6_init 707 = .ok (.bipush 32, 2) := dk_16 32 (dk_at dksX6_init_29 14 rfl rfl)
theorem dX6_init_709 : decode cX6_init 709 = .ok (.bastore, 1) := dk_84 (dk_at dksX6_init_29 16 rfl rfl)
theorem dX6_init_710 : decode cX6_init 710 = .ok (.dup, 1) := dk_89 (dk_at dksX6_init_29 17 rfl rfl)
theorem dX6_init_711 : decode cX6_init 711 = .ok (.bipush 111, 2) := dk_16 111 (dk_at dksX6_init_29 18 rfl rfl)
theorem dX6_init_713 : decode cX6_init 713 = .ok (.bipush 112, 2) := dk_16 112 (dk_at dksX6_init_29 20 rfl rfl)
theorem dX6_init_715 : decode cX6_init 715 = .ok (.bastore, 1) := dk_84 (dk_at dksX6_init_29 22 rfl rfl)
theorem dX6_init_716 : decode cX6_init 716 = .ok (.dup, 1) := dk_89 (dk_at dksX6_init_29 23 rfl rfl)
theorem dX6_init_717 : decode cX6_init 717 = .ok (.bipush 112, 2) := dk_16 112 (dk_at dksX6_init_30 0 rfl rfl)
theorem dX6_init_719 : decode cX6_init 719 = .ok (.bipush 97, 2) := dk_16 97 (dk_at dksX6_init_30 2 rfl rfl)
theorem dX6_init_721 : decode cX6_init 721 = .ok (.bastore, 1) := dk_84 (dk_at dksX6_init_30 4 rfl rfl)
theorem dX6_init_722 : decode cX6_init 722 = .ok (.dup, 1) := dk_89 (dk_at dksX6_init_30 5 rfl rfl)
theorem dX6_init_723 : decode cX6_init 723 = .ok (.bipush 113, 2) := dk_16 113 (dk_at dksX6_init_30 6 rfl rfl)
theorem dX6_init_725 : decode cX6_init 725 = .ok (.bipush 115, 2) := dk_16 115 (dk_at dksX6_init_30 8 rfl rfl)
theorem dX6_init_727 : decode cX6_init 727 = .ok (.bastore, 1) := dk_84 (dk_at dksX6_init_30 10 rfl rfl)
theorem dX6_init_728 : decode cX6_init 728 = .ok (.dup, 1) := dk_89 (dk_at dksX6_init_30 11 rfl rfl)
theorem dX6_init_729 : decode cX6_init 729 = .ok (.bipush 114, 2) := dk_16 114 (dk_at dksX6_init_30 12 rfl rfl)
theorem dX6_init_731 : decode cX6_init 731 = .ok (.bipush 115, 2) := dk_16 115 (dk_at dksX6_init_30 14 rfl rfl)
theorem dX6_init_733 : decode cX6_init 733 = .ok (.bastore, 1) := dk_84 (dk_at dksX6_init_30 16 rfl rfl)
theorem dX6_init_734 : decode cX6_init 734 = .ok (.dup, 1) := dk_89 (dk_at dksX6_init_30 17 rfl rfl)
theorem dX6_init_735 : decode cX6_init 735 = .ok (.bipush 115, 2) := dk_16 115 (dk_at dksX6_init_30 18 rfl rfl)
theorem dX6_init_737 : decode cX6_init 737 = .ok (.bipush 32, 2) := dk_16 32 (dk_at dksX6_init_30 20 rfl rfl)
theorem dX6_init_739 : decode cX6_init 739 = .ok (.bastore, 1) := dk_84 (dk_at dksX6_init_30 22 rfl rfl)
theorem dX6_init_740 : decode cX6_init 740 = .ok (.dup, 1) := dk_89 (dk_at dksX6_init_30 23 rfl rfl)
theorem dX6_init_741 : decode cX6_init 741 = .ok (.bipush 116, 2) := dk_16 116 (dk_at dksX6_init_31 0 rfl rfl)
theorem dX6_init_743 : decode cX6_init 743 = .ok (.bipush 116, 2) := dk_16 116 (dk_at dksX6_init_31 2 rfl rfl)
theorem dX6_init_745 : decode cX6_init 745 = .ok (.bastore, 1) := dk_84 (dk_at dksX6_init_31 4 rfl rfl)
theorem dX6_init_746 : decode cX6_init 746 = .ok (.dup, 1) := dk_89 (dk_at dksX6_init_31 5 rfl rfl)
theorem dX6_init_747 : decode cX6_init 747 = .ok (.bipush 117, 2) := dk_16 117 (dk_at dksX6_init_31 6 rfl rfl)
theorem dX6_init_749 : decode cX6_init 749 = .ok (.bipush 105, 2) := dk_16 105 (dk_at dksX6_init_31 8 rfl rfl)
theorem dX6_init_751 : decode cX6_init 751 = .ok (.bastore, 1) := dk_84 (dk_at dksX6_init_31 10 rfl rfl)
theorem dX6_init_752 : decode cX6_init 752 = .ok (.dup, 1) := dk_89 (dk_at dksX6_init_31 11 rfl rfl)
theorem dX6_init_753 : decode cX6_init 753 = .ok (.bipush 118, 2) := dk_16 118 (dk_at dksX6_init_31 12 rfl rfl)
theorem dX6_init_755 : decode cX6_init 755 = .ok (.bipush 109, 2) := dk_16 109 (dk_at dksX6_init_31 14 rfl rfl)
theorem dX6_init_757 : decode cX6_init 757 = .ok (.bastore, 1) := dk_84 (dk_at dksX6_init_31 16 rfl rfl)
theorem dX6_init_758 : decode cX6_init 758 = .ok (.dup, 1) := dk_89 (dk_at dksX6_init_31 17 rfl rfl)
theorem dX6_init_759 : decode cX6_init 759 = .ok (.bipush 119, 2) := dk_16 119 (dk_at dksX6_init_31 18 rfl rfl)
theorem dX6_init_761 : decode cX6_init 761 = .ok (.bipush 101, 2) := dk_16 101 (dk_at dksX6_init_31 20 rfl rfl)
theorem dX6_init_763 : decode cX6_init 763 = .ok (.bastore, 1) := dk_84 (dk_at dksX6_init_31 22 rfl rfl)
theorem dX6_init_764 : decode cX6_init 764 = .ok (.dup, 1) := dk_89 (dk_at dksX6_init_31 23 rfl rfl)
theorem dX6_init_765 : decode cX6_init 765 = .ok (.bipush 120, 2) := dk_16 120 (dk_at dksX6_init_32 0 rfl rfl)
theorem dX6_init_767 : decode cX6_init 767 = .ok (.bipush 115, 2) := dk_16 115 (dk_at dksX6_init_32 2 rfl rfl)
theorem dX6_init_769 : decode cX6_init 769 = .ok (.bastore, 1) := dk_84 (dk_at dksX6_init_32 4 rfl rfl)
theorem dX6_init_770 : decode cX6_init 770 = .ok (.dup, 1) := dk_89 (dk_at dksX6_init_32 5 rfl rfl)
theorem dX6_init_771 : decode cX6_init 771 = .ok (.bipush 121, 2) := dk_16 121 (dk_at dksX6_init_32 6 rfl rfl)
theorem dX6_init_773 : decode cX6_init 773 = .ok (.bipush 32, 2) := dk_16 32 (dk_at dksX6_init_32 8 rfl rfl)
theorem dX6_init_775 : decode cX6_init 775 = .ok (.bastore, 1) := dk_84 (dk_at dksX6_init_32 10 rfl rfl)
theorem dX6_init_776 : decode cX6_init 776 = .ok (.putfield 37, 3) := dk_181 0 37 (dk_at dksX6_init_32 11 rfl rfl)
theorem dX6_init_779 : decode cX6_init 779 = .ok (.aload_n 0, 1) := dk_42 (dk_at dksX6_init_32 14 rfl rfl)
theorem dX6_init_780 : decode cX6_init 780 = .ok (.sipush 400, 3) := dk_17 1 144 (dk_at dksX6_init_32 15 rfl rfl)
theorem dX6_init_783 : decode cX6_init 783 = .ok (.newarray .byte, 2) := dk_188_8 (dk_at dksX6_init_32 18 rfl rfl)
theorem dX6_init_785 : decode cX6_init 785 = .ok (.putfield 41, 3) := dk_181 0 41 (dk_at dksX6_init_32 20 rfl rfl)
theorem dX6_init_788 : decode cX6_init 788 = .ok (.aload_n 0, 1) := dk_42 (dk_at dksX6_init_32 23 rfl rfl)
theorem dX6_init_789 : decode cX6_init 789 = .ok (.iconst 5, 1) := dk_8 (dk_at dksX6_init_33 0 rfl rfl)
theorem dX6_init_790 : decode cX6_init 790 = .ok (.newarray .int, 2) := dk_188_10 (dk_at dksX6_init_33 1 rfl rfl)
theorem dX6_init_792 : decode cX6_init 792 = .ok (.putfield 44, 3) := dk_181 0 44 (dk_at dksX6_init_33 3 rfl rfl)
theorem dX6_init_795 : decode cX6_init 795 = .ok (.aload_n 0, 1) := dk_42 (dk_at dksX6_init_33 6 rfl rfl)
theorem dX6_init_796 : decode cX6_init 796 = .ok (.iconst (-1), 1) := dk_2 (dk_at dksX6_init_33 7 rfl rfl)
theorem dX6_init_797 : decode cX6_init 797 = .ok (.putfield 47, 3) := dk_181 0 47 (dk_at dksX6_init_33 8 rfl rfl)
theorem dX6_init_800 : decode cX6_init 800 = .ok (.aload_n 0, 1) := dk_42 (dk_at dksX6_init_33 11 rfl rfl)
theorem dX6_init_801 : decode cX6_init 801 = .ok (.sipush 401, 3) := dk_17 1 145 (dk_at dksX6_init_33 12 rfl rfl)
theorem dX6_init_804 : decode cX6_init 804 = .ok (.newarray .int, 2) := dk_188_10 (dk_at dksX6_init_33 15 rfl rfl)
theorem dX6_init_806 : decode cX6_init 806 = .ok (.putfield 50, 3) := dk_181 0 50 (dk_at dksX6_init_33 17 rfl rfl)
theorem dX6_init_809 : decode cX6_init 809 = .ok (.aload_n 0, 1) := dk_42 (dk_at dksX6_init_33 20 rfl rfl)
theorem dX6_init_810 : decode cX6_init 810 = .ok (.sipush 401, 3) := dk_17 1 145 (dk_at dksX6_init_33 21 rfl rfl)
theorem dX6_init_813 : decode cX6_init 813 = .ok (.newarray .int, 2) := dk_188_10 (dk_at dksX6_init_34 0 rfl rfl)
theorem dX6_init_815 : decode cX6_init 815 = .ok (.putfield 53, 3) := dk_181 0 53 (dk_at dksX6_init_34 2 rfl rfl)
theorem dX6_init_818 : decode cX6_init 818 = .ok (.aload_n 0, 1) := dk_42 (dk_at dksX6_init_34 5 rfl rfl)
theorem dX6_init_819 : decode cX6_init 819 = .ok (.sipush 401, 3) := dk_17 1 145 (dk_at dksX6_init_34 6 rfl rfl)
theorem dX6_init_822 : decode cX6_init 822 = .ok (.newarray .int, 2) := dk_188_10 (dk_at dksX6_init_34 9 rfl rfl)
theorem dX6_init_824 : decode cX6_init 824 = .ok (.putfield 56, 3) := dk_181 0 56 (dk_at dksX6_init_34 11 rfl rfl)
theorem dX6_init_827 : decode cX6_init 827 = .ok (.aload_n 0, 1) := dk_42 (dk_at dksX6_init_34 14 rfl rfl)
theorem dX6_init_828 : decode cX6_init 828 = .ok (.bipush 9, 2) := dk_16 9 (dk_at dksX6_init_34 15 rfl rfl)
theorem dX6_init_830 : decode cX6_init 830 = .ok (.newarray .int, 2) := dk_188_10 (dk_at dksX6_init_34 17 rfl rfl)
theorem dX6_init_832 : decode cX6_init 832 = .ok (.putfield 59, 3) := dk_181 0 59 (dk_at dksX6_init_34 19 rfl rfl)
theorem dX6_init_835 : decode cX6_init 835 = .ok (.aload_n 0, 1) := dk_42 (dk_at dksX6_init_34 22 rfl rfl)
theorem dX6_init_836 : decode cX6_init 836 = .ok (.iconst 4, 1) := dk_7 (dk_at dksX6_init_34 23 rfl rfl)
theorem dX6_init_837 : decode cX6_init 837 = .ok (.newarray .int, 2) := dk_188_10 (dk_at dksX6_init_35 0 rfl rfl)
theorem dX6_init_839 : decode cX6_init 839 = .ok (.putfield 62, 3) := dk_181 0 62 (dk_at dksX6_init_35 2 rfl rfl)
theorem dX6_init_842 : decode cX6_init 842 = .ok (.aload_n 0, 1) := dk_42 (dk_at dksX6_init_35 5 rfl rfl)
theorem dX6_init_843 : decode cX6_init 843 = .ok (.bipush 112, 2) := dk_16 112 (dk_at dksX6_init_35 6 rfl rfl)
theorem dX6_init_845 : decode cX6_init 845 = .ok (.newarray .int, 2) := dk_188_10 (dk_at dksX6_init_35 8 rfl rfl)
theorem dX6_init_847 : decode cX6_init 847 = .ok (.putfield 65, 3) := dk_181 0 65 (dk_at dksX6_init_35 10 rfl rfl)
theorem dX6_init_850 : decode cX6_init 850 = .ok (.aload_n 0, 1) := dk_42 (dk_at dksX6_init_35 13 rfl rfl)
theorem dX6_init_851 : decode cX6_init 851 = .ok (.bipush 112, 2) := dk_16 112 (dk_at dksX6_init_35 14 rfl rfl)
theorem dX6_init_853 : decode cX6_init 853 = .ok (.newarray .int, 2) := dk_188_10 (dk_at dksX6_init_35 16 rfl rfl)
theorem dX6_init_855 : decode cX6_init 855 = .ok (.putfield 68, 3) := dk_181 0 68 (dk_at dksX6_init_35 18 rfl rfl)
theorem dX6_init_858 : decode cX6_init 858 = .ok (.aload_n 0, 1) := dk_42 (dk_at dksX6_init_35 21 rfl rfl)
theorem dX6_init_859 : decode cX6_init 859 = .ok (.sipush 256, 3) := dk_17 1 0 (dk_at dksX6_init_36 0 rfl rfl)
theorem dX6_init_862 : decode cX6_init 862 = .ok (.newarray .int, 2) := dk_188_10 (dk_at dksX6_init_36 3 rfl rfl)
theorem dX6_init_864 : decode cX6_init 864 = .ok (.putfield 71, 3) := dk_181 0 71 (dk_at dksX6_init_36 5 rfl rfl)
theorem dX6_init_867 : decode cX6_init 867 = .ok (.aload_n 0, 1) := dk_42 (dk_at dksX6_init_36 8 rfl rfl)
theorem dX6_init_868 : decode cX6_init 868 = .ok (.bipush 8, 2) := dk_16 8 (dk_at dksX6_init_36 9 rfl rfl)
theorem dX6_init_870 : decode cX6_init 870 = .ok (.newarray .int, 2) := dk_188_10 (dk_at dksX6_init_36 11 rfl rfl)
theorem dX6_init_872 : decode cX6_init 872 = .ok (.putfield 74, 3) := dk_181 0 74 (dk_at dksX6_init_36 13 rfl rfl)
theorem dX6_init_875 : decode cX6_init 875 = .ok (.aload_n 0, 1) := dk_42 (dk_at dksX6_init_36 16 rfl rfl)
theorem dX6_init_876 : decode cX6_init 876 = .ok (.sipush 2048, 3) := dk_17 8 0 (dk_at dksX6_init_36 17 rfl rfl)
theorem dX6_init_879 : decode cX6_init 879 = .ok (.newarray .boolean, 2) := dk_188_4 (dk_at dksX6_init_36 20 rfl rfl)
theorem dX6_init_881 : decode cX6_init 881 = .ok (.putfield 77, 3) := dk_181 0 77 (dk_at dksX6_init_37 0 rfl rfl)
theorem dX6_init_884 : decode cX6_init 884 = .ok (.aload_n 0, 1) := dk_42 (dk_at dksX6_init_37 3 rfl rfl)
theorem dX6_init_885 : decode cX6_init 885 = .ok (.bipush 8, 2) := dk_16 8 (dk_at dksX6_init_37 4 rfl rfl)
theorem dX6_init_887 : decode cX6_init 887 = .ok (.newarray .int, 2) := dk_188_10 (dk_at dksX6_init_37 6 rfl rfl)
theorem dX6_init_889 : decode cX6_init 889 = .ok (.putfield 80, 3) := dk_181 0 80 (dk_at dksX6_init_37 8 rfl rfl)
theorem dX6_init_892 : decode cX6_init 892 = .ok (.aload_n 0, 1) := dk_42 (dk_at dksX6_init_37 11 rfl rfl)
theorem dX6_init_893 : decode cX6_init 893 = .ok (.bipush 8, 2) := dk_16 8 (dk_at dksX6_init_37 12 rfl rfl)
theorem dX6_init_895 : decode cX6_init 895 = .ok (.newarray .int, 2) := dk_188_10 (dk_at dksX6_init_37 14 rfl rfl)
theorem dX6_init_897 : decode cX6_init 897 = .ok (.putfield 83, 3) := dk_181 0 83 (dk_at dksX6_init_37 16 rfl rfl)
theorem dX6_init_900 : decode cX6_init 900 = .ok (.aload_n 0, 1) := dk_42 (dk_at dksX6_init_37 19 rfl rfl)
theorem dX6_init_901 : decode cX6_init 901 = .ok (.bipush 32, 2) := dk_16 32 (dk_at dksX6_init_37 20 rfl rfl)
theorem dX6_init_903 : decode cX6_init 903 = .ok (.newarray .int, 2) := dk_188_10 (dk_at dksX6_init_37 22 rfl rfl)
theorem dX6_init_905 : decode cX6_init 905 = .ok (.putfield 86, 3) := dk_181 0 86 (dk_at dksX6_init_38 0 rfl rfl)
theorem dX6_init_908 : decode cX6_init 908 = .ok (.aload_n 0, 1) := dk_42 (dk_at dksX6_init_38 3 rfl rfl)
theorem dX6_init_909 : decode cX6_init 909 = .ok (.bipush 21, 2) := dk_16 21 (dk_at dksX6_init_38 4 rfl rfl)
theorem dX6_init_911 : decode cX6_init 911 = .ok (.newarray .long, 2) := dk_188_11 (dk_at dksX6_init_38 6 rfl rfl)
theorem dX6_init_913 : decode cX6_init 913 = .ok (.putfield 89, 3) := dk_181 0 89 (dk_at dksX6_init_38 8 rfl rfl)
theorem dX6_init_916 : decode cX6_init 916 = .ok (.aload_n 0, 1) := dk_42 (dk_at dksX6_init_38 11 rfl rfl)
theorem dX6_init_917 : decode cX6_init 917 = .ok (.iconst (-1), 1) := dk_2 (dk_at dksX6_init_38 12 rfl rfl)
theorem dX6_init_918 : decode cX6_init 918 = .ok (.putfield 93, 3) := dk_181 0 93 (dk_at dksX6_init_38 13 rfl rfl)
theorem dX6_init_921 : decode cX6_init 921 = .ok (.aload_n 0, 1) := dk_42 (dk_at dksX6_init_38 16 rfl rfl)
theorem dX6_init_922 : decode cX6_init 922 = .ok (.bipush 6, 2) := dk_16 6 (dk_at dksX6_init_38 17 rfl rfl)
theorem dX6_init_924 : decode cX6_init 924 = .ok (.newarray .int, 2) := dk_188_10 (dk_at dksX6_init_38 19 rfl rfl)
theorem dX6_init_926 : decode cX6_init 926 = .ok (.putfield 96, 3) := dk_181 0 96 (dk_at dksX6_init_38 21 rfl rfl)
theorem dX6_init_929 : decode cX6_init 929 = .ok (.aload_n 0, 1) := dk_42 (dk_at dksX6_init_39 0 rfl rfl)
theorem dX6_init_930 : decode cX6_init 930 = .ok (.iconst (-1), 1) := dk_2 (dk_at dksX6_init_39 1 rfl rfl)
theorem dX6_init_931 : decode cX6_init 931 = .ok (.putfield 99, 3) := dk_181 0 99 (dk_at dksX6_init_39 2 rfl rfl)
theorem dX6_init_934 : decode cX6_init 934 = .ok (.aload_n 0, 1) := dk_42 (dk_at dksX6_init_39 5 rfl rfl)
theorem dX6_init_935 : decode cX6_init 935 = .ok (.getfield 24, 3) := dk_180 0 24 (dk_at dksX6_init_39 6 rfl rfl)
theorem dX6_init_938 : decode cX6_init 938 = .ok (.bipush 46, 2) := dk_16 46 (dk_at dksX6_init_39 9 rfl rfl)
theorem dX6_init_940 : decode cX6_init 940 = .ok (.iconst 1, 1) := dk_4 (dk_at dksX6_init_39 11 rfl rfl)
theorem dX6_init_941 : decode cX6_init 941 = .ok (.iastore, 1) := dk_79 (dk_at dksX6_init_39 12 rfl rfl)
theorem dX6_init_942 : decode cX6_init 942 = .ok (.aload_n 0, 1) := dk_42 (dk_at dksX6_init_39 13 rfl rfl)
theorem dX6_init_943 : decode cX6_init 943 = .ok (.getfield 24, 3) := dk_180 0 24 (dk_at dksX6_init_39 14 rfl rfl)
theorem dX6_init_946 : decode cX6_init 946 = .ok (.bipush 52, 2) := dk_16 52 (dk_at dksX6_init_39 17 rfl rfl)
theorem dX6_init_948 : decode cX6_init 948 = .ok (.iconst (-1), 1) := dk_2 (dk_at dksX6_init_39 19 rfl rfl)
theorem dX6_init_949 : decode cX6_init 949 = .ok (.iastore, 1) := dk_79 (dk_at dksX6_init_39 20 rfl rfl)
theorem dX6_init_950 : decode cX6_init 950 = .ok (.return_, 1) := dk_177 (dk_at dksX6_init_39 21 rfl rfl)
abbrev cX6_image : ByteArray := prog_24_method_12_code
def yX6_image : MethodName := ⟨RX6, "image", "(I)I"⟩
def dkwX6_image_2 : List UInt8 := [42, 180, 0, 30, 27, 4, 84, 42, 3, 182, 0, 14, 172]
abbrev dktX6_image_2 : List UInt8 := dkwX6_image_2 ++ []
def dkwX6_image_1 : List UInt8 := [42, 180, 0, 27, 17, 22, 28, 27, 104, 28, 96, 42, 180, 0, 24, 28, 46, 79, 132, 2, 1, 167, 255, 228]
abbrev dktX6_image_1 : List UInt8 := dkwX6_image_1 ++ dktX6_image_2
def dkwX6_image_0 : List UInt8 := [27, 3, 4, 184, 0, 102, 154, 0, 9, 42, 2, 182, 0, 106, 172, 3, 61, 28, 17, 22, 28, 162, 0, 27]
abbrev dktX6_image_0 : List UInt8 := dkwX6_image_0 ++ dktX6_image_1
theorem dksX6_image_0 : cX6_image.data.toList.drop 0 = dktX6_image_0 := by decide +kernel
theorem dksX6_image_1 : cX6_image.data.toList.drop 24 = dktX6_image_1 := dk_seg dksX6_image_0 24 rfl rfl
theorem dksX6_image_2 : cX6_image.data.toList.drop 48 = dktX6_image_2 := dk_seg dksX6_image_1 24 rfl rfl
theorem dX6_image_0 : decode cX6_image 0 = .ok (.iload_n 1, 1) := dk_27 (dk_at dksX6_image_0 0 rfl rfl)
theorem dX6_image_1 : decode cX6_image 1 = .ok (.iconst 0, 1) := dk_3 (dk_at dksX6_image_0 1 rfl rfl)
theorem dX6_image_2 : decode cX6_image 2 = .ok (.iconst 1, 1) := dk_4 (dk_at dksX6_image_0 2 rfl rfl)
theorem dX6_image_3 : decode cX6_image 3 = .ok (.invokestatic 102, 3) := dk_184 0 102 (dk_at dksX6_image_0 3 rfl rfl)
theorem dX6_image_6 : decode cX6_image 6 = .ok (.ifCond .ne 9, 3) := dk_154 0 9 (dk_at dksX6_image_0 6 rfl rfl)
theorem dX6_image_9 : decode cX6_image 9 = .ok (.aload_n 0, 1) := dk_42 (dk_at dksX6_image_0 9 rfl rfl)
theorem dX6_image_10 : decode cX6_image 10 = .ok (.iconst (-1), 1) := dk_2 (dk_at dksX6_image_0 10 rfl rfl)
theorem dX6_image_11 : decode cX6_image 11 = .ok (.invokevirtual 106, 3) := dk_182 0 106 (dk_at dksX6_image_0 11 rfl rfl)
theorem dX6_image_14 : decode cX6_image 14 = .ok (.ireturn, 1) := dk_172 (dk_at dksX6_image_0 14 rfl rfl)
theorem dX6_image_15 : decode cX6_image 15 = .ok (.iconst 0, 1) := dk_3 (dk_at dksX6_image_0 15 rfl rfl)
theorem dX6_image_16 : decode cX6_image 16 = .ok (.istore_n 2, 1) := dk_61 (dk_at dksX6_image_0 16 rfl rfl)
theorem dX6_image_17 : decode cX6_image 17 = .ok (.iload_n 2, 1) := dk_28 (dk_at dksX6_image_0 17 rfl rfl)
theorem dX6_image_18 : decode cX6_image 18 = .ok (.sipush 5660, 3) := dk_17 22 28 (dk_at dksX6_image_0 18 rfl rfl)
theorem dX6_image_21 : decode cX6_image 21 = .ok (.if_icmp .ge 27, 3) := dk_162 0 27 (dk_at dksX6_image_0 21 rfl rfl)
theorem dX6_image_24 : decode cX6_image 24 = .ok (.aload_n 0, 1) := dk_42 (dk_at dksX6_image_1 0 rfl rfl)
theorem dX6_image_25 : decode cX6_image 25 = .ok (.getfield 27, 3) := dk_180 0 27 (dk_at dksX6_image_1 1 rfl rfl)
theorem dX6_image_28 : decode cX6_image 28 = .ok (.sipush 5660, 3) := dk_17 22 28 (dk_at dksX6_image_1 4 rfl rfl)
theorem dX6_image_31 : decode cX6_image 31 = .ok (.iload_n 1, 1) := dk_27 (dk_at dksX6_image_1 7 rfl rfl)
theorem dX6_image_32 : decode cX6_image 32 = .ok (.imul, 1) := dk_104 (dk_at dksX6_image_1 8 rfl rfl)
theorem dX6_image_33 : decode cX6_image 33 = .ok (.iload_n 2, 1) := dk_28 (dk_at dksX6_image_1 9 rfl rfl)
theorem dX6_image_34 : decode cX6_image 34 = .ok (.iadd, 1) := dk_96 (dk_at dksX6_image_1 10 rfl rfl)
theorem dX6_image_35 : decode cX6_image 35 = .ok (.aload_n 0, 1) := dk_42 (dk_at dksX6_image_1 11 rfl rfl)
theorem dX6_image_36 : decode cX6_image 36 = .ok (.getfield 24, 3) := dk_180 0 24 (dk_at dksX6_image_1 12 rfl rfl)
theorem dX6_image_39 : decode cX6_image 39 = .ok (.iload_n 2, 1) := dk_28 (dk_at dksX6_image_1 15 rfl rfl)
theorem dX6_image_40 : decode cX6_image 40 = .ok (.iaload, 1) := dk_46 (dk_at dksX6_image_1 16 rfl rfl)
theorem dX6_image_41 : decode cX6_image 41 = .ok (.iastore, 1) := dk_79 (dk_at dksX6_image_1 17 rfl rfl)
theorem dX6_image_42 : decode cX6_image 42 = .ok (.iinc 2 1, 3) := dk_132 2 1 (dk_at dksX6_image_1 18 rfl rfl)
theorem dX6_image_45 : decode cX6_image 45 = .ok (.goto (-28), 3) := dk_167 255 228 (dk_at dksX6_image_1 21 rfl rfl)
theorem dX6_image_48 : decode cX6_image 48 = .ok (.aload_n 0, 1) := dk_42 (dk_at dksX6_image_2 0 rfl rfl)
theorem dX6_image_49 : decode cX6_image 49 = .ok (.getfield 30, 3) := dk_180 0 30 (dk_at dksX6_image_2 1 rfl rfl)
theorem dX6_image_52 : decode cX6_image 52 = .ok (.iload_n 1, 1) := dk_27 (dk_at dksX6_image_2 4 rfl rfl)
theorem dX6_image_53 : decode cX6_image 53 = .ok (.iconst 1, 1) := dk_4 (dk_at dksX6_image_2 5 rfl rfl)
theorem dX6_image_54 : decode cX6_image 54 = .ok (.bastore, 1) := dk_84 (dk_at dksX6_image_2 6 rfl rfl)
theorem dX6_image_55 : decode cX6_image 55 = .ok (.aload_n 0, 1) := dk_42 (dk_at dksX6_image_2 7 rfl rfl)
theorem dX6_image_56 : decode cX6_image 56 = .ok (.iconst 0, 1) := dk_3 (dk_at dksX6_image_2 8 rfl rfl)
theorem dX6_image_57 : decode cX6_image 57 = .ok (.invokevirtual 14, 3) := dk_182 0 14 (dk_at dksX6_image_2 9 rfl rfl)
theorem dX6_image_60 : decode cX6_image 60 = .ok (.ireturn, 1) := dk_172 (dk_at dksX6_image_2 12 rfl rfl)
abbrev cX6_lies : ByteArray := prog_24_method_1_code
def yX6_lies : MethodName := ⟨RX6, "lies", "(III)Z"⟩
def dkwX6_lies_0 : List UInt8 := [26, 27, 161, 0, 12, 26, 28, 163, 0, 7, 4, 167, 0, 4, 3, 172]
abbrev dktX6_lies_0 : List UInt8 := dkwX6_lies_0 ++ []
theorem dksX6_lies_0 : cX6_lies.data.toList.drop 0 = dktX6_lies_0 := by decide +kernel
theorem dX6_lies_0 : decode cX6_lies 0 = .ok (.iload_n 0, 1) := dk_26 (dk_at dksX6_lies_0 0 rfl rfl)
theorem dX6_lies_1 : decode cX6_lies 1 = .ok (.iload_n 1, 1) := dk_27 (dk_at dksX6_lies_0 1 rfl rfl)
theorem dX6_lies_2 : decode cX6_lies 2 = .ok (.if_icmp .lt 12, 3) := dk_161 0 12 (dk_at dksX6_lies_0 2 rfl rfl)
theorem dX6_lies_5 : decode cX6_lies 5 = .ok (.iload_n 0, 1) := dk_26 (dk_at dksX6_lies_0 5 rfl rfl)
theorem dX6_lies_6 : decode cX6_lies 6 = .ok (.iload_n 2, 1) := dk_28 (dk_at dksX6_lies_0 6 rfl rfl)
theorem dX6_lies_7 : decode cX6_lies 7 = .ok (.if_icmp .gt 7, 3) := dk_163 0 7 (dk_at dksX6_lies_0 7 rfl rfl)
theorem dX6_lies_10 : decode cX6_lies 10 = .ok (.iconst 1, 1) := dk_4 (dk_at dksX6_lies_0 10 rfl rfl)
theorem dX6_lies_11 : decode cX6_lies 11 = .ok (.goto 4, 3) := dk_167 0 4 (dk_at dksX6_lies_0 11 rfl rfl)
theorem dX6_lies_14 : decode cX6_lies 14 = .ok (.iconst 0, 1) := dk_3 (dk_at dksX6_lies_0 14 rfl rfl)
theorem dX6_lies_15 : decode cX6_lies 15 = .ok (.ireturn, 1) := dk_172 (dk_at dksX6_lies_0 15 rfl rfl)
abbrev cX6_refuses : ByteArray := prog_24_method_4_code
def yX6_refuses : MethodName := ⟨RX6, "refuses", "(I)I"⟩
def dkwX6_refuses_0 : List UInt8 := [42, 27, 181, 0, 3, 42, 180, 0, 7, 27, 116, 92, 46, 4, 96, 79, 27, 172]
abbrev dktX6_refuses_0 : List UInt8 := dkwX6_refuses_0 ++ []
theorem dksX6_refuses_0 : cX6_refuses.data.toList.drop 0 = dktX6_refuses_0 := by decide +kernel
theorem dX6_refuses_0 : decode cX6_refuses 0 = .ok (.aload_n 0, 1) := dk_42 (dk_at dksX6_refuses_0 0 rfl rfl)
theorem dX6_refuses_1 : decode cX6_refuses 1 = .ok (.iload_n 1, 1) := dk_27 (dk_at dksX6_refuses_0 1 rfl rfl)
theorem dX6_refuses_2 : decode cX6_refuses 2 = .ok (.putfield 3, 3) := dk_181 0 3 (dk_at dksX6_refuses_0 2 rfl rfl)
theorem dX6_refuses_5 : decode cX6_refuses 5 = .ok (.aload_n 0, 1) := dk_42 (dk_at dksX6_refuses_0 5 rfl rfl)
theorem dX6_refuses_6 : decode cX6_refuses 6 = .ok (.getfield 7, 3) := dk_180 0 7 (dk_at dksX6_refuses_0 6 rfl rfl)
theorem dX6_refuses_9 : decode cX6_refuses 9 = .ok (.iload_n 1, 1) := dk_27 (dk_at dksX6_refuses_0 9 rfl rfl)
theorem dX6_refuses_10 : decode cX6_refuses 10 = .ok (.ineg, 1) := dk_116 (dk_at dksX6_refuses_0 10 rfl rfl)
theorem dX6_refuses_11 : decode cX6_refuses 11 = .ok (.dup2, 1) := dk_92 (dk_at dksX6_refuses_0 11 rfl rfl)
theorem dX6_refuses_12 : decode cX6_refuses 12 = .ok (.iaload, 1) := dk_46 (dk_at dksX6_refuses_0 12 rfl rfl)
theorem dX6_refuses_13 : decode cX6_refuses 13 = .ok (.iconst 1, 1) := dk_4 (dk_at dksX6_refuses_0 13 rfl rfl)
theorem dX6_refuses_14 : decode cX6_refuses 14 = .ok (.iadd, 1) := dk_96 (dk_at dksX6_refuses_0 14 rfl rfl)
theorem dX6_refuses_15 : decode cX6_refuses 15 = .ok (.iastore, 1) := dk_79 (dk_at dksX6_refuses_0 15 rfl rfl)
theorem dX6_refuses_16 : decode cX6_refuses 16 = .ok (.iload_n 1, 1) := dk_27 (dk_at dksX6_refuses_0 16 rfl rfl)
theorem dX6_refuses_17 : decode cX6_refuses 17 = .ok (.ireturn, 1) := dk_172 (dk_at dksX6_refuses_0 17 rfl rfl)
abbrev cX6_good : ByteArray := prog_24_method_5_code
def yX6_good : MethodName := ⟨RX6, "good", "(I)I"⟩
def dkwX6_good_0 : List UInt8 := [42, 3, 181, 0, 3, 27, 172]
abbrev dktX6_good_0 : List UInt8 := dkwX6_good_0 ++ []
theorem dksX6_good_0 : cX6_good.data.toList.drop 0 = dktX6_good_0 := by decide +kernel
theorem dX6_good_0 : decode cX6_good 0 = .ok (.aload_n 0, 1) := dk_42 (dk_at dksX6_good_0 0 rfl rfl)
theorem dX6_good_1 : decode cX6_good 1 = .ok (.iconst 0, 1) := dk_3 (dk_at dksX6_good_0 1 rfl rfl)
theorem dX6_good_2 : decode cX6_good 2 = .ok (.putfield 3, 3) := dk_181 0 3 (dk_at dksX6_good_0 2 rfl rfl)
theorem dX6_good_5 : decode cX6_good 5 = .ok (.iload_n 1, 1) := dk_27 (dk_at dksX6_good_0 5 rfl rfl)
theorem dX6_good_6 : decode cX6_good 6 = .ok (.ireturn, 1) := dk_172 (dk_at dksX6_good_0 6 rfl rfl)
abbrev cX6_back : ByteArray := prog_24_method_13_code
def yX6_back : MethodName := ⟨RX6, "back", "(I)I"⟩
def dkwX6_back_2 : List UInt8 := [180, 0, 27, 17, 22, 28, 27, 104, 28, 96, 46, 79, 132, 2, 1, 167, 255, 228, 42, 3, 182, 0, 109, 172]
abbrev dktX6_back_2 : List UInt8 := dkwX6_back_2 ++ []
def dkwX6_back_1 : List UInt8 := [42, 16, 254, 182, 0, 106, 172, 3, 61, 28, 17, 22, 28, 162, 0, 27, 42, 180, 0, 24, 28, 42]
abbrev dktX6_back_1 : List UInt8 := dkwX6_back_1 ++ dktX6_back_2
def dkwX6_back_0 : List UInt8 := [27, 3, 4, 184, 0, 102, 154, 0, 9, 42, 2, 182, 0, 106, 172, 42, 180, 0, 30, 27, 51, 154, 0, 10]
abbrev dktX6_back_0 : List UInt8 := dkwX6_back_0 ++ dktX6_back_1
theorem dksX6_back_0 : cX6_back.data.toList.drop 0 = dktX6_back_0 := by decide +kernel
theorem dksX6_back_1 : cX6_back.data.toList.drop 24 = dktX6_back_1 := dk_seg dksX6_back_0 24 rfl rfl
theorem dksX6_back_2 : cX6_back.data.toList.drop 46 = dktX6_back_2 := dk_seg dksX6_back_1 22 rfl rfl
theorem dX6_back_0 : decode cX6_back 0 = .ok (.iload_n 1, 1) := dk_27 (dk_at dksX6_back_0 0 rfl rfl)
theorem dX6_back_1 : decode cX6_back 1 = .ok (.iconst 0, 1) := dk_3 (dk_at dksX6_back_0 1 rfl rfl)
theorem dX6_back_2 : decode cX6_back 2 = .ok (.iconst 1, 1) := dk_4 (dk_at dksX6_back_0 2 rfl rfl)
theorem dX6_back_3 : decode cX6_back 3 = .ok (.invokestatic 102, 3) := dk_184 0 102 (dk_at dksX6_back_0 3 rfl rfl)
theorem dX6_back_6 : decode cX6_back 6 = .ok (.ifCond .ne 9, 3) := dk_154 0 9 (dk_at dksX6_back_0 6 rfl rfl)
theorem dX6_back_9 : decode cX6_back 9 = .ok (.aload_n 0, 1) := dk_42 (dk_at dksX6_back_0 9 rfl rfl)
theorem dX6_back_10 : decode cX6_back 10 = .ok (.iconst (-1), 1) := dk_2 (dk_at dksX6_back_0 10 rfl rfl)
theorem dX6_back_11 : decode cX6_back 11 = .ok (.invokevirtual 106, 3) := dk_182 0 106 (dk_at dksX6_back_0 11 rfl rfl)
theorem dX6_back_14 : decode cX6_back 14 = .ok (.ireturn, 1) := dk_172 (dk_at dksX6_back_0 14 rfl rfl)
theorem dX6_back_15 : decode cX6_back 15 = .ok (.aload_n 0, 1) := dk_42 (dk_at dksX6_back_0 15 rfl rfl)
theorem dX6_back_16 : decode cX6_back 16 = .ok (.getfield 30, 3) := dk_180 0 30 (dk_at dksX6_back_0 16 rfl rfl)
theorem dX6_back_19 : decode cX6_back 19 = .ok (.iload_n 1, 1) := dk_27 (dk_at dksX6_back_0 19 rfl rfl)
theorem dX6_back_20 : decode cX6_back 20 = .ok (.baload, 1) := dk_51 (dk_at dksX6_back_0 20 rfl rfl)
theorem dX6_back_21 : decode cX6_back 21 = .ok (.ifCond .ne 10, 3) := dk_154 0 10 (dk_at dksX6_back_0 21 rfl rfl)
theorem dX6_back_24 : decode cX6_back 24 = .ok (.aload_n 0, 1) := dk_42 (dk_at dksX6_back_1 0 rfl rfl)
theorem dX6_back_25 : decode cX6_back 25 = .ok (.bipush (-2), 2) := dk_16 254 (dk_at dksX6_back_1 1 rfl rfl)
theorem dX6_back_27 : decode cX6_back 27 = .ok (.invokevirtual 106, 3) := dk_182 0 106 (dk_at dksX6_back_1 3 rfl rfl)
theorem dX6_back_30 : decode cX6_back 30 = .ok (.ireturn, 1) := dk_172 (dk_at dksX6_back_1 6 rfl rfl)
theorem dX6_back_31 : decode cX6_back 31 = .ok (.iconst 0, 1) := dk_3 (dk_at dksX6_back_1 7 rfl rfl)
theorem dX6_back_32 : decode cX6_back 32 = .ok (.istore_n 2, 1) := dk_61 (dk_at dksX6_back_1 8 rfl rfl)
theorem dX6_back_33 : decode cX6_back 33 = .ok (.iload_n 2, 1) := dk_28 (dk_at dksX6_back_1 9 rfl rfl)
theorem dX6_back_34 : decode cX6_back 34 = .ok (.sipush 5660, 3) := dk_17 22 28 (dk_at dksX6_back_1 10 rfl rfl)
theorem dX6_back_37 : decode cX6_back 37 = .ok (.if_icmp .ge 27, 3) := dk_162 0 27 (dk_at dksX6_back_1 13 rfl rfl)
theorem dX6_back_40 : decode cX6_back 40 = .ok (.aload_n 0, 1) := dk_42 (dk_at dksX6_back_1 16 rfl rfl)
theorem dX6_back_41 : decode cX6_back 41 = .ok (.getfield 24, 3) := dk_180 0 24 (dk_at dksX6_back_1 17 rfl rfl)
theorem dX6_back_44 : decode cX6_back 44 = .ok (.iload_n 2, 1) := dk_28 (dk_at dksX6_back_1 20 rfl rfl)
theorem dX6_back_45 : decode cX6_back 45 = .ok (.aload_n 0, 1) := dk_42 (dk_at dksX6_back_1 21 rfl rfl)
theorem dX6_back_46 : decode cX6_back 46 = .ok (.getfield 27, 3) := dk_180 0 27 (dk_at dksX6_back_2 0 rfl rfl)
theorem dX6_back_49 : decode cX6_back 49 = .ok (.sipush 5660, 3) := dk_17 22 28 (dk_at dksX6_back_2 3 rfl rfl)
theorem dX6_back_52 : decode cX6_back 52 = .ok (.iload_n 1, 1) := dk_27 (dk_at dksX6_back_2 6 rfl rfl)
theorem dX6_back_53 : decode cX6_back 53 = .ok (.imul, 1) := dk_104 (dk_at dksX6_back_2 7 rfl rfl)
theorem dX6_back_54 : decode cX6_back 54 = .ok (.iload_n 2, 1) := dk_28 (dk_at dksX6_back_2 8 rfl rfl)
theorem dX6_back_55 : decode cX6_back 55 = .ok (.iadd, 1) := dk_96 (dk_at dksX6_back_2 9 rfl rfl)
theorem dX6_back_56 : decode cX6_back 56 = .ok (.iaload, 1) := dk_46 (dk_at dksX6_back_2 10 rfl rfl)
theorem dX6_back_57 : decode cX6_back 57 = .ok (.iastore, 1) := dk_79 (dk_at dksX6_back_2 11 rfl rfl)
theorem dX6_back_58 : decode cX6_back 58 = .ok (.iinc 2 1, 3) := dk_132 2 1 (dk_at dksX6_back_2 12 rfl rfl)
theorem dX6_back_61 : decode cX6_back 61 = .ok (.goto (-28), 3) := dk_167 255 228 (dk_at dksX6_back_2 15 rfl rfl)
theorem dX6_back_64 : decode cX6_back 64 = .ok (.aload_n 0, 1) := dk_42 (dk_at dksX6_back_2 18 rfl rfl)
theorem dX6_back_65 : decode cX6_back 65 = .ok (.iconst 0, 1) := dk_3 (dk_at dksX6_back_2 19 rfl rfl)
theorem dX6_back_66 : decode cX6_back 66 = .ok (.invokevirtual 109, 3) := dk_182 0 109 (dk_at dksX6_back_2 20 rfl rfl)
theorem dX6_back_69 : decode cX6_back 69 = .ok (.ireturn, 1) := dk_172 (dk_at dksX6_back_2 23 rfl rfl)
abbrev cX6_settled : ByteArray := prog_24_method_6_code
def yX6_settled : MethodName := ⟨RX6, "settled", "(I)I"⟩
def dkwX6_settled_0 : List UInt8 := [42, 3, 181, 0, 11, 42, 27, 182, 0, 14, 172]
abbrev dktX6_settled_0 : List UInt8 := dkwX6_settled_0 ++ []
theorem dksX6_settled_0 : cX6_settled.data.toList.drop 0 = dktX6_settled_0 := by decide +kernel
theorem dX6_settled_0 : decode cX6_settled 0 = .ok (.aload_n 0, 1) := dk_42 (dk_at dksX6_settled_0 0 rfl rfl)
theorem dX6_settled_1 : decode cX6_settled 1 = .ok (.iconst 0, 1) := dk_3 (dk_at dksX6_settled_0 1 rfl rfl)
theorem dX6_settled_2 : decode cX6_settled 2 = .ok (.putfield 11, 3) := dk_181 0 11 (dk_at dksX6_settled_0 2 rfl rfl)
theorem dX6_settled_5 : decode cX6_settled 5 = .ok (.aload_n 0, 1) := dk_42 (dk_at dksX6_settled_0 5 rfl rfl)
theorem dX6_settled_6 : decode cX6_settled 6 = .ok (.iload_n 1, 1) := dk_27 (dk_at dksX6_settled_0 6 rfl rfl)
theorem dX6_settled_7 : decode cX6_settled 7 = .ok (.invokevirtual 14, 3) := dk_182 0 14 (dk_at dksX6_settled_0 7 rfl rfl)
theorem dX6_settled_10 : decode cX6_settled 10 = .ok (.ireturn, 1) := dk_172 (dk_at dksX6_settled_0 10 rfl rfl)
abbrev cX6_book : ByteArray := prog_24_method_21_code
def yX6_book : MethodName := ⟨RX6, "book", "(II)I"⟩
def dkwX6_book_1 : List UInt8 := [16, 251, 182, 0, 106, 172, 42, 27, 28, 3, 182, 0, 126, 42, 42, 182, 0, 112, 4, 100, 182, 0, 109, 172]
abbrev dktX6_book_1 : List UInt8 := dkwX6_book_1 ++ []
def dkwX6_book_0 : List UInt8 := [27, 28, 184, 0, 123, 154, 0, 9, 42, 2, 182, 0, 106, 172, 42, 182, 0, 112, 16, 8, 160, 0, 10, 42]
abbrev dktX6_book_0 : List UInt8 := dkwX6_book_0 ++ dktX6_book_1
theorem dksX6_book_0 : cX6_book.data.toList.drop 0 = dktX6_book_0 := by decide +kernel
theorem dksX6_book_1 : cX6_book.data.toList.drop 24 = dktX6_book_1 := dk_seg dksX6_book_0 24 rfl rfl
theorem dX6_book_0 : decode cX6_book 0 = .ok (.iload_n 1, 1) := dk_27 (dk_at dksX6_book_0 0 rfl rfl)
theorem dX6_book_1 : decode cX6_book 1 = .ok (.iload_n 2, 1) := dk_28 (dk_at dksX6_book_0 1 rfl rfl)
theorem dX6_book_2 : decode cX6_book 2 = .ok (.invokestatic 123, 3) := dk_184 0 123 (dk_at dksX6_book_0 2 rfl rfl)
theorem dX6_book_5 : decode cX6_book 5 = .ok (.ifCond .ne 9, 3) := dk_154 0 9 (dk_at dksX6_book_0 5 rfl rfl)
theorem dX6_book_8 : decode cX6_book 8 = .ok (.aload_n 0, 1) := dk_42 (dk_at dksX6_book_0 8 rfl rfl)
theorem dX6_book_9 : decode cX6_book 9 = .ok (.iconst (-1), 1) := dk_2 (dk_at dksX6_book_0 9 rfl rfl)
theorem dX6_book_10 : decode cX6_book 10 = .ok (.invokevirtual 106, 3) := dk_182 0 106 (dk_at dksX6_book_0 10 rfl rfl)
theorem dX6_book_13 : decode cX6_book 13 = .ok (.ireturn, 1) := dk_172 (dk_at dksX6_book_0 13 rfl rfl)
theorem dX6_book_14 : decode cX6_book 14 = .ok (.aload_n 0, 1) := dk_42 (dk_at dksX6_book_0 14 rfl rfl)
theorem dX6_book_15 : decode cX6_book 15 = .ok (.invokevirtual 112, 3) := dk_182 0 112 (dk_at dksX6_book_0 15 rfl rfl)
theorem dX6_book_18 : decode cX6_book 18 = .ok (.bipush 8, 2) := dk_16 8 (dk_at dksX6_book_0 18 rfl rfl)
theorem dX6_book_20 : decode cX6_book 20 = .ok (.if_icmp .ne 10, 3) := dk_160 0 10 (dk_at dksX6_book_0 20 rfl rfl)
theorem dX6_book_23 : decode cX6_book 23 = .ok (.aload_n 0, 1) := dk_42 (dk_at dksX6_book_0 23 rfl rfl)
theorem dX6_book_24 : decode cX6_book 24 = .ok (.bipush (-5), 2) := dk_16 251 (dk_at dksX6_book_1 0 rfl rfl)
theorem dX6_book_26 : decode cX6_book 26 = .ok (.invokevirtual 106, 3) := dk_182 0 106 (dk_at dksX6_book_1 2 rfl rfl)
theorem dX6_book_29 : decode cX6_book 29 = .ok (.ireturn, 1) := dk_172 (dk_at dksX6_book_1 5 rfl rfl)
theorem dX6_book_30 : decode cX6_book 30 = .ok (.aload_n 0, 1) := dk_42 (dk_at dksX6_book_1 6 rfl rfl)
theorem dX6_book_31 : decode cX6_book 31 = .ok (.iload_n 1, 1) := dk_27 (dk_at dksX6_book_1 7 rfl rfl)
theorem dX6_book_32 : decode cX6_book 32 = .ok (.iload_n 2, 1) := dk_28 (dk_at dksX6_book_1 8 rfl rfl)
theorem dX6_book_33 : decode cX6_book 33 = .ok (.iconst 0, 1) := dk_3 (dk_at dksX6_book_1 9 rfl rfl)
theorem dX6_book_34 : decode cX6_book 34 = .ok (.invokevirtual 126, 3) := dk_182 0 126 (dk_at dksX6_book_1 10 rfl rfl)
theorem dX6_book_37 : decode cX6_book 37 = .ok (.aload_n 0, 1) := dk_42 (dk_at dksX6_book_1 13 rfl rfl)
theorem dX6_book_38 : decode cX6_book 38 = .ok (.aload_n 0, 1) := dk_42 (dk_at dksX6_book_1 14 rfl rfl)
theorem dX6_book_39 : decode cX6_book 39 = .ok (.invokevirtual 112, 3) := dk_182 0 112 (dk_at dksX6_book_1 15 rfl rfl)
theorem dX6_book_42 : decode cX6_book 42 = .ok (.iconst 1, 1) := dk_4 (dk_at dksX6_book_1 18 rfl rfl)
theorem dX6_book_43 : decode cX6_book 43 = .ok (.isub, 1) := dk_100 (dk_at dksX6_book_1 19 rfl rfl)
theorem dX6_book_44 : decode cX6_book 44 = .ok (.invokevirtual 109, 3) := dk_182 0 109 (dk_at dksX6_book_1 20 rfl rfl)
theorem dX6_book_47 : decode cX6_book 47 = .ok (.ireturn, 1) := dk_172 (dk_at dksX6_book_1 23 rfl rfl)
abbrev cX6_canBook : ByteArray := prog_24_method_19_code
def yX6_canBook : MethodName := ⟨RX6, "canBook", "(II)Z"⟩
def dkwX6_canBook_1 : List UInt8 := [172]
abbrev dktX6_canBook_1 : List UInt8 := dkwX6_canBook_1 ++ []
def dkwX6_canBook_0 : List UInt8 := [26, 4, 16, 9, 184, 0, 102, 153, 0, 16, 27, 3, 6, 184, 0, 102, 153, 0, 7, 4, 167, 0, 4, 3]
abbrev dktX6_canBook_0 : List UInt8 := dkwX6_canBook_0 ++ dktX6_canBook_1
theorem dksX6_canBook_0 : cX6_canBook.data.toList.drop 0 = dktX6_canBook_0 := by decide +kernel
theorem dksX6_canBook_1 : cX6_canBook.data.toList.drop 24 = dktX6_canBook_1 := dk_seg dksX6_canBook_0 24 rfl rfl
theorem dX6_canBook_0 : decode cX6_canBook 0 = .ok (.iload_n 0, 1) := dk_26 (dk_at dksX6_canBook_0 0 rfl rfl)
theorem dX6_canBook_1 : decode cX6_canBook 1 = .ok (.iconst 1, 1) := dk_4 (dk_at dksX6_canBook_0 1 rfl rfl)
theorem dX6_canBook_2 : decode cX6_canBook 2 = .ok (.bipush 9, 2) := dk_16 9 (dk_at dksX6_canBook_0 2 rfl rfl)
theorem dX6_canBook_4 : decode cX6_canBook 4 = .ok (.invokestatic 102, 3) := dk_184 0 102 (dk_at dksX6_canBook_0 4 rfl rfl)
theorem dX6_canBook_7 : decode cX6_canBook 7 = .ok (.ifCond .eq 16, 3) := dk_153 0 16 (dk_at dksX6_canBook_0 7 rfl rfl)
theorem dX6_canBook_10 : decode cX6_canBook 10 = .ok (.iload_n 1, 1) := dk_27 (dk_at dksX6_canBook_0 10 rfl rfl)
theorem dX6_canBook_11 : decode cX6_canBook 11 = .ok (.iconst 0, 1) := dk_3 (dk_at dksX6_canBook_0 11 rfl rfl)
theorem dX6_canBook_12 : decode cX6_canBook 12 = .ok (.iconst 3, 1) := dk_6 (dk_at dksX6_canBook_0 12 rfl rfl)
theorem dX6_canBook_13 : decode cX6_canBook 13 = .ok (.invokestatic 102, 3) := dk_184 0 102 (dk_at dksX6_canBook_0 13 rfl rfl)
theorem dX6_canBook_16 : decode cX6_canBook 16 = .ok (.ifCond .eq 7, 3) := dk_153 0 7 (dk_at dksX6_canBook_0 16 rfl rfl)
theorem dX6_canBook_19 : decode cX6_canBook 19 = .ok (.iconst 1, 1) := dk_4 (dk_at dksX6_canBook_0 19 rfl rfl)
theorem dX6_canBook_20 : decode cX6_canBook 20 = .ok (.goto 4, 3) := dk_167 0 4 (dk_at dksX6_canBook_0 20 rfl rfl)
theorem dX6_canBook_23 : decode cX6_canBook 23 = .ok (.iconst 0, 1) := dk_3 (dk_at dksX6_canBook_0 23 rfl rfl)
theorem dX6_canBook_24 : decode cX6_canBook 24 = .ok (.ireturn, 1) := dk_172 (dk_at dksX6_canBook_1 0 rfl rfl)
abbrev cX6_bookMany : ByteArray := prog_24_method_14_code
def yX6_bookMany : MethodName := ⟨RX6, "bookMany", "()I"⟩
def dkwX6_bookMany_0 : List UInt8 := [42, 180, 0, 24, 16, 48, 46, 172]
abbrev dktX6_bookMany_0 : List UInt8 := dkwX6_bookMany_0 ++ []
theorem dksX6_bookMany_0 : cX6_bookMany.data.toList.drop 0 = dktX6_bookMany_0 := by decide +kernel
theorem dX6_bookMany_0 : decode cX6_bookMany 0 = .ok (.aload_n 0, 1) := dk_42 (dk_at dksX6_bookMany_0 0 rfl rfl)
theorem dX6_bookMany_1 : decode cX6_bookMany 1 = .ok (.getfield 24, 3) := dk_180 0 24 (dk_at dksX6_bookMany_0 1 rfl rfl)
theorem dX6_bookMany_4 : decode cX6_bookMany 4 = .ok (.bipush 48, 2) := dk_16 48 (dk_at dksX6_bookMany_0 4 rfl rfl)
theorem dX6_bookMany_6 : decode cX6_bookMany 6 = .ok (.iaload, 1) := dk_46 (dk_at dksX6_bookMany_0 6 rfl rfl)
theorem dX6_bookMany_7 : decode cX6_bookMany 7 = .ok (.ireturn, 1) := dk_172 (dk_at dksX6_bookMany_0 7 rfl rfl)
abbrev cX6_adds : ByteArray := prog_24_method_20_code
def yX6_adds : MethodName := ⟨RX6, "adds", "(III)V"⟩
def dkwX6_adds_2 : List UInt8 := [21, 4, 120, 2, 130, 126, 79, 42, 180, 0, 24, 16, 48, 92, 46, 4, 96, 79, 177]
abbrev dktX6_adds_2 : List UInt8 := dkwX6_adds_2 ++ []
def dkwX6_adds_1 : List UInt8 := [21, 4, 96, 28, 79, 42, 180, 0, 24, 16, 22, 21, 4, 96, 29, 79, 42, 180, 0, 24, 3, 92, 46, 4]
abbrev dktX6_adds_1 : List UInt8 := dkwX6_adds_1 ++ dktX6_adds_2
def dkwX6_adds_0 : List UInt8 := [42, 182, 0, 112, 54, 4, 42, 180, 0, 24, 16, 6, 21, 4, 96, 27, 79, 42, 180, 0, 24, 16, 14]
abbrev dktX6_adds_0 : List UInt8 := dkwX6_adds_0 ++ dktX6_adds_1
theorem dksX6_adds_0 : cX6_adds.data.toList.drop 0 = dktX6_adds_0 := by decide +kernel
theorem dksX6_adds_1 : cX6_adds.data.toList.drop 23 = dktX6_adds_1 := dk_seg dksX6_adds_0 23 rfl rfl
theorem dksX6_adds_2 : cX6_adds.data.toList.drop 47 = dktX6_adds_2 := dk_seg dksX6_adds_1 24 rfl rfl
theorem dX6_adds_0 : decode cX6_adds 0 = .ok (.aload_n 0, 1) := dk_42 (dk_at dksX6_adds_0 0 rfl rfl)
theorem dX6_adds_1 : decode cX6_adds 1 = .ok (.invokevirtual 112, 3) := dk_182 0 112 (dk_at dksX6_adds_0 1 rfl rfl)
theorem dX6_adds_4 : decode cX6_adds 4 = .ok (.istore 4, 2) := dk_54 4 (dk_at dksX6_adds_0 4 rfl rfl)
theorem dX6_adds_6 : decode cX6_adds 6 = .ok (.aload_n 0, 1) := dk_42 (dk_at dksX6_adds_0 6 rfl rfl)
theorem dX6_adds_7 : decode cX6_adds 7 = .ok (.getfield 24, 3) := dk_180 0 24 (dk_at dksX6_adds_0 7 rfl rfl)
theorem dX6_adds_10 : decode cX6_adds 10 = .ok (.bipush 6, 2) := dk_16 6 (dk_at dksX6_adds_0 10 rfl rfl)
theorem dX6_adds_12 : decode cX6_adds 12 = .ok (.iload 4, 2) := dk_21 4 (dk_at dksX6_adds_0 12 rfl rfl)
theorem dX6_adds_14 : decode cX6_adds 14 = .ok (.iadd, 1) := dk_96 (dk_at dksX6_adds_0 14 rfl rfl)
theorem dX6_adds_15 : decode cX6_adds 15 = .ok (.iload_n 1, 1) := dk_27 (dk_at dksX6_adds_0 15 rfl rfl)
theorem dX6_adds_16 : decode cX6_adds 16 = .ok (.iastore, 1) := dk_79 (dk_at dksX6_adds_0 16 rfl rfl)
theorem dX6_adds_17 : decode cX6_adds 17 = .ok (.aload_n 0, 1) := dk_42 (dk_at dksX6_adds_0 17 rfl rfl)
theorem dX6_adds_18 : decode cX6_adds 18 = .ok (.getfield 24, 3) := dk_180 0 24 (dk_at dksX6_adds_0 18 rfl rfl)
theorem dX6_adds_21 : decode cX6_adds 21 = .ok (.bipush 14, 2) := dk_16 14 (dk_at dksX6_adds_0 21 rfl rfl)
theorem dX6_adds_23 : decode cX6_adds 23 = .ok (.iload 4, 2) := dk_21 4 (dk_at dksX6_adds_1 0 rfl rfl)
theorem dX6_adds_25 : decode cX6_adds 25 = .ok (.iadd, 1) := dk_96 (dk_at dksX6_adds_1 2 rfl rfl)
theorem dX6_adds_26 : decode cX6_adds 26 = .ok (.iload_n 2, 1) := dk_28 (dk_at dksX6_adds_1 3 rfl rfl)
theorem dX6_adds_27 : decode cX6_adds 27 = .ok (.iastore, 1) := dk_79 (dk_at dksX6_adds_1 4 rfl rfl)
theorem dX6_adds_28 : decode cX6_adds 28 = .ok (.aload_n 0, 1) := dk_42 (dk_at dksX6_adds_1 5 rfl rfl)
theorem dX6_adds_29 : decode cX6_adds 29 = .ok (.getfield 24, 3) := dk_180 0 24 (dk_at dksX6_adds_1 6 rfl rfl)
theorem dX6_adds_32 : decode cX6_adds 32 = .ok (.bipush 22, 2) := dk_16 22 (dk_at dksX6_adds_1 9 rfl rfl)
theorem dX6_adds_34 : decode cX6_adds 34 = .ok (.iload 4, 2) := dk_21 4 (dk_at dksX6_adds_1 11 rfl rfl)
theorem dX6_adds_36 : decode cX6_adds 36 = .ok (.iadd, 1) := dk_96 (dk_at dksX6_adds_1 13 rfl rfl)
theorem dX6_adds_37 : decode cX6_adds 37 = .ok (.iload_n 3, 1) := dk_29 (dk_at dksX6_adds_1 14 rfl rfl)
theorem dX6_adds_38 : decode cX6_adds 38 = .ok (.iastore, 1) := dk_79 (dk_at dksX6_adds_1 15 rfl rfl)
theorem dX6_adds_39 : decode cX6_adds 39 = .ok (.aload_n 0, 1) := dk_42 (dk_at dksX6_adds_1 16 rfl rfl)
theorem dX6_adds_40 : decode cX6_adds 40 = .ok (.getfield 24, 3) := dk_180 0 24 (dk_at dksX6_adds_1 17 rfl rfl)
theorem dX6_adds_43 : decode cX6_adds 43 = .ok (.iconst 0, 1) := dk_3 (dk_at dksX6_adds_1 20 rfl rfl)
theorem dX6_adds_44 : decode cX6_adds 44 = .ok (.dup2, 1) := dk_92 (dk_at dksX6_adds_1 21 rfl rfl)
theorem dX6_adds_45 : decode cX6_adds 45 = .ok (.iaload, 1) := dk_46 (dk_at dksX6_adds_1 22 rfl rfl)
theorem dX6_adds_46 : decode cX6_adds 46 = .ok (.iconst 1, 1) := dk_4 (dk_at dksX6_adds_1 23 rfl rfl)
theorem dX6_adds_47 : decode cX6_adds 47 = .ok (.iload 4, 2) := dk_21 4 (dk_at dksX6_adds_2 0 rfl rfl)
theorem dX6_adds_49 : decode cX6_adds 49 = .ok (.ishl, 1) := dk_120 (dk_at dksX6_adds_2 2 rfl rfl)
theorem dX6_adds_50 : decode cX6_adds 50 = .ok (.iconst (-1), 1) := dk_2 (dk_at dksX6_adds_2 3 rfl rfl)
theorem dX6_adds_51 : decode cX6_adds 51 = .ok (.ixor, 1) := dk_130 (dk_at dksX6_adds_2 4 rfl rfl)
theorem dX6_adds_52 : decode cX6_adds 52 = .ok (.iand, 1) := dk_126 (dk_at dksX6_adds_2 5 rfl rfl)
theorem dX6_adds_53 : decode cX6_adds 53 = .ok (.iastore, 1) := dk_79 (dk_at dksX6_adds_2 6 rfl rfl)
theorem dX6_adds_54 : decode cX6_adds 54 = .ok (.aload_n 0, 1) := dk_42 (dk_at dksX6_adds_2 7 rfl rfl)
theorem dX6_adds_55 : decode cX6_adds 55 = .ok (.getfield 24, 3) := dk_180 0 24 (dk_at dksX6_adds_2 8 rfl rfl)
theorem dX6_adds_58 : decode cX6_adds 58 = .ok (.bipush 48, 2) := dk_16 48 (dk_at dksX6_adds_2 11 rfl rfl)
theorem dX6_adds_60 : decode cX6_adds 60 = .ok (.dup2, 1) := dk_92 (dk_at dksX6_adds_2 13 rfl rfl)
theorem dX6_adds_61 : decode cX6_adds 61 = .ok (.iaload, 1) := dk_46 (dk_at dksX6_adds_2 14 rfl rfl)
theorem dX6_adds_62 : decode cX6_adds 62 = .ok (.iconst 1, 1) := dk_4 (dk_at dksX6_adds_2 15 rfl rfl)
theorem dX6_adds_63 : decode cX6_adds 63 = .ok (.iadd, 1) := dk_96 (dk_at dksX6_adds_2 16 rfl rfl)
theorem dX6_adds_64 : decode cX6_adds 64 = .ok (.iastore, 1) := dk_79 (dk_at dksX6_adds_2 17 rfl rfl)
theorem dX6_adds_65 : decode cX6_adds 65 = .ok (.return_, 1) := dk_177 (dk_at dksX6_adds_2 18 rfl rfl)
abbrev cX6_need : ByteArray := prog_24_method_22_code
def yX6_need : MethodName := ⟨RX6, "need", "(III)I"⟩
def dkwX6_need_4 : List UInt8 := [182, 0, 14, 172]
abbrev dktX6_need_4 : List UInt8 := dkwX6_need_4 ++ []
def dkwX6_need_3 : List UInt8 := [180, 0, 24, 16, 22, 27, 96, 46, 4, 28, 120, 2, 130, 126, 29, 28, 120, 128, 79, 42, 21, 4]
abbrev dktX6_need_3 : List UInt8 := dkwX6_need_3 ++ dktX6_need_4
def dkwX6_need_2 : List UInt8 := [180, 0, 24, 16, 22, 27, 96, 46, 28, 122, 4, 126, 54, 4, 42, 180, 0, 24, 16, 22, 27, 96, 42]
abbrev dktX6_need_2 : List UInt8 := dkwX6_need_2 ++ dktX6_need_3
def dkwX6_need_1 : List UInt8 := [182, 0, 130, 153, 0, 11, 42, 28, 182, 0, 130, 154, 0, 10, 42, 16, 254, 182, 0, 106, 172, 42]
abbrev dktX6_need_1 : List UInt8 := dkwX6_need_1 ++ dktX6_need_2
def dkwX6_need_0 : List UInt8 := [27, 28, 159, 0, 12, 29, 3, 4, 184, 0, 102, 154, 0, 9, 42, 2, 182, 0, 106, 172, 42, 27]
abbrev dktX6_need_0 : List UInt8 := dkwX6_need_0 ++ dktX6_need_1
theorem dksX6_need_0 : cX6_need.data.toList.drop 0 = dktX6_need_0 := by decide +kernel
theorem dksX6_need_1 : cX6_need.data.toList.drop 22 = dktX6_need_1 := dk_seg dksX6_need_0 22 rfl rfl
theorem dksX6_need_2 : cX6_need.data.toList.drop 44 = dktX6_need_2 := dk_seg dksX6_need_1 22 rfl rfl
theorem dksX6_need_3 : cX6_need.data.toList.drop 67 = dktX6_need_3 := dk_seg dksX6_need_2 23 rfl rfl
theorem dksX6_need_4 : cX6_need.data.toList.drop 89 = dktX6_need_4 := dk_seg dksX6_need_3 22 rfl rfl
theorem dX6_need_0 : decode cX6_need 0 = .ok (.iload_n 1, 1) := dk_27 (dk_at dksX6_need_0 0 rfl rfl)
theorem dX6_need_1 : decode cX6_need 1 = .ok (.iload_n 2, 1) := dk_28 (dk_at dksX6_need_0 1 rfl rfl)
theorem dX6_need_2 : decode cX6_need 2 = .ok (.if_icmp .eq 12, 3) := dk_159 0 12 (dk_at dksX6_need_0 2 rfl rfl)
theorem dX6_need_5 : decode cX6_need 5 = .ok (.iload_n 3, 1) := dk_29 (dk_at dksX6_need_0 5 rfl rfl)
theorem dX6_need_6 : decode cX6_need 6 = .ok (.iconst 0, 1) := dk_3 (dk_at dksX6_need_0 6 rfl rfl)
theorem dX6_need_7 : decode cX6_need 7 = .ok (.iconst 1, 1) := dk_4 (dk_at dksX6_need_0 7 rfl rfl)
theorem dX6_need_8 : decode cX6_need 8 = .ok (.invokestatic 102, 3) := dk_184 0 102 (dk_at dksX6_need_0 8 rfl rfl)
theorem dX6_need_11 : decode cX6_need 11 = .ok (.ifCond .ne 9, 3) := dk_154 0 9 (dk_at dksX6_need_0 11 rfl rfl)
theorem dX6_need_14 : decode cX6_need 14 = .ok (.aload_n 0, 1) := dk_42 (dk_at dksX6_need_0 14 rfl rfl)
theorem dX6_need_15 : decode cX6_need 15 = .ok (.iconst (-1), 1) := dk_2 (dk_at dksX6_need_0 15 rfl rfl)
theorem dX6_need_16 : decode cX6_need 16 = .ok (.invokevirtual 106, 3) := dk_182 0 106 (dk_at dksX6_need_0 16 rfl rfl)
theorem dX6_need_19 : decode cX6_need 19 = .ok (.ireturn, 1) := dk_172 (dk_at dksX6_need_0 19 rfl rfl)
theorem dX6_need_20 : decode cX6_need 20 = .ok (.aload_n 0, 1) := dk_42 (dk_at dksX6_need_0 20 rfl rfl)
theorem dX6_need_21 : decode cX6_need 21 = .ok (.iload_n 1, 1) := dk_27 (dk_at dksX6_need_0 21 rfl rfl)
theorem dX6_need_22 : decode cX6_need 22 = .ok (.invokevirtual 130, 3) := dk_182 0 130 (dk_at dksX6_need_1 0 rfl rfl)
theorem dX6_need_25 : decode cX6_need 25 = .ok (.ifCond .eq 11, 3) := dk_153 0 11 (dk_at dksX6_need_1 3 rfl rfl)
theorem dX6_need_28 : decode cX6_need 28 = .ok (.aload_n 0, 1) := dk_42 (dk_at dksX6_need_1 6 rfl rfl)
theorem dX6_need_29 : decode cX6_need 29 = .ok (.iload_n 2, 1) := dk_28 (dk_at dksX6_need_1 7 rfl rfl)
theorem dX6_need_30 : decode cX6_need 30 = .ok (.invokevirtual 130, 3) := dk_182 0 130 (dk_at dksX6_need_1 8 rfl rfl)
theorem dX6_need_33 : decode cX6_need 33 = .ok (.ifCond .ne 10, 3) := dk_154 0 10 (dk_at dksX6_need_1 11 rfl rfl)
theorem dX6_need_36 : decode cX6_need 36 = .ok (.aload_n 0, 1) := dk_42 (dk_at dksX6_need_1 14 rfl rfl)
theorem dX6_need_37 : decode cX6_need 37 = .ok (.bipush (-2), 2) := dk_16 254 (dk_at dksX6_need_1 15 rfl rfl)
theorem dX6_need_39 : decode cX6_need 39 = .ok (.invokevirtual 106, 3) := dk_182 0 106 (dk_at dksX6_need_1 17 rfl rfl)
theorem dX6_need_42 : decode cX6_need 42 = .ok (.ireturn, 1) := dk_172 (dk_at dksX6_need_1 20 rfl rfl)
theorem dX6_need_43 : decode cX6_need 43 = .ok (.aload_n 0, 1) := dk_42 (dk_at dksX6_need_1 21 rfl rfl)
theorem dX6_need_44 : decode cX6_need 44 = .ok (.getfield 24, 3) := dk_180 0 24 (dk_at dksX6_need_2 0 rfl rfl)
theorem dX6_need_47 : decode cX6_need 47 = .ok (.bipush 22, 2) := dk_16 22 (dk_at dksX6_need_2 3 rfl rfl)
theorem dX6_need_49 : decode cX6_need 49 = .ok (.iload_n 1, 1) := dk_27 (dk_at dksX6_need_2 5 rfl rfl)
theorem dX6_need_50 : decode cX6_need 50 = .ok (.iadd, 1) := dk_96 (dk_at dksX6_need_2 6 rfl rfl)
theorem dX6_need_51 : decode cX6_need 51 = .ok (.iaload, 1) := dk_46 (dk_at dksX6_need_2 7 rfl rfl)
theorem dX6_need_52 : decode cX6_need 52 = .ok (.iload_n 2, 1) := dk_28 (dk_at dksX6_need_2 8 rfl rfl)
theorem dX6_need_53 : decode cX6_need 53 = .ok (.ishr, 1) := dk_122 (dk_at dksX6_need_2 9 rfl rfl)
theorem dX6_need_54 : decode cX6_need 54 = .ok (.iconst 1, 1) := dk_4 (dk_at dksX6_need_2 10 rfl rfl)
theorem dX6_need_55 : decode cX6_need 55 = .ok (.iand, 1) := dk_126 (dk_at dksX6_need_2 11 rfl rfl)
theorem dX6_need_56 : decode cX6_need 56 = .ok (.istore 4, 2) := dk_54 4 (dk_at dksX6_need_2 12 rfl rfl)
theorem dX6_need_58 : decode cX6_need 58 = .ok (.aload_n 0, 1) := dk_42 (dk_at dksX6_need_2 14 rfl rfl)
theorem dX6_need_59 : decode cX6_need 59 = .ok (.getfield 24, 3) := dk_180 0 24 (dk_at dksX6_need_2 15 rfl rfl)
theorem dX6_need_62 : decode cX6_need 62 = .ok (.bipush 22, 2) := dk_16 22 (dk_at dksX6_need_2 18 rfl rfl)
theorem dX6_need_64 : decode cX6_need 64 = .ok (.iload_n 1, 1) := dk_27 (dk_at dksX6_need_2 20 rfl rfl)
theorem dX6_need_65 : decode cX6_need 65 = .ok (.iadd, 1) := dk_96 (dk_at dksX6_need_2 21 rfl rfl)
theorem dX6_need_66 : decode cX6_need 66 = .ok (.aload_n 0, 1) := dk_42 (dk_at dksX6_need_2 22 rfl rfl)
theorem dX6_need_67 : decode cX6_need 67 = .ok (.getfield 24, 3) := dk_180 0 24 (dk_at dksX6_need_3 0 rfl rfl)
theorem dX6_need_70 : decode cX6_need 70 = .ok (.bipush 22, 2) := dk_16 22 (dk_at dksX6_need_3 3 rfl rfl)
theorem dX6_need_72 : decode cX6_need 72 = .ok (.iload_n 1, 1) := dk_27 (dk_at dksX6_need_3 5 rfl rfl)
theorem dX6_need_73 : decode cX6_need 73 = .ok (.iadd, 1) := dk_96 (dk_at dksX6_need_3 6 rfl rfl)
theorem dX6_need_74 : decode cX6_need 74 = .ok (.iaload, 1) := dk_46 (dk_at dksX6_need_3 7 rfl rfl)
theorem dX6_need_75 : decode cX6_need 75 = .ok (.iconst 1, 1) := dk_4 (dk_at dksX6_need_3 8 rfl rfl)
theorem dX6_need_76 : decode cX6_need 76 = .ok (.iload_n 2, 1) := dk_28 (dk_at dksX6_need_3 9 rfl rfl)
theorem dX6_need_77 : decode cX6_need 77 = .ok (.ishl, 1) := dk_120 (dk_at dksX6_need_3 10 rfl rfl)
theorem dX6_need_78 : decode cX6_need 78 = .ok (.iconst (-1), 1) := dk_2 (dk_at dksX6_need_3 11 rfl rfl)
theorem dX6_need_79 : decode cX6_need 79 = .ok (.ixor, 1) := dk_130 (dk_at dksX6_need_3 12 rfl rfl)
theorem dX6_need_80 : decode cX6_need 80 = .ok (.iand, 1) := dk_126 (dk_at dksX6_need_3 13 rfl rfl)
theorem dX6_need_81 : decode cX6_need 81 = .ok (.iload_n 3, 1) := dk_29 (dk_at dksX6_need_3 14 rfl rfl)
theorem dX6_need_82 : decode cX6_need 82 = .ok (.iload_n 2, 1) := dk_28 (dk_at dksX6_need_3 15 rfl rfl)
theorem dX6_need_83 : decode cX6_need 83 = .ok (.ishl, 1) := dk_120 (dk_at dksX6_need_3 16 rfl rfl)
theorem dX6_need_84 : decode cX6_need 84 = .ok (.ior, 1) := dk_128 (dk_at dksX6_need_3 17 rfl rfl)
theorem dX6_need_85 : decode cX6_need 85 = .ok (.iastore, 1) := dk_79 (dk_at dksX6_need_3 18 rfl rfl)
theorem dX6_need_86 : decode cX6_need 86 = .ok (.aload_n 0, 1) := dk_42 (dk_at dksX6_need_3 19 rfl rfl)
theorem dX6_need_87 : decode cX6_need 87 = .ok (.iload 4, 2) := dk_21 4 (dk_at dksX6_need_3 20 rfl rfl)
theorem dX6_need_89 : decode cX6_need 89 = .ok (.invokevirtual 14, 3) := dk_182 0 14 (dk_at dksX6_need_4 0 rfl rfl)
theorem dX6_need_92 : decode cX6_need 92 = .ok (.ireturn, 1) := dk_172 (dk_at dksX6_need_4 3 rfl rfl)
abbrev cX6_isBook : ByteArray := prog_24_method_16_code
def yX6_isBook : MethodName := ⟨RX6, "isBook", "(I)Z"⟩
def dkwX6_isBook_0 : List UInt8 := [27, 3, 42, 182, 0, 112, 4, 100, 184, 0, 102, 172]
abbrev dktX6_isBook_0 : List UInt8 := dkwX6_isBook_0 ++ []
theorem dksX6_isBook_0 : cX6_isBook.data.toList.drop 0 = dktX6_isBook_0 := by decide +kernel
theorem dX6_isBook_0 : decode cX6_isBook 0 = .ok (.iload_n 1, 1) := dk_27 (dk_at dksX6_isBook_0 0 rfl rfl)
theorem dX6_isBook_1 : decode cX6_isBook 1 = .ok (.iconst 0, 1) := dk_3 (dk_at dksX6_isBook_0 1 rfl rfl)
theorem dX6_isBook_2 : decode cX6_isBook 2 = .ok (.aload_n 0, 1) := dk_42 (dk_at dksX6_isBook_0 2 rfl rfl)
theorem dX6_isBook_3 : decode cX6_isBook 3 = .ok (.invokevirtual 112, 3) := dk_182 0 112 (dk_at dksX6_isBook_0 3 rfl rfl)
theorem dX6_isBook_6 : decode cX6_isBook 6 = .ok (.iconst 1, 1) := dk_4 (dk_at dksX6_isBook_0 6 rfl rfl)
theorem dX6_isBook_7 : decode cX6_isBook 7 = .ok (.isub, 1) := dk_100 (dk_at dksX6_isBook_0 7 rfl rfl)
theorem dX6_isBook_8 : decode cX6_isBook 8 = .ok (.invokestatic 102, 3) := dk_184 0 102 (dk_at dksX6_isBook_0 8 rfl rfl)
theorem dX6_isBook_11 : decode cX6_isBook 11 = .ok (.ireturn, 1) := dk_172 (dk_at dksX6_isBook_0 11 rfl rfl)
abbrev cX6_of : ByteArray := prog_24_method_23_code
def yX6_of : MethodName := ⟨RX6, "of", "(II)I"⟩
def dkwX6_of_5 : List UInt8 := [153, 0, 7, 4, 167, 0, 4, 3, 172, 2, 172]
abbrev dktX6_of_5 : List UInt8 := dkwX6_of_5 ++ []
def dkwX6_of_4 : List UInt8 := [180, 0, 24, 3, 46, 27, 182, 0, 137, 153, 0, 7, 4, 167, 0, 4, 3, 172, 42, 27, 182, 0, 140]
abbrev dktX6_of_4 : List UInt8 := dkwX6_of_4 ++ dktX6_of_5
def dkwX6_of_3 : List UInt8 := [16, 22, 27, 96, 46, 172, 42, 27, 182, 0, 134, 153, 0, 7, 4, 167, 0, 4, 3, 172, 42, 42]
abbrev dktX6_of_3 : List UInt8 := dkwX6_of_3 ++ dktX6_of_4
def dkwX6_of_2 : List UInt8 := [42, 180, 0, 24, 16, 6, 27, 96, 46, 172, 42, 180, 0, 24, 16, 14, 27, 96, 46, 172, 42, 180, 0, 24]
abbrev dktX6_of_2 : List UInt8 := dkwX6_of_2 ++ dktX6_of_3
def dkwX6_of_1 : List UInt8 := [170, 0, 0, 0, 115, 0, 0, 0, 0, 0, 0, 0, 5, 0, 0, 0, 37, 0, 0, 0, 47, 0, 0, 0, 57, 0, 0, 0, 67, 0, 0, 0, 81, 0, 0, 0, 101]
abbrev dktX6_of_1 : List UInt8 := dkwX6_of_1 ++ dktX6_of_2
def dkwX6_of_0 : List UInt8 := [42, 27, 182, 0, 130, 154, 0, 5, 2, 172, 28]
abbrev dktX6_of_0 : List UInt8 := dkwX6_of_0 ++ dktX6_of_1
theorem dksX6_of_0 : cX6_of.data.toList.drop 0 = dktX6_of_0 := by decide +kernel
theorem dksX6_of_1 : cX6_of.data.toList.drop 11 = dktX6_of_1 := dk_seg dksX6_of_0 11 rfl rfl
theorem dksX6_of_2 : cX6_of.data.toList.drop 48 = dktX6_of_2 := dk_seg dksX6_of_1 37 rfl rfl
theorem dksX6_of_3 : cX6_of.data.toList.drop 72 = dktX6_of_3 := dk_seg dksX6_of_2 24 rfl rfl
theorem dksX6_of_4 : cX6_of.data.toList.drop 94 = dktX6_of_4 := dk_seg dksX6_of_3 22 rfl rfl
theorem dksX6_of_5 : cX6_of.data.toList.drop 117 = dktX6_of_5 := dk_seg dksX6_of_4 23 rfl rfl
theorem dX6_of_0 : decode cX6_of 0 = .ok (.aload_n 0, 1) := dk_42 (dk_at dksX6_of_0 0 rfl rfl)
theorem dX6_of_1 : decode cX6_of 1 = .ok (.iload_n 1, 1) := dk_27 (dk_at dksX6_of_0 1 rfl rfl)
theorem dX6_of_2 : decode cX6_of 2 = .ok (.invokevirtual 130, 3) := dk_182 0 130 (dk_at dksX6_of_0 2 rfl rfl)
theorem dX6_of_5 : decode cX6_of 5 = .ok (.ifCond .ne 5, 3) := dk_154 0 5 (dk_at dksX6_of_0 5 rfl rfl)
theorem dX6_of_8 : decode cX6_of 8 = .ok (.iconst (-1), 1) := dk_2 (dk_at dksX6_of_0 8 rfl rfl)
theorem dX6_of_9 : decode cX6_of 9 = .ok (.ireturn, 1) := dk_172 (dk_at dksX6_of_0 9 rfl rfl)
theorem dX6_of_10 : decode cX6_of 10 = .ok (.iload_n 2, 1) := dk_28 (dk_at dksX6_of_0 10 rfl rfl)
theorem dX6_of_11 : decode cX6_of 11 = .ok (.tableswitch 115 0 5 #[37, 47, 57, 67, 81, 101], 37) := by decide +kernel
theorem dX6_of_48 : decode cX6_of 48 = .ok (.aload_n 0, 1) := dk_42 (dk_at dksX6_of_2 0 rfl rfl)
theorem dX6_of_49 : decode cX6_of 49 = .ok (.getfield 24, 3) := dk_180 0 24 (dk_at dksX6_of_2 1 rfl rfl)
theorem dX6_of_52 : decode cX6_of 52 = .ok (.bipush 6, 2) := dk_16 6 (dk_at dksX6_of_2 4 rfl rfl)
theorem dX6_of_54 : decode cX6_of 54 = .ok (.iload_n 1, 1) := dk_27 (dk_at dksX6_of_2 6 rfl rfl)
theorem dX6_of_55 : decode cX6_of 55 = .ok (.iadd, 1) := dk_96 (dk_at dksX6_of_2 7 rfl rfl)
theorem dX6_of_56 : decode cX6_of 56 = .ok (.iaload, 1) := dk_46 (dk_at dksX6_of_2 8 rfl rfl)
theorem dX6_of_57 : decode cX6_of 57 = .ok (.ireturn, 1) := dk_172 (dk_at dksX6_of_2 9 rfl rfl)
theorem dX6_of_58 : decode cX6_of 58 = .ok (.aload_n 0, 1) := dk_42 (dk_at dksX6_of_2 10 rfl rfl)
theorem dX6_of_59 : decode cX6_of 59 = .ok (.getfield 24, 3) := dk_180 0 24 (dk_at dksX6_of_2 11 rfl rfl)
theorem dX6_of_62 : decode cX6_of 62 = .ok (.bipush 14, 2) := dk_16 14 (dk_at dksX6_of_2 14 rfl rfl)
theorem dX6_of_64 : decode cX6_of 64 = .ok (.iload_n 1, 1) := dk_27 (dk_at dksX6_of_2 16 rfl rfl)
theorem dX6_of_65 : decode cX6_of 65 = .ok (.iadd, 1) := dk_96 (dk_at dksX6_of_2 17 rfl rfl)
theorem dX6_of_66 : decode cX6_of 66 = .ok (.iaload, 1) := dk_46 (dk_at dksX6_of_2 18 rfl rfl)
theorem dX6_of_67 : decode cX6_of 67 = .ok (.ireturn, 1) := dk_172 (dk_at dksX6_of_2 19 rfl rfl)
theorem dX6_of_68 : decode cX6_of 68 = .ok (.aload_n 0, 1) := dk_42 (dk_at dksX6_of_2 20 rfl rfl)
theorem dX6_of_69 : decode cX6_of 69 = .ok (.getfield 24, 3) := dk_180 0 24 (dk_at dksX6_of_2 21 rfl rfl)
theorem dX6_of_72 : decode cX6_of 72 = .ok (.bipush 22, 2) := dk_16 22 (dk_at dksX6_of_3 0 rfl rfl)
theorem dX6_of_74 : decode cX6_of 74 = .ok (.iload_n 1, 1) := dk_27 (dk_at dksX6_of_3 2 rfl rfl)
theorem dX6_of_75 : decode cX6_of 75 = .ok (.iadd, 1) := dk_96 (dk_at dksX6_of_3 3 rfl rfl)
theorem dX6_of_76 : decode cX6_of 76 = .ok (.iaload, 1) := dk_46 (dk_at dksX6_of_3 4 rfl rfl)
theorem dX6_of_77 : decode cX6_of 77 = .ok (.ireturn, 1) := dk_172 (dk_at dksX6_of_3 5 rfl rfl)
theorem dX6_of_78 : decode cX6_of 78 = .ok (.aload_n 0, 1) := dk_42 (dk_at dksX6_of_3 6 rfl rfl)
theorem dX6_of_79 : decode cX6_of 79 = .ok (.iload_n 1, 1) := dk_27 (dk_at dksX6_of_3 7 rfl rfl)
theorem dX6_of_80 : decode cX6_of 80 = .ok (.invokevirtual 134, 3) := dk_182 0 134 (dk_at dksX6_of_3 8 rfl rfl)
theorem dX6_of_83 : decode cX6_of 83 = .ok (.ifCond .eq 7, 3) := dk_153 0 7 (dk_at dksX6_of_3 11 rfl rfl)
theorem dX6_of_86 : decode cX6_of 86 = .ok (.iconst 1, 1) := dk_4 (dk_at dksX6_of_3 14 rfl rfl)
theorem dX6_of_87 : decode cX6_of 87 = .ok (.goto 4, 3) := dk_167 0 4 (dk_at dksX6_of_3 15 rfl rfl)
theorem dX6_of_90 : decode cX6_of 90 = .ok (.iconst 0, 1) := dk_3 (dk_at dksX6_of_3 18 rfl rfl)
theorem dX6_of_91 : decode cX6_of 91 = .ok (.ireturn, 1) := dk_172 (dk_at dksX6_of_3 19 rfl rfl)
theorem dX6_of_92 : decode cX6_of 92 = .ok (.aload_n 0, 1) := dk_42 (dk_at dksX6_of_3 20 rfl rfl)
theorem dX6_of_93 : decode cX6_of 93 = .ok (.aload_n 0, 1) := dk_42 (dk_at dksX6_of_3 21 rfl rfl)
theorem dX6_of_94 : decode cX6_of 94 = .ok (.getfield 24, 3) := dk_180 0 24 (dk_at dksX6_of_4 0 rfl rfl)
theorem dX6_of_97 : decode cX6_of 97 = .ok (.iconst 0, 1) := dk_3 (dk_at dksX6_of_4 3 rfl rfl)
theorem dX6_of_98 : decode cX6_of 98 = .ok (.iaload, 1) := dk_46 (dk_at dksX6_of_4 4 rfl rfl)
theorem dX6_of_99 : decode cX6_of 99 = .ok (.iload_n 1, 1) := dk_27 (dk_at dksX6_of_4 5 rfl rfl)
theorem dX6_of_100 : decode cX6_of 100 = .ok (.invokevirtual 137, 3) := dk_182 0 137 (dk_at dksX6_of_4 6 rfl rfl)
theorem dX6_of_103 : decode cX6_of 103 = .ok (.ifCond .eq 7, 3) := dk_153 0 7 (dk_at dksX6_of_4 9 rfl rfl)
theorem dX6_of_106 : decode cX6_of 106 = .ok (.iconst 1, 1) := dk_4 (dk_at dksX6_of_4 12 rfl rfl)
theorem dX6_of_107 : decode cX6_of 107 = .ok (.goto 4, 3) := dk_167 0 4 (dk_at dksX6_of_4 13 rfl rfl)
theorem dX6_of_110 : decode cX6_of 110 = .ok (.iconst 0, 1) := dk_3 (dk_at dksX6_of_4 16 rfl rfl)
theorem dX6_of_111 : decode cX6_of 111 = .ok (.ireturn, 1) := dk_172 (dk_at dksX6_of_4 17 rfl rfl)
theorem dX6_of_112 : decode cX6_of 112 = .ok (.aload_n 0, 1) := dk_42 (dk_at dksX6_of_4 18 rfl rfl)
theorem dX6_of_113 : decode cX6_of 113 = .ok (.iload_n 1, 1) := dk_27 (dk_at dksX6_of_4 19 rfl rfl)
theorem dX6_of_114 : decode cX6_of 114 = .ok (.invokevirtual 140, 3) := dk_182 0 140 (dk_at dksX6_of_4 20 rfl rfl)
theorem dX6_of_117 : decode cX6_of 117 = .ok (.ifCond .eq 7, 3) := dk_153 0 7 (dk_at dksX6_of_5 0 rfl rfl)
theorem dX6_of_120 : decode cX6_of 120 = .ok (.iconst 1, 1) := dk_4 (dk_at dksX6_of_5 3 rfl rfl)
theorem dX6_of_121 : decode cX6_of 121 = .ok (.goto 4, 3) := dk_167 0 4 (dk_at dksX6_of_5 4 rfl rfl)
theorem dX6_of_124 : decode cX6_of 124 = .ok (.iconst 0, 1) := dk_3 (dk_at dksX6_of_5 7 rfl rfl)
theorem dX6_of_125 : decode cX6_of 125 = .ok (.ireturn, 1) := dk_172 (dk_at dksX6_of_5 8 rfl rfl)
theorem dX6_of_126 : decode cX6_of 126 = .ok (.iconst (-1), 1) := dk_2 (dk_at dksX6_of_5 9 rfl rfl)
theorem dX6_of_127 : decode cX6_of 127 = .ok (.ireturn, 1) := dk_172 (dk_at dksX6_of_5 10 rfl rfl)
abbrev cX6_isRead : ByteArray := prog_24_method_18_code
def yX6_isRead : MethodName := ⟨RX6, "isRead", "(I)Z"⟩
def dkwX6_isRead_0 : List UInt8 := [42, 180, 0, 24, 3, 46, 27, 184, 0, 119, 172]
abbrev dktX6_isRead_0 : List UInt8 := dkwX6_isRead_0 ++ []
theorem dksX6_isRead_0 : cX6_isRead.data.toList.drop 0 = dktX6_isRead_0 := by decide +kernel
theorem dX6_isRead_0 : decode cX6_isRead 0 = .ok (.aload_n 0, 1) := dk_42 (dk_at dksX6_isRead_0 0 rfl rfl)
theorem dX6_isRead_1 : decode cX6_isRead 1 = .ok (.getfield 24, 3) := dk_180 0 24 (dk_at dksX6_isRead_0 1 rfl rfl)
theorem dX6_isRead_4 : decode cX6_isRead 4 = .ok (.iconst 0, 1) := dk_3 (dk_at dksX6_isRead_0 4 rfl rfl)
theorem dX6_isRead_5 : decode cX6_isRead 5 = .ok (.iaload, 1) := dk_46 (dk_at dksX6_isRead_0 5 rfl rfl)
theorem dX6_isRead_6 : decode cX6_isRead 6 = .ok (.iload_n 1, 1) := dk_27 (dk_at dksX6_isRead_0 6 rfl rfl)
theorem dX6_isRead_7 : decode cX6_isRead 7 = .ok (.invokestatic 119, 3) := dk_184 0 119 (dk_at dksX6_isRead_0 7 rfl rfl)
theorem dX6_isRead_10 : decode cX6_isRead 10 = .ok (.ireturn, 1) := dk_172 (dk_at dksX6_isRead_0 10 rfl rfl)
abbrev cX6_isIn : ByteArray := prog_24_method_7_code
def yX6_isIn : MethodName := ⟨RX6, "isIn", "(II)Z"⟩
def dkwX6_isIn_0 : List UInt8 := [26, 27, 122, 4, 126, 4, 160, 0, 7, 4, 167, 0, 4, 3, 172]
abbrev dktX6_isIn_0 : List UInt8 := dkwX6_isIn_0 ++ []
theorem dksX6_isIn_0 : cX6_isIn.data.toList.drop 0 = dktX6_isIn_0 := by decide +kernel
theorem dX6_isIn_0 : decode cX6_isIn 0 = .ok (.iload_n 0, 1) := dk_26 (dk_at dksX6_isIn_0 0 rfl rfl)
theorem dX6_isIn_1 : decode cX6_isIn 1 = .ok (.iload_n 1, 1) := dk_27 (dk_at dksX6_isIn_0 1 rfl rfl)
theorem dX6_isIn_2 : decode cX6_isIn 2 = .ok (.ishr, 1) := dk_122 (dk_at dksX6_isIn_0 2 rfl rfl)
theorem dX6_isIn_3 : decode cX6_isIn 3 = .ok (.iconst 1, 1) := dk_4 (dk_at dksX6_isIn_0 3 rfl rfl)
theorem dX6_isIn_4 : decode cX6_isIn 4 = .ok (.iand, 1) := dk_126 (dk_at dksX6_isIn_0 4 rfl rfl)
theorem dX6_isIn_5 : decode cX6_isIn 5 = .ok (.iconst 1, 1) := dk_4 (dk_at dksX6_isIn_0 5 rfl rfl)
theorem dX6_isIn_6 : decode cX6_isIn 6 = .ok (.if_icmp .ne 7, 3) := dk_160 0 7 (dk_at dksX6_isIn_0 6 rfl rfl)
theorem dX6_isIn_9 : decode cX6_isIn 9 = .ok (.iconst 1, 1) := dk_4 (dk_at dksX6_isIn_0 9 rfl rfl)
theorem dX6_isIn_10 : decode cX6_isIn 10 = .ok (.goto 4, 3) := dk_167 0 4 (dk_at dksX6_isIn_0 10 rfl rfl)
theorem dX6_isIn_13 : decode cX6_isIn 13 = .ok (.iconst 0, 1) := dk_3 (dk_at dksX6_isIn_0 13 rfl rfl)
theorem dX6_isIn_14 : decode cX6_isIn 14 = .ok (.ireturn, 1) := dk_172 (dk_at dksX6_isIn_0 14 rfl rfl)
abbrev cX6_isOpen : ByteArray := prog_24_method_79_code
def yX6_isOpen : MethodName := ⟨RX6, "isOpen", "(II)Z"⟩
def dkwX6_isOpen_1 : List UInt8 := [4, 167, 0, 4, 3, 172]
abbrev dktX6_isOpen_1 : List UInt8 := dkwX6_isOpen_1 ++ []
def dkwX6_isOpen_0 : List UInt8 := [27, 28, 184, 0, 119, 154, 0, 23, 42, 180, 0, 24, 16, 22, 28, 96, 46, 27, 2, 130, 126, 154, 0, 7]
abbrev dktX6_isOpen_0 : List UInt8 := dkwX6_isOpen_0 ++ dktX6_isOpen_1
theorem dksX6_isOpen_0 : cX6_isOpen.data.toList.drop 0 = dktX6_isOpen_0 := by decide +kernel
theorem dksX6_isOpen_1 : cX6_isOpen.data.toList.drop 24 = dktX6_isOpen_1 := dk_seg dksX6_isOpen_0 24 rfl rfl
theorem dX6_isOpen_0 : decode cX6_isOpen 0 = .ok (.iload_n 1, 1) := dk_27 (dk_at dksX6_isOpen_0 0 rfl rfl)
theorem dX6_isOpen_1 : decode cX6_isOpen 1 = .ok (.iload_n 2, 1) := dk_28 (dk_at dksX6_isOpen_0 1 rfl rfl)
theorem dX6_isOpen_2 : decode cX6_isOpen 2 = .ok (.invokestatic 119, 3) := dk_184 0 119 (dk_at dksX6_isOpen_0 2 rfl rfl)
theorem dX6_isOpen_5 : decode cX6_isOpen 5 = .ok (.ifCond .ne 23, 3) := dk_154 0 23 (dk_at dksX6_isOpen_0 5 rfl rfl)
theorem dX6_isOpen_8 : decode cX6_isOpen 8 = .ok (.aload_n 0, 1) := dk_42 (dk_at dksX6_isOpen_0 8 rfl rfl)
theorem dX6_isOpen_9 : decode cX6_isOpen 9 = .ok (.getfield 24, 3) := dk_180 0 24 (dk_at dksX6_isOpen_0 9 rfl rfl)
theorem dX6_isOpen_12 : decode cX6_isOpen 12 = .ok (.bipush 22, 2) := dk_16 22 (dk_at dksX6_isOpen_0 12 rfl rfl)
theorem dX6_isOpen_14 : decode cX6_isOpen 14 = .ok (.iload_n 2, 1) := dk_28 (dk_at dksX6_isOpen_0 14 rfl rfl)
theorem dX6_isOpen_15 : decode cX6_isOpen 15 = .ok (.iadd, 1) := dk_96 (dk_at dksX6_isOpen_0 15 rfl rfl)
theorem dX6_isOpen_16 : decode cX6_isOpen 16 = .ok (.iaload, 1) := dk_46 (dk_at dksX6_isOpen_0 16 rfl rfl)
theorem dX6_isOpen_17 : decode cX6_isOpen 17 = .ok (.iload_n 1, 1) := dk_27 (dk_at dksX6_isOpen_0 17 rfl rfl)
theorem dX6_isOpen_18 : decode cX6_isOpen 18 = .ok (.iconst (-1), 1) := dk_2 (dk_at dksX6_isOpen_0 18 rfl rfl)
theorem dX6_isOpen_19 : decode cX6_isOpen 19 = .ok (.ixor, 1) := dk_130 (dk_at dksX6_isOpen_0 19 rfl rfl)
theorem dX6_isOpen_20 : decode cX6_isOpen 20 = .ok (.iand, 1) := dk_126 (dk_at dksX6_isOpen_0 20 rfl rfl)
theorem dX6_isOpen_21 : decode cX6_isOpen 21 = .ok (.ifCond .ne 7, 3) := dk_154 0 7 (dk_at dksX6_isOpen_0 21 rfl rfl)
theorem dX6_isOpen_24 : decode cX6_isOpen 24 = .ok (.iconst 1, 1) := dk_4 (dk_at dksX6_isOpen_1 0 rfl rfl)
theorem dX6_isOpen_25 : decode cX6_isOpen 25 = .ok (.goto 4, 3) := dk_167 0 4 (dk_at dksX6_isOpen_1 1 rfl rfl)
theorem dX6_isOpen_28 : decode cX6_isOpen 28 = .ok (.iconst 0, 1) := dk_3 (dk_at dksX6_isOpen_1 4 rfl rfl)
theorem dX6_isOpen_29 : decode cX6_isOpen 29 = .ok (.ireturn, 1) := dk_172 (dk_at dksX6_isOpen_1 5 rfl rfl)
abbrev cX6_isBarred : ByteArray := prog_24_method_78_code
def yX6_isBarred : MethodName := ⟨RX6, "isBarred", "(I)Z"⟩
def dkwX6_isBarred_0 : List UInt8 := [42, 27, 42, 180, 0, 24, 3, 46, 184, 1, 48, 42, 180, 0, 24, 8, 46, 182, 1, 84, 172]
abbrev dktX6_isBarred_0 : List UInt8 := dkwX6_isBarred_0 ++ []
theorem dksX6_isBarred_0 : cX6_isBarred.data.toList.drop 0 = dktX6_isBarred_0 := by decide +kernel
theorem dX6_isBarred_0 : decode cX6_isBarred 0 = .ok (.aload_n 0, 1) := dk_42 (dk_at dksX6_isBarred_0 0 rfl rfl)
theorem dX6_isBarred_1 : decode cX6_isBarred 1 = .ok (.iload_n 1, 1) := dk_27 (dk_at dksX6_isBarred_0 1 rfl rfl)
theorem dX6_isBarred_2 : decode cX6_isBarred 2 = .ok (.aload_n 0, 1) := dk_42 (dk_at dksX6_isBarred_0 2 rfl rfl)
theorem dX6_isBarred_3 : decode cX6_isBarred 3 = .ok (.getfield 24, 3) := dk_180 0 24 (dk_at dksX6_isBarred_0 3 rfl rfl)
theorem dX6_isBarred_6 : decode cX6_isBarred 6 = .ok (.iconst 0, 1) := dk_3 (dk_at dksX6_isBarred_0 6 rfl rfl)
theorem dX6_isBarred_7 : decode cX6_isBarred 7 = .ok (.iaload, 1) := dk_46 (dk_at dksX6_isBarred_0 7 rfl rfl)
theorem dX6_isBarred_8 : decode cX6_isBarred 8 = .ok (.invokestatic 304, 3) := dk_184 1 48 (dk_at dksX6_isBarred_0 8 rfl rfl)
theorem dX6_isBarred_11 : decode cX6_isBarred 11 = .ok (.aload_n 0, 1) := dk_42 (dk_at dksX6_isBarred_0 11 rfl rfl)
theorem dX6_isBarred_12 : decode cX6_isBarred 12 = .ok (.getfield 24, 3) := dk_180 0 24 (dk_at dksX6_isBarred_0 12 rfl rfl)
theorem dX6_isBarred_15 : decode cX6_isBarred 15 = .ok (.iconst 5, 1) := dk_8 (dk_at dksX6_isBarred_0 15 rfl rfl)
theorem dX6_isBarred_16 : decode cX6_isBarred 16 = .ok (.iaload, 1) := dk_46 (dk_at dksX6_isBarred_0 16 rfl rfl)
theorem dX6_isBarred_17 : decode cX6_isBarred 17 = .ok (.invokevirtual 340, 3) := dk_182 1 84 (dk_at dksX6_isBarred_0 17 rfl rfl)
theorem dX6_isBarred_20 : decode cX6_isBarred 20 = .ok (.ireturn, 1) := dk_172 (dk_at dksX6_isBarred_0 20 rfl rfl)
abbrev cX6_ones : ByteArray := prog_24_method_8_code
def yX6_ones : MethodName := ⟨RX6, "ones", "(I)I"⟩
def dkwX6_ones_1 : List UInt8 := [27, 172]
abbrev dktX6_ones_1 : List UInt8 := dkwX6_ones_1 ++ []
def dkwX6_ones_0 : List UInt8 := [3, 60, 3, 61, 28, 16, 8, 162, 0, 17, 27, 26, 28, 122, 4, 126, 96, 60, 132, 2, 1, 167, 255, 239]
abbrev dktX6_ones_0 : List UInt8 := dkwX6_ones_0 ++ dktX6_ones_1
theorem dksX6_ones_0 : cX6_ones.data.toList.drop 0 = dktX6_ones_0 := by decide +kernel
theorem dksX6_ones_1 : cX6_ones.data.toList.drop 24 = dktX6_ones_1 := dk_seg dksX6_ones_0 24 rfl rfl
theorem dX6_ones_0 : decode cX6_ones 0 = .ok (.iconst 0, 1) := dk_3 (dk_at dksX6_ones_0 0 rfl rfl)
theorem dX6_ones_1 : decode cX6_ones 1 = .ok (.istore_n 1, 1) := dk_60 (dk_at dksX6_ones_0 1 rfl rfl)
theorem dX6_ones_2 : decode cX6_ones 2 = .ok (.iconst 0, 1) := dk_3 (dk_at dksX6_ones_0 2 rfl rfl)
theorem dX6_ones_3 : decode cX6_ones 3 = .ok (.istore_n 2, 1) := dk_61 (dk_at dksX6_ones_0 3 rfl rfl)
theorem dX6_ones_4 : decode cX6_ones 4 = .ok (.iload_n 2, 1) := dk_28 (dk_at dksX6_ones_0 4 rfl rfl)
theorem dX6_ones_5 : decode cX6_ones 5 = .ok (.bipush 8, 2) := dk_16 8 (dk_at dksX6_ones_0 5 rfl rfl)
theorem dX6_ones_7 : decode cX6_ones 7 = .ok (.if_icmp .ge 17, 3) := dk_162 0 17 (dk_at dksX6_ones_0 7 rfl rfl)
theorem dX6_ones_10 : decode cX6_ones 10 = .ok (.iload_n 1, 1) := dk_27 (dk_at dksX6_ones_0 10 rfl rfl)
theorem dX6_ones_11 : decode cX6_ones 11 = .ok (.iload_n 0, 1) := dk_26 (dk_at dksX6_ones_0 11 rfl rfl)
theorem dX6_ones_12 : decode cX6_ones 12 = .ok (.iload_n 2, 1) := dk_28 (dk_at dksX6_ones_0 12 rfl rfl)
theorem dX6_ones_13 : decode cX6_ones 13 = .ok (.ishr, 1) := dk_122 (dk_at dksX6_ones_0 13 rfl rfl)
theorem dX6_ones_14 : decode cX6_ones 14 = .ok (.iconst 1, 1) := dk_4 (dk_at dksX6_ones_0 14 rfl rfl)
theorem dX6_ones_15 : decode cX6_ones 15 = .ok (.iand, 1) := dk_126 (dk_at dksX6_ones_0 15 rfl rfl)
theorem dX6_ones_16 : decode cX6_ones 16 = .ok (.iadd, 1) := dk_96 (dk_at dksX6_ones_0 16 rfl rfl)
theorem dX6_ones_17 : decode cX6_ones 17 = .ok (.istore_n 1, 1) := dk_60 (dk_at dksX6_ones_0 17 rfl rfl)
theorem dX6_ones_18 : decode cX6_ones 18 = .ok (.iinc 2 1, 3) := dk_132 2 1 (dk_at dksX6_ones_0 18 rfl rfl)
theorem dX6_ones_21 : decode cX6_ones 21 = .ok (.goto (-17), 3) := dk_167 255 239 (dk_at dksX6_ones_0 21 rfl rfl)
theorem dX6_ones_24 : decode cX6_ones 24 = .ok (.iload_n 1, 1) := dk_27 (dk_at dksX6_ones_1 0 rfl rfl)
theorem dX6_ones_25 : decode cX6_ones 25 = .ok (.ireturn, 1) := dk_172 (dk_at dksX6_ones_1 1 rfl rfl)
abbrev cX6_isBarredBy : ByteArray := prog_24_method_77_code
def yX6_isBarredBy : MethodName := ⟨RX6, "isBarredBy", "(III)Z"⟩
def dkwX6_isBarredBy_1 : List UInt8 := [3, 172]
abbrev dktX6_isBarredBy_1 : List UInt8 := dkwX6_isBarredBy_1 ++ []
def dkwX6_isBarredBy_0 : List UInt8 := [42, 2, 27, 2, 28, 29, 182, 1, 72, 42, 6, 4, 3, 182, 1, 76, 4, 160, 0, 7, 4, 167, 0, 4]
abbrev dktX6_isBarredBy_0 : List UInt8 := dkwX6_isBarredBy_0 ++ dktX6_isBarredBy_1
theorem dksX6_isBarredBy_0 : cX6_isBarredBy.data.toList.drop 0 = dktX6_isBarredBy_0 := by decide +kernel
theorem dksX6_isBarredBy_1 : cX6_isBarredBy.data.toList.drop 24 = dktX6_isBarredBy_1 := dk_seg dksX6_isBarredBy_0 24 rfl rfl
theorem dX6_isBarredBy_0 : decode cX6_isBarredBy 0 = .ok (.aload_n 0, 1) := dk_42 (dk_at dksX6_isBarredBy_0 0 rfl rfl)
theorem dX6_isBarredBy_1 : decode cX6_isBarredBy 1 = .ok (.iconst (-1), 1) := dk_2 (dk_at dksX6_isBarredBy_0 1 rfl rfl)
theorem dX6_isBarredBy_2 : decode cX6_isBarredBy 2 = .ok (.iload_n 1, 1) := dk_27 (dk_at dksX6_isBarredBy_0 2 rfl rfl)
theorem dX6_isBarredBy_3 : decode cX6_isBarredBy 3 = .ok (.iconst (-1), 1) := dk_2 (dk_at dksX6_isBarredBy_0 3 rfl rfl)
theorem dX6_isBarredBy_4 : decode cX6_isBarredBy 4 = .ok (.iload_n 2, 1) := dk_28 (dk_at dksX6_isBarredBy_0 4 rfl rfl)
theorem dX6_isBarredBy_5 : decode cX6_isBarredBy 5 = .ok (.iload_n 3, 1) := dk_29 (dk_at dksX6_isBarredBy_0 5 rfl rfl)
theorem dX6_isBarredBy_6 : decode cX6_isBarredBy 6 = .ok (.invokevirtual 328, 3) := dk_182 1 72 (dk_at dksX6_isBarredBy_0 6 rfl rfl)
theorem dX6_isBarredBy_9 : decode cX6_isBarredBy 9 = .ok (.aload_n 0, 1) := dk_42 (dk_at dksX6_isBarredBy_0 9 rfl rfl)
theorem dX6_isBarredBy_10 : decode cX6_isBarredBy 10 = .ok (.iconst 3, 1) := dk_6 (dk_at dksX6_isBarredBy_0 10 rfl rfl)
theorem dX6_isBarredBy_11 : decode cX6_isBarredBy 11 = .ok (.iconst 1, 1) := dk_4 (dk_at dksX6_isBarredBy_0 11 rfl rfl)
theorem dX6_isBarredBy_12 : decode cX6_isBarredBy 12 = .ok (.iconst 0, 1) := dk_3 (dk_at dksX6_isBarredBy_0 12 rfl rfl)
theorem dX6_isBarredBy_13 : decode cX6_isBarredBy 13 = .ok (.invokevirtual 332, 3) := dk_182 1 76 (dk_at dksX6_isBarredBy_0 13 rfl rfl)
theorem dX6_isBarredBy_16 : decode cX6_isBarredBy 16 = .ok (.iconst 1, 1) := dk_4 (dk_at dksX6_isBarredBy_0 16 rfl rfl)
theorem dX6_isBarredBy_17 : decode cX6_isBarredBy 17 = .ok (.if_icmp .ne 7, 3) := dk_160 0 7 (dk_at dksX6_isBarredBy_0 17 rfl rfl)
theorem dX6_isBarredBy_20 : decode cX6_isBarredBy 20 = .ok (.iconst 1, 1) := dk_4 (dk_at dksX6_isBarredBy_0 20 rfl rfl)
theorem dX6_isBarredBy_21 : decode cX6_isBarredBy 21 = .ok (.goto 4, 3) := dk_167 0 4 (dk_at dksX6_isBarredBy_0 21 rfl rfl)
theorem dX6_isBarredBy_24 : decode cX6_isBarredBy 24 = .ok (.iconst 0, 1) := dk_3 (dk_at dksX6_isBarredBy_1 0 rfl rfl)
theorem dX6_isBarredBy_25 : decode cX6_isBarredBy 25 = .ok (.ireturn, 1) := dk_172 (dk_at dksX6_isBarredBy_1 1 rfl rfl)
abbrev cX6_setsAsked : ByteArray := prog_24_method_72_code
def yX6_setsAsked : MethodName := ⟨RX6, "setsAsked", "(IIIII)V"⟩
def dkwX6_setsAsked_5 : List UInt8 := [42, 180, 0, 59, 16, 8, 21, 5, 79, 177]
abbrev dktX6_setsAsked_5 : List UInt8 := dkwX6_setsAsked_5 ++ []
def dkwX6_setsAsked_4 : List UInt8 := [180, 0, 24, 16, 47, 46, 79, 42, 180, 0, 59, 16, 6, 29, 79, 42, 180, 0, 59, 16, 7, 21, 4, 79]
abbrev dktX6_setsAsked_4 : List UInt8 := dkwX6_setsAsked_4 ++ dktX6_setsAsked_5
def dkwX6_setsAsked_3 : List UInt8 := [160, 0, 7, 2, 167, 0, 12, 42, 180, 0, 24, 16, 14, 28, 96, 46, 79, 42, 180, 0, 59, 8, 42]
abbrev dktX6_setsAsked_3 : List UInt8 := dkwX6_setsAsked_3 ++ dktX6_setsAsked_4
def dkwX6_setsAsked_2 : List UInt8 := [160, 0, 7, 2, 167, 0, 12, 42, 180, 0, 24, 16, 6, 28, 96, 46, 79, 42, 180, 0, 59, 7, 28, 2]
abbrev dktX6_setsAsked_2 : List UInt8 := dkwX6_setsAsked_2 ++ dktX6_setsAsked_3
def dkwX6_setsAsked_1 : List UInt8 := [180, 0, 24, 16, 30, 27, 96, 46, 79, 42, 180, 0, 59, 5, 28, 79, 42, 180, 0, 59, 6, 28, 2]
abbrev dktX6_setsAsked_1 : List UInt8 := dkwX6_setsAsked_1 ++ dktX6_setsAsked_2
def dkwX6_setsAsked_0 : List UInt8 := [42, 180, 0, 59, 3, 27, 79, 42, 180, 0, 59, 4, 27, 2, 160, 0, 7, 2, 167, 0, 12, 42]
abbrev dktX6_setsAsked_0 : List UInt8 := dkwX6_setsAsked_0 ++ dktX6_setsAsked_1
theorem dksX6_setsAsked_0 : cX6_setsAsked.data.toList.drop 0 = dktX6_setsAsked_0 := by decide +kernel
theorem dksX6_setsAsked_1 : cX6_setsAsked.data.toList.drop 22 = dktX6_setsAsked_1 := dk_seg dksX6_setsAsked_0 22 rfl rfl
theorem dksX6_setsAsked_2 : cX6_setsAsked.data.toList.drop 45 = dktX6_setsAsked_2 := dk_seg dksX6_setsAsked_1 23 rfl rfl
theorem dksX6_setsAsked_3 : cX6_setsAsked.data.toList.drop 69 = dktX6_setsAsked_3 := dk_seg dksX6_setsAsked_2 24 rfl rfl
theorem dksX6_setsAsked_4 : cX6_setsAsked.data.toList.drop 92 = dktX6_setsAsked_4 := dk_seg dksX6_setsAsked_3 23 rfl rfl
theorem dksX6_setsAsked_5 : cX6_setsAsked.data.toList.drop 116 = dktX6_setsAsked_5 := dk_seg dksX6_setsAsked_4 24 rfl rfl
theorem dX6_setsAsked_0 : decode cX6_setsAsked 0 = .ok (.aload_n 0, 1) := dk_42 (dk_at dksX6_setsAsked_0 0 rfl rfl)
theorem dX6_setsAsked_1 : decode cX6_setsAsked 1 = .ok (.getfield 59, 3) := dk_180 0 59 (dk_at dksX6_setsAsked_0 1 rfl rfl)
theorem dX6_setsAsked_4 : decode cX6_setsAsked 4 = .ok (.iconst 0, 1) := dk_3 (dk_at dksX6_setsAsked_0 4 rfl rfl)
theorem dX6_setsAsked_5 : decode cX6_setsAsked 5 = .ok (.iload_n 1, 1) := dk_27 (dk_at dksX6_setsAsked_0 5 rfl rfl)
theorem dX6_setsAsked_6 : decode cX6_setsAsked 6 = .ok (.iastore, 1) := dk_79 (dk_at dksX6_setsAsked_0 6 rfl rfl)
theorem dX6_setsAsked_7 : decode cX6_setsAsked 7 = .ok (.aload_n 0, 1) := dk_42 (dk_at dksX6_setsAsked_0 7 rfl rfl)
theorem dX6_setsAsked_8 : decode cX6_setsAsked 8 = .ok (.getfield 59, 3) := dk_180 0 59 (dk_at dksX6_setsAsked_0 8 rfl rfl)
theorem dX6_setsAsked_11 : decode cX6_setsAsked 11 = .ok (.iconst 1, 1) := dk_4 (dk_at dksX6_setsAsked_0 11 rfl rfl)
theorem dX6_setsAsked_12 : decode cX6_setsAsked 12 = .ok (.iload_n 1, 1) := dk_27 (dk_at dksX6_setsAsked_0 12 rfl rfl)
theorem dX6_setsAsked_13 : decode cX6_setsAsked 13 = .ok (.iconst (-1), 1) := dk_2 (dk_at dksX6_setsAsked_0 13 rfl rfl)
theorem dX6_setsAsked_14 : decode cX6_setsAsked 14 = .ok (.if_icmp .ne 7, 3) := dk_160 0 7 (dk_at dksX6_setsAsked_0 14 rfl rfl)
theorem dX6_setsAsked_17 : decode cX6_setsAsked 17 = .ok (.iconst (-1), 1) := dk_2 (dk_at dksX6_setsAsked_0 17 rfl rfl)
theorem dX6_setsAsked_18 : decode cX6_setsAsked 18 = .ok (.goto 12, 3) := dk_167 0 12 (dk_at dksX6_setsAsked_0 18 rfl rfl)
theorem dX6_setsAsked_21 : decode cX6_setsAsked 21 = .ok (.aload_n 0, 1) := dk_42 (dk_at dksX6_setsAsked_0 21 rfl rfl)
theorem dX6_setsAsked_22 : decode cX6_setsAsked 22 = .ok (.getfield 24, 3) := dk_180 0 24 (dk_at dksX6_setsAsked_1 0 rfl rfl)
theorem dX6_setsAsked_25 : decode cX6_setsAsked 25 = .ok (.bipush 30, 2) := dk_16 30 (dk_at dksX6_setsAsked_1 3 rfl rfl)
theorem dX6_setsAsked_27 : decode cX6_setsAsked 27 = .ok (.iload_n 1, 1) := dk_27 (dk_at dksX6_setsAsked_1 5 rfl rfl)
theorem dX6_setsAsked_28 : decode cX6_setsAsked 28 = .ok (.iadd, 1) := dk_96 (dk_at dksX6_setsAsked_1 6 rfl rfl)
theorem dX6_setsAsked_29 : decode cX6_setsAsked 29 = .ok (.iaload, 1) := dk_46 (dk_at dksX6_setsAsked_1 7 rfl rfl)
theorem dX6_setsAsked_30 : decode cX6_setsAsked 30 = .ok (.iastore, 1) := dk_79 (dk_at dksX6_setsAsked_1 8 rfl rfl)
theorem dX6_setsAsked_31 : decode cX6_setsAsked 31 = .ok (.aload_n 0, 1) := dk_42 (dk_at dksX6_setsAsked_1 9 rfl rfl)
theorem dX6_setsAsked_32 : decode cX6_setsAsked 32 = .ok (.getfield 59, 3) := dk_180 0 59 (dk_at dksX6_setsAsked_1 10 rfl rfl)
theorem dX6_setsAsked_35 : decode cX6_setsAsked 35 = .ok (.iconst 2, 1) := dk_5 (dk_at dksX6_setsAsked_1 13 rfl rfl)
theorem dX6_setsAsked_36 : decode cX6_setsAsked 36 = .ok (.iload_n 2, 1) := dk_28 (dk_at dksX6_setsAsked_1 14 rfl rfl)
theorem dX6_setsAsked_37 : decode cX6_setsAsked 37 = .ok (.iastore, 1) := dk_79 (dk_at dksX6_setsAsked_1 15 rfl rfl)
theorem dX6_setsAsked_38 : decode cX6_setsAsked 38 = .ok (.aload_n 0, 1) := dk_42 (dk_at dksX6_setsAsked_1 16 rfl rfl)
theorem dX6_setsAsked_39 : decode cX6_setsAsked 39 = .ok (.getfield 59, 3) := dk_180 0 59 (dk_at dksX6_setsAsked_1 17 rfl rfl)
theorem dX6_setsAsked_42 : decode cX6_setsAsked 42 = .ok (.iconst 3, 1) := dk_6 (dk_at dksX6_setsAsked_1 20 rfl rfl)
theorem dX6_setsAsked_43 : decode cX6_setsAsked 43 = .ok (.iload_n 2, 1) := dk_28 (dk_at dksX6_setsAsked_1 21 rfl rfl)
theorem dX6_setsAsked_44 : decode cX6_setsAsked 44 = .ok (.iconst (-1), 1) := dk_2 (dk_at dksX6_setsAsked_1 22 rfl rfl)
theorem dX6_setsAsked_45 : decode cX6_setsAsked 45 = .ok (.if_icmp .ne 7, 3) := dk_160 0 7 (dk_at dksX6_setsAsked_2 0 rfl rfl)
theorem dX6_setsAsked_48 : decode cX6_setsAsked 48 = .ok (.iconst (-1), 1) := dk_2 (dk_at dksX6_setsAsked_2 3 rfl rfl)
theorem dX6_setsAsked_49 : decode cX6_setsAsked 49 = .ok (.goto 12, 3) := dk_167 0 12 (dk_at dksX6_setsAsked_2 4 rfl rfl)
theorem dX6_setsAsked_52 : decode cX6_setsAsked 52 = .ok (.aload_n 0, 1) := dk_42 (dk_at dksX6_setsAsked_2 7 rfl rfl)
theorem dX6_setsAsked_53 : decode cX6_setsAsked 53 = .ok (.getfield 24, 3) := dk_180 0 24 (dk_at dksX6_setsAsked_2 8 rfl rfl)
theorem dX6_setsAsked_56 : decode cX6_setsAsked 56 = .ok (.bipush 6, 2) := dk_16 6 (dk_at dksX6_setsAsked_2 11 rfl rfl)
theorem dX6_setsAsked_58 : decode cX6_setsAsked 58 = .ok (.iload_n 2, 1) := dk_28 (dk_at dksX6_setsAsked_2 13 rfl rfl)
theorem dX6_setsAsked_59 : decode cX6_setsAsked 59 = .ok (.iadd, 1) := dk_96 (dk_at dksX6_setsAsked_2 14 rfl rfl)
theorem dX6_setsAsked_60 : decode cX6_setsAsked 60 = .ok (.iaload, 1) := dk_46 (dk_at dksX6_setsAsked_2 15 rfl rfl)
theorem dX6_setsAsked_61 : decode cX6_setsAsked 61 = .ok (.iastore, 1) := dk_79 (dk_at dksX6_setsAsked_2 16 rfl rfl)
theorem dX6_setsAsked_62 : decode cX6_setsAsked 62 = .ok (.aload_n 0, 1) := dk_42 (dk_at dksX6_setsAsked_2 17 rfl rfl)
theorem dX6_setsAsked_63 : decode cX6_setsAsked 63 = .ok (.getfield 59, 3) := dk_180 0 59 (dk_at dksX6_setsAsked_2 18 rfl rfl)
theorem dX6_setsAsked_66 : decode cX6_setsAsked 66 = .ok (.iconst 4, 1) := dk_7 (dk_at dksX6_setsAsked_2 21 rfl rfl)
theorem dX6_setsAsked_67 : decode cX6_setsAsked 67 = .ok (.iload_n 2, 1) := dk_28 (dk_at dksX6_setsAsked_2 22 rfl rfl)
theorem dX6_setsAsked_68 : decode cX6_setsAsked 68 = .ok (.iconst (-1), 1) := dk_2 (dk_at dksX6_setsAsked_2 23 rfl rfl)
theorem dX6_setsAsked_69 : decode cX6_setsAsked 69 = .ok (.if_icmp .ne 7, 3) := dk_160 0 7 (dk_at dksX6_setsAsked_3 0 rfl rfl)
theorem dX6_setsAsked_72 : decode cX6_setsAsked 72 = .ok (.iconst (-1), 1) := dk_2 (dk_at dksX6_setsAsked_3 3 rfl rfl)
theorem dX6_setsAsked_73 : decode cX6_setsAsked 73 = .ok (.goto 12, 3) := dk_167 0 12 (dk_at dksX6_setsAsked_3 4 rfl rfl)
theorem dX6_setsAsked_76 : decode cX6_setsAsked 76 = .ok (.aload_n 0, 1) := dk_42 (dk_at dksX6_setsAsked_3 7 rfl rfl)
theorem dX6_setsAsked_77 : decode cX6_setsAsked 77 = .ok (.getfield 24, 3) := dk_180 0 24 (dk_at dksX6_setsAsked_3 8 rfl rfl)
theorem dX6_setsAsked_80 : decode cX6_setsAsked 80 = .ok (.bipush 14, 2) := dk_16 14 (dk_at dksX6_setsAsked_3 11 rfl rfl)
theorem dX6_setsAsked_82 : decode cX6_setsAsked 82 = .ok (.iload_n 2, 1) := dk_28 (dk_at dksX6_setsAsked_3 13 rfl rfl)
theorem dX6_setsAsked_83 : decode cX6_setsAsked 83 = .ok (.iadd, 1) := dk_96 (dk_at dksX6_setsAsked_3 14 rfl rfl)
theorem dX6_setsAsked_84 : decode cX6_setsAsked 84 = .ok (.iaload, 1) := dk_46 (dk_at dksX6_setsAsked_3 15 rfl rfl)
theorem dX6_setsAsked_85 : decode cX6_setsAsked 85 = .ok (.iastore, 1) := dk_79 (dk_at dksX6_setsAsked_3 16 rfl rfl)
theorem dX6_setsAsked_86 : decode cX6_setsAsked 86 = .ok (.aload_n 0, 1) := dk_42 (dk_at dksX6_setsAsked_3 17 rfl rfl)
theorem dX6_setsAsked_87 : decode cX6_setsAsked 87 = .ok (.getfield 59, 3) := dk_180 0 59 (dk_at dksX6_setsAsked_3 18 rfl rfl)
theorem dX6_setsAsked_90 : decode cX6_setsAsked 90 = .ok (.iconst 5, 1) := dk_8 (dk_at dksX6_setsAsked_3 21 rfl rfl)
theorem dX6_setsAsked_91 : decode cX6_setsAsked 91 = .ok (.aload_n 0, 1) := dk_42 (dk_at dksX6_setsAsked_3 22 rfl rfl)
theorem dX6_setsAsked_92 : decode cX6_setsAsked 92 = .ok (.getfield 24, 3) := dk_180 0 24 (dk_at dksX6_setsAsked_4 0 rfl rfl)
theorem dX6_setsAsked_95 : decode cX6_setsAsked 95 = .ok (.bipush 47, 2) := dk_16 47 (dk_at dksX6_setsAsked_4 3 rfl rfl)
theorem dX6_setsAsked_97 : decode cX6_setsAsked 97 = .ok (.iaload, 1) := dk_46 (dk_at dksX6_setsAsked_4 5 rfl rfl)
theorem dX6_setsAsked_98 : decode cX6_setsAsked 98 = .ok (.iastore, 1) := dk_79 (dk_at dksX6_setsAsked_4 6 rfl rfl)
theorem dX6_setsAsked_99 : decode cX6_setsAsked 99 = .ok (.aload_n 0, 1) := dk_42 (dk_at dksX6_setsAsked_4 7 rfl rfl)
theorem dX6_setsAsked_100 : decode cX6_setsAsked 100 = .ok (.getfield 59, 3) := dk_180 0 59 (dk_at dksX6_setsAsked_4 8 rfl rfl)
theorem dX6_setsAsked_103 : decode cX6_setsAsked 103 = .ok (.bipush 6, 2) := dk_16 6 (dk_at dksX6_setsAsked_4 11 rfl rfl)
theorem dX6_setsAsked_105 : decode cX6_setsAsked 105 = .ok (.iload_n 3, 1) := dk_29 (dk_at dksX6_setsAsked_4 13 rfl rfl)
theorem dX6_setsAsked_106 : decode cX6_setsAsked 106 = .ok (.iastore, 1) := dk_79 (dk_at dksX6_setsAsked_4 14 rfl rfl)
theorem dX6_setsAsked_107 : decode cX6_setsAsked 107 = .ok (.aload_n 0, 1) := dk_42 (dk_at dksX6_setsAsked_4 15 rfl rfl)
theorem dX6_setsAsked_108 : decode cX6_setsAsked 108 = .ok (.getfield 59, 3) := dk_180 0 59 (dk_at dksX6_setsAsked_4 16 rfl rfl)
theorem dX6_setsAsked_111 : decode cX6_setsAsked 111 = .ok (.bipush 7, 2) := dk_16 7 (dk_at dksX6_setsAsked_4 19 rfl rfl)
theorem dX6_setsAsked_113 : decode cX6_setsAsked 113 = .ok (.iload 4, 2) := dk_21 4 (dk_at dksX6_setsAsked_4 21 rfl rfl)
theorem dX6_setsAsked_115 : decode cX6_setsAsked 115 = .ok (.iastore, 1) := dk_79 (dk_at dksX6_setsAsked_4 23 rfl rfl)
theorem dX6_setsAsked_116 : decode cX6_setsAsked 116 = .ok (.aload_n 0, 1) := dk_42 (dk_at dksX6_setsAsked_5 0 rfl rfl)
theorem dX6_setsAsked_117 : decode cX6_setsAsked 117 = .ok (.getfield 59, 3) := dk_180 0 59 (dk_at dksX6_setsAsked_5 1 rfl rfl)
theorem dX6_setsAsked_120 : decode cX6_setsAsked 120 = .ok (.bipush 8, 2) := dk_16 8 (dk_at dksX6_setsAsked_5 4 rfl rfl)
theorem dX6_setsAsked_122 : decode cX6_setsAsked 122 = .ok (.iload 5, 2) := dk_21 5 (dk_at dksX6_setsAsked_5 6 rfl rfl)
theorem dX6_setsAsked_124 : decode cX6_setsAsked 124 = .ok (.iastore, 1) := dk_79 (dk_at dksX6_setsAsked_5 8 rfl rfl)
theorem dX6_setsAsked_125 : decode cX6_setsAsked 125 = .ok (.return_, 1) := dk_177 (dk_at dksX6_setsAsked_5 9 rfl rfl)
abbrev cX6_tells : ByteArray := prog_24_method_73_code
def yX6_tells : MethodName := ⟨RX6, "tells", "(III)I"⟩
def dkwX6_tells_9 : List UInt8 := [181, 1, 12, 167, 255, 108, 22, 4, 136, 172]
abbrev dktX6_tells_9 : List UInt8 := dkwX6_tells_9 ++ []
def dkwX6_tells_8 : List UInt8 := [28, 133, 148, 158, 0, 8, 28, 133, 167, 0, 5, 22, 7, 55, 4, 42, 89, 180, 1, 12, 4, 96]
abbrev dktX6_tells_8 : List UInt8 := dkwX6_tells_8 ++ dktX6_tells_9
def dkwX6_tells_7 : List UInt8 := [180, 1, 22, 154, 0, 36, 21, 9, 154, 0, 31, 22, 7, 9, 148, 156, 0, 7, 9, 167, 0, 18, 22, 7]
abbrev dktX6_tells_7 : List UInt8 := dkwX6_tells_7 ++ dktX6_tells_8
def dkwX6_tells_6 : List UInt8 := [153, 0, 7, 4, 167, 0, 4, 3, 54, 10, 21, 6, 27, 160, 0, 48, 21, 10, 153, 0, 43, 42]
abbrev dktX6_tells_6 : List UInt8 := dkwX6_tells_6 ++ dktX6_tells_7
def dkwX6_tells_5 : List UInt8 := [180, 1, 22, 54, 9, 42, 3, 181, 1, 22, 42, 7, 182, 1, 36, 153, 0, 11, 42, 4, 182, 1, 69]
abbrev dktX6_tells_5 : List UInt8 := dkwX6_tells_5 ++ dktX6_tells_6
def dkwX6_tells_4 : List UInt8 := [96, 181, 1, 12, 21, 6, 6, 160, 0, 7, 10, 167, 0, 8, 42, 4, 182, 1, 39, 55, 7, 42]
abbrev dktX6_tells_4 : List UInt8 := dkwX6_tells_4 ++ dktX6_tells_5
def dkwX6_tells_3 : List UInt8 := [162, 0, 143, 42, 42, 180, 1, 12, 182, 1, 15, 54, 6, 42, 3, 181, 1, 22, 42, 89, 180, 1, 12, 4]
abbrev dktX6_tells_3 : List UInt8 := dkwX6_tells_3 ++ dktX6_tells_4
def dkwX6_tells_2 : List UInt8 := [16, 53, 42, 180, 0, 24, 16, 52, 46, 96, 46, 96, 181, 1, 9, 42, 180, 1, 12, 42, 180, 1, 9]
abbrev dktX6_tells_2 : List UInt8 := dkwX6_tells_2 ++ dktX6_tells_3
def dkwX6_tells_1 : List UInt8 := [17, 1, 144, 42, 180, 0, 24, 16, 52, 46, 104, 181, 1, 12, 42, 42, 180, 1, 12, 42, 180, 0, 24]
abbrev dktX6_tells_1 : List UInt8 := dkwX6_tells_1 ++ dktX6_tells_2
def dkwX6_tells_0 : List UInt8 := [42, 180, 0, 24, 16, 52, 46, 2, 160, 0, 5, 29, 172, 42, 3, 181, 1, 42, 29, 133, 55, 4, 42]
abbrev dktX6_tells_0 : List UInt8 := dkwX6_tells_0 ++ dktX6_tells_1
theorem dksX6_tells_0 : cX6_tells.data.toList.drop 0 = dktX6_tells_0 := by decide +kernel
theorem dksX6_tells_1 : cX6_tells.data.toList.drop 23 = dktX6_tells_1 := dk_seg dksX6_tells_0 23 rfl rfl
theorem dksX6_tells_2 : cX6_tells.data.toList.drop 46 = dktX6_tells_2 := dk_seg dksX6_tells_1 23 rfl rfl
theorem dksX6_tells_3 : cX6_tells.data.toList.drop 69 = dktX6_tells_3 := dk_seg dksX6_tells_2 23 rfl rfl
theorem dksX6_tells_4 : cX6_tells.data.toList.drop 93 = dktX6_tells_4 := dk_seg dksX6_tells_3 24 rfl rfl
theorem dksX6_tells_5 : cX6_tells.data.toList.drop 115 = dktX6_tells_5 := dk_seg dksX6_tells_4 22 rfl rfl
theorem dksX6_tells_6 : cX6_tells.data.toList.drop 138 = dktX6_tells_6 := dk_seg dksX6_tells_5 23 rfl rfl
theorem dksX6_tells_7 : cX6_tells.data.toList.drop 160 = dktX6_tells_7 := dk_seg dksX6_tells_6 22 rfl rfl
theorem dksX6_tells_8 : cX6_tells.data.toList.drop 184 = dktX6_tells_8 := dk_seg dksX6_tells_7 24 rfl rfl
theorem dksX6_tells_9 : cX6_tells.data.toList.drop 206 = dktX6_tells_9 := dk_seg dksX6_tells_8 22 rfl rfl
theorem dX6_tells_0 : decode cX6_tells 0 = .ok (.aload_n 0, 1) := dk_42 (dk_at dksX6_tells_0 0 rfl rfl)
theorem dX6_tells_1 : decode cX6_tells 1 = .ok (.getfield 24, 3) := dk_180 0 24 (dk_at dksX6_tells_0 1 rfl rfl)
theorem dX6_tells_4 : decode cX6_tells 4 = .ok (.bipush 52, 2) := dk_16 52 (dk_at dksX6_tells_0 4 rfl rfl)
theorem dX6_tells_6 : decode cX6_tells 6 = .ok (.iaload, 1) := dk_46 (dk_at dksX6_tells_0 6 rfl rfl)
theorem dX6_tells_7 : decode cX6_tells 7 = .ok (.iconst (-1), 1) := dk_2 (dk_at dksX6_tells_0 7 rfl rfl)
theorem dX6_tells_8 : decode cX6_tells 8 = .ok (.if_icmp .ne 5, 3) := dk_160 0 5 (dk_at dksX6_tells_0 8 rfl rfl)
theorem dX6_tells_11 : decode cX6_tells 11 = .ok (.iload_n 3, 1) := dk_29 (dk_at dksX6_tells_0 11 rfl rfl)
theorem dX6_tells_12 : decode cX6_tells 12 = .ok (.ireturn, 1) := dk_172 (dk_at dksX6_tells_0 12 rfl rfl)
theorem dX6_tells_13 : decode cX6_tells 13 = .ok (.aload_n 0, 1) := dk_42 (dk_at dksX6_tells_0 13 rfl rfl)
theorem dX6_tells_14 : decode cX6_tells 14 = .ok (.iconst 0, 1) := dk_3 (dk_at dksX6_tells_0 14 rfl rfl)
theorem dX6_tells_15 : decode cX6_tells 15 = .ok (.putfield 298, 3) := dk_181 1 42 (dk_at dksX6_tells_0 15 rfl rfl)
theorem dX6_tells_18 : decode cX6_tells 18 = .ok (.iload_n 3, 1) := dk_29 (dk_at dksX6_tells_0 18 rfl rfl)
theorem dX6_tells_19 : decode cX6_tells 19 = .ok (.i2l, 1) := dk_133 (dk_at dksX6_tells_0 19 rfl rfl)
theorem dX6_tells_20 : decode cX6_tells 20 = .ok (.lstore 4, 2) := dk_55 4 (dk_at dksX6_tells_0 20 rfl rfl)
theorem dX6_tells_22 : decode cX6_tells 22 = .ok (.aload_n 0, 1) := dk_42 (dk_at dksX6_tells_0 22 rfl rfl)
theorem dX6_tells_23 : decode cX6_tells 23 = .ok (.sipush 400, 3) := dk_17 1 144 (dk_at dksX6_tells_1 0 rfl rfl)
theorem dX6_tells_26 : decode cX6_tells 26 = .ok (.aload_n 0, 1) := dk_42 (dk_at dksX6_tells_1 3 rfl rfl)
theorem dX6_tells_27 : decode cX6_tells 27 = .ok (.getfield 24, 3) := dk_180 0 24 (dk_at dksX6_tells_1 4 rfl rfl)
theorem dX6_tells_30 : decode cX6_tells 30 = .ok (.bipush 52, 2) := dk_16 52 (dk_at dksX6_tells_1 7 rfl rfl)
theorem dX6_tells_32 : decode cX6_tells 32 = .ok (.iaload, 1) := dk_46 (dk_at dksX6_tells_1 9 rfl rfl)
theorem dX6_tells_33 : decode cX6_tells 33 = .ok (.imul, 1) := dk_104 (dk_at dksX6_tells_1 10 rfl rfl)
theorem dX6_tells_34 : decode cX6_tells 34 = .ok (.putfield 268, 3) := dk_181 1 12 (dk_at dksX6_tells_1 11 rfl rfl)
theorem dX6_tells_37 : decode cX6_tells 37 = .ok (.aload_n 0, 1) := dk_42 (dk_at dksX6_tells_1 14 rfl rfl)
theorem dX6_tells_38 : decode cX6_tells 38 = .ok (.aload_n 0, 1) := dk_42 (dk_at dksX6_tells_1 15 rfl rfl)
theorem dX6_tells_39 : decode cX6_tells 39 = .ok (.getfield 268, 3) := dk_180 1 12 (dk_at dksX6_tells_1 16 rfl rfl)
theorem dX6_tells_42 : decode cX6_tells 42 = .ok (.aload_n 0, 1) := dk_42 (dk_at dksX6_tells_1 19 rfl rfl)
theorem dX6_tells_43 : decode cX6_tells 43 = .ok (.getfield 24, 3) := dk_180 0 24 (dk_at dksX6_tells_1 20 rfl rfl)
theorem dX6_tells_46 : decode cX6_tells 46 = .ok (.bipush 53, 2) := dk_16 53 (dk_at dksX6_tells_2 0 rfl rfl)
theorem dX6_tells_48 : decode cX6_tells 48 = .ok (.aload_n 0, 1) := dk_42 (dk_at dksX6_tells_2 2 rfl rfl)
theorem dX6_tells_49 : decode cX6_tells 49 = .ok (.getfield 24, 3) := dk_180 0 24 (dk_at dksX6_tells_2 3 rfl rfl)
theorem dX6_tells_52 : decode cX6_tells 52 = .ok (.bipush 52, 2) := dk_16 52 (dk_at dksX6_tells_2 6 rfl rfl)
theorem dX6_tells_54 : decode cX6_tells 54 = .ok (.iaload, 1) := dk_46 (dk_at dksX6_tells_2 8 rfl rfl)
theorem dX6_tells_55 : decode cX6_tells 55 = .ok (.iadd, 1) := dk_96 (dk_at dksX6_tells_2 9 rfl rfl)
theorem dX6_tells_56 : decode cX6_tells 56 = .ok (.iaload, 1) := dk_46 (dk_at dksX6_tells_2 10 rfl rfl)
theorem dX6_tells_57 : decode cX6_tells 57 = .ok (.iadd, 1) := dk_96 (dk_at dksX6_tells_2 11 rfl rfl)
theorem dX6_tells_58 : decode cX6_tells 58 = .ok (.putfield 265, 3) := dk_181 1 9 (dk_at dksX6_tells_2 12 rfl rfl)
theorem dX6_tells_61 : decode cX6_tells 61 = .ok (.aload_n 0, 1) := dk_42 (dk_at dksX6_tells_2 15 rfl rfl)
theorem dX6_tells_62 : decode cX6_tells 62 = .ok (.getfield 268, 3) := dk_180 1 12 (dk_at dksX6_tells_2 16 rfl rfl)
theorem dX6_tells_65 : decode cX6_tells 65 = .ok (.aload_n 0, 1) := dk_42 (dk_at dksX6_tells_2 19 rfl rfl)
theorem dX6_tells_66 : decode cX6_tells 66 = .ok (.getfield 265, 3) := dk_180 1 9 (dk_at dksX6_tells_2 20 rfl rfl)
theorem dX6_tells_69 : decode cX6_tells 69 = .ok (.if_icmp .ge 143, 3) := dk_162 0 143 (dk_at dksX6_tells_3 0 rfl rfl)
theorem dX6_tells_72 : decode cX6_tells 72 = .ok (.aload_n 0, 1) := dk_42 (dk_at dksX6_tells_3 3 rfl rfl)
theorem dX6_tells_73 : decode cX6_tells 73 = .ok (.aload_n 0, 1) := dk_42 (dk_at dksX6_tells_3 4 rfl rfl)
theorem dX6_tells_74 : decode cX6_tells 74 = .ok (.getfield 268, 3) := dk_180 1 12 (dk_at dksX6_tells_3 5 rfl rfl)
theorem dX6_tells_77 : decode cX6_tells 77 = .ok (.invokevirtual 271, 3) := dk_182 1 15 (dk_at dksX6_tells_3 8 rfl rfl)
theorem dX6_tells_80 : decode cX6_tells 80 = .ok (.istore 6, 2) := dk_54 6 (dk_at dksX6_tells_3 11 rfl rfl)
theorem dX6_tells_82 : decode cX6_tells 82 = .ok (.aload_n 0, 1) := dk_42 (dk_at dksX6_tells_3 13 rfl rfl)
theorem dX6_tells_83 : decode cX6_tells 83 = .ok (.iconst 0, 1) := dk_3 (dk_at dksX6_tells_3 14 rfl rfl)
theorem dX6_tells_84 : decode cX6_tells 84 = .ok (.putfield 278, 3) := dk_181 1 22 (dk_at dksX6_tells_3 15 rfl rfl)
theorem dX6_tells_87 : decode cX6_tells 87 = .ok (.aload_n 0, 1) := dk_42 (dk_at dksX6_tells_3 18 rfl rfl)
theorem dX6_tells_88 : decode cX6_tells 88 = .ok (.dup, 1) := dk_89 (dk_at dksX6_tells_3 19 rfl rfl)
theorem dX6_tells_89 : decode cX6_tells 89 = .ok (.getfield 268, 3) := dk_180 1 12 (dk_at dksX6_tells_3 20 rfl rfl)
theorem dX6_tells_92 : decode cX6_tells 92 = .ok (.iconst 1, 1) := dk_4 (dk_at dksX6_tells_3 23 rfl rfl)
theorem dX6_tells_93 : decode cX6_tells 93 = .ok (.iadd, 1) := dk_96 (dk_at dksX6_tells_4 0 rfl rfl)
theorem dX6_tells_94 : decode cX6_tells 94 = .ok (.putfield 268, 3) := dk_181 1 12 (dk_at dksX6_tells_4 1 rfl rfl)
theorem dX6_tells_97 : decode cX6_tells 97 = .ok (.iload 6, 2) := dk_21 6 (dk_at dksX6_tells_4 4 rfl rfl)
theorem dX6_tells_99 : decode cX6_tells 99 = .ok (.iconst 3, 1) := dk_6 (dk_at dksX6_tells_4 6 rfl rfl)
theorem dX6_tells_100 : decode cX6_tells 100 = .ok (.if_icmp .ne 7, 3) := dk_160 0 7 (dk_at dksX6_tells_4 7 rfl rfl)
theorem dX6_tells_103 : decode cX6_tells 103 = .ok (.lconst 1, 1) := dk_10 (dk_at dksX6_tells_4 10 rfl rfl)
theorem dX6_tells_104 : decode cX6_tells 104 = .ok (.goto 8, 3) := dk_167 0 8 (dk_at dksX6_tells_4 11 rfl rfl)
theorem dX6_tells_107 : decode cX6_tells 107 = .ok (.aload_n 0, 1) := dk_42 (dk_at dksX6_tells_4 14 rfl rfl)
theorem dX6_tells_108 : decode cX6_tells 108 = .ok (.iconst 1, 1) := dk_4 (dk_at dksX6_tells_4 15 rfl rfl)
theorem dX6_tells_109 : decode cX6_tells 109 = .ok (.invokevirtual 295, 3) := dk_182 1 39 (dk_at dksX6_tells_4 16 rfl rfl)
theorem dX6_tells_112 : decode cX6_tells 112 = .ok (.lstore 7, 2) := dk_55 7 (dk_at dksX6_tells_4 19 rfl rfl)
theorem dX6_tells_114 : decode cX6_tells 114 = .ok (.aload_n 0, 1) := dk_42 (dk_at dksX6_tells_4 21 rfl rfl)
theorem dX6_tells_115 : decode cX6_tells 115 = .ok (.getfield 278, 3) := dk_180 1 22 (dk_at dksX6_tells_5 0 rfl rfl)
theorem dX6_tells_118 : decode cX6_tells 118 = .ok (.istore 9, 2) := dk_54 9 (dk_at dksX6_tells_5 3 rfl rfl)
theorem dX6_tells_120 : decode cX6_tells 120 = .ok (.aload_n 0, 1) := dk_42 (dk_at dksX6_tells_5 5 rfl rfl)
theorem dX6_tells_121 : decode cX6_tells 121 = .ok (.iconst 0, 1) := dk_3 (dk_at dksX6_tells_5 6 rfl rfl)
theorem dX6_tells_122 : decode cX6_tells 122 = .ok (.putfield 278, 3) := dk_181 1 22 (dk_at dksX6_tells_5 7 rfl rfl)
theorem dX6_tells_125 : decode cX6_tells 125 = .ok (.aload_n 0, 1) := dk_42 (dk_at dksX6_tells_5 10 rfl rfl)
theorem dX6_tells_126 : decode cX6_tells 126 = .ok (.iconst 4, 1) := dk_7 (dk_at dksX6_tells_5 11 rfl rfl)
theorem dX6_tells_127 : decode cX6_tells 127 = .ok (.invokevirtual 292, 3) := dk_182 1 36 (dk_at dksX6_tells_5 12 rfl rfl)
theorem dX6_tells_130 : decode cX6_tells 130 = .ok (.ifCond .eq 11, 3) := dk_153 0 11 (dk_at dksX6_tells_5 15 rfl rfl)
theorem dX6_tells_133 : decode cX6_tells 133 = .ok (.aload_n 0, 1) := dk_42 (dk_at dksX6_tells_5 18 rfl rfl)
theorem dX6_tells_134 : decode cX6_tells 134 = .ok (.iconst 1, 1) := dk_4 (dk_at dksX6_tells_5 19 rfl rfl)
theorem dX6_tells_135 : decode cX6_tells 135 = .ok (.invokevirtual 325, 3) := dk_182 1 69 (dk_at dksX6_tells_5 20 rfl rfl)
theorem dX6_tells_138 : decode cX6_tells 138 = .ok (.ifCond .eq 7, 3) := dk_153 0 7 (dk_at dksX6_tells_6 0 rfl rfl)
theorem dX6_tells_141 : decode cX6_tells 141 = .ok (.iconst 1, 1) := dk_4 (dk_at dksX6_tells_6 3 rfl rfl)
theorem dX6_tells_142 : decode cX6_tells 142 = .ok (.goto 4, 3) := dk_167 0 4 (dk_at dksX6_tells_6 4 rfl rfl)
theorem dX6_tells_145 : decode cX6_tells 145 = .ok (.iconst 0, 1) := dk_3 (dk_at dksX6_tells_6 7 rfl rfl)
theorem dX6_tells_146 : decode cX6_tells 146 = .ok (.istore 10, 2) := dk_54 10 (dk_at dksX6_tells_6 8 rfl rfl)
theorem dX6_tells_148 : decode cX6_tells 148 = .ok (.iload 6, 2) := dk_21 6 (dk_at dksX6_tells_6 10 rfl rfl)
theorem dX6_tells_150 : decode cX6_tells 150 = .ok (.iload_n 1, 1) := dk_27 (dk_at dksX6_tells_6 12 rfl rfl)
theorem dX6_tells_151 : decode cX6_tells 151 = .ok (.if_icmp .ne 48, 3) := dk_160 0 48 (dk_at dksX6_tells_6 13 rfl rfl)
theorem dX6_tells_154 : decode cX6_tells 154 = .ok (.iload 10, 2) := dk_21 10 (dk_at dksX6_tells_6 16 rfl rfl)
theorem dX6_tells_156 : decode cX6_tells 156 = .ok (.ifCond .eq 43, 3) := dk_153 0 43 (dk_at dksX6_tells_6 18 rfl rfl)
theorem dX6_tells_159 : decode cX6_tells 159 = .ok (.aload_n 0, 1) := dk_42 (dk_at dksX6_tells_6 21 rfl rfl)
theorem dX6_tells_160 : decode cX6_tells 160 = .ok (.getfield 278, 3) := dk_180 1 22 (dk_at dksX6_tells_7 0 rfl rfl)
theorem dX6_tells_163 : decode cX6_tells 163 = .ok (.ifCond .ne 36, 3) := dk_154 0 36 (dk_at dksX6_tells_7 3 rfl rfl)
theorem dX6_tells_166 : decode cX6_tells 166 = .ok (.iload 9, 2) := dk_21 9 (dk_at dksX6_tells_7 6 rfl rfl)
theorem dX6_tells_168 : decode cX6_tells 168 = .ok (.ifCond .ne 31, 3) := dk_154 0 31 (dk_at dksX6_tells_7 8 rfl rfl)
theorem dX6_tells_171 : decode cX6_tells 171 = .ok (.lload 7, 2) := dk_22 7 (dk_at dksX6_tells_7 11 rfl rfl)
theorem dX6_tells_173 : decode cX6_tells 173 = .ok (.lconst 0, 1) := dk_9 (dk_at dksX6_tells_7 13 rfl rfl)
theorem dX6_tells_174 : decode cX6_tells 174 = .ok (.lcmp, 1) := dk_148 (dk_at dksX6_tells_7 14 rfl rfl)
theorem dX6_tells_175 : decode cX6_tells 175 = .ok (.ifCond .ge 7, 3) := dk_156 0 7 (dk_at dksX6_tells_7 15 rfl rfl)
theorem dX6_tells_178 : decode cX6_tells 178 = .ok (.lconst 0, 1) := dk_9 (dk_at dksX6_tells_7 18 rfl rfl)
theorem dX6_tells_179 : decode cX6_tells 179 = .ok (.goto 18, 3) := dk_167 0 18 (dk_at dksX6_tells_7 19 rfl rfl)
theorem dX6_tells_182 : decode cX6_tells 182 = .ok (.lload 7, 2) := dk_22 7 (dk_at dksX6_tells_7 22 rfl rfl)
theorem dX6_tells_184 : decode cX6_tells 184 = .ok (.iload_n 2, 1) := dk_28 (dk_at dksX6_tells_8 0 rfl rfl)
theorem dX6_tells_185 : decode cX6_tells 185 = .ok (.i2l, 1) := dk_133 (dk_at dksX6_tells_8 1 rfl rfl)
theorem dX6_tells_186 : decode cX6_tells 186 = .ok (.lcmp, 1) := dk_148 (dk_at dksX6_tells_8 2 rfl rfl)
theorem dX6_tells_187 : decode cX6_tells 187 = .ok (.ifCond .le 8, 3) := dk_158 0 8 (dk_at dksX6_tells_8 3 rfl rfl)
theorem dX6_tells_190 : decode cX6_tells 190 = .ok (.iload_n 2, 1) := dk_28 (dk_at dksX6_tells_8 6 rfl rfl)
theorem dX6_tells_191 : decode cX6_tells 191 = .ok (.i2l, 1) := dk_133 (dk_at dksX6_tells_8 7 rfl rfl)
theorem dX6_tells_192 : decode cX6_tells 192 = .ok (.goto 5, 3) := dk_167 0 5 (dk_at dksX6_tells_8 8 rfl rfl)
theorem dX6_tells_195 : decode cX6_tells 195 = .ok (.lload 7, 2) := dk_22 7 (dk_at dksX6_tells_8 11 rfl rfl)
theorem dX6_tells_197 : decode cX6_tells 197 = .ok (.lstore 4, 2) := dk_55 4 (dk_at dksX6_tells_8 13 rfl rfl)
theorem dX6_tells_199 : decode cX6_tells 199 = .ok (.aload_n 0, 1) := dk_42 (dk_at dksX6_tells_8 15 rfl rfl)
theorem dX6_tells_200 : decode cX6_tells 200 = .ok (.dup, 1) := dk_89 (dk_at dksX6_tells_8 16 rfl rfl)
theorem dX6_tells_201 : decode cX6_tells 201 = .ok (.getfield 268, 3) := dk_180 1 12 (dk_at dksX6_tells_8 17 rfl rfl)
theorem dX6_tells_204 : decode cX6_tells 204 = .ok (.iconst 1, 1) := dk_4 (dk_at dksX6_tells_8 20 rfl rfl)
theorem dX6_tells_205 : decode cX6_tells 205 = .ok (.iadd, 1) := dk_96 (dk_at dksX6_tells_8 21 rfl rfl)
theorem dX6_tells_206 : decode cX6_tells 206 = .ok (.putfield 268, 3) := dk_181 1 12 (dk_at dksX6_tells_9 0 rfl rfl)
theorem dX6_tells_209 : decode cX6_tells 209 = .ok (.goto (-148), 3) := dk_167 255 108 (dk_at dksX6_tells_9 3 rfl rfl)
theorem dX6_tells_212 : decode cX6_tells 212 = .ok (.lload 4, 2) := dk_22 4 (dk_at dksX6_tells_9 6 rfl rfl)
theorem dX6_tells_214 : decode cX6_tells 214 = .ok (.l2i, 1) := dk_136 (dk_at dksX6_tells_9 8 rfl rfl)
theorem dX6_tells_215 : decode cX6_tells 215 = .ok (.ireturn, 1) := dk_172 (dk_at dksX6_tells_9 9 rfl rfl)
abbrev cX6_codeAt : ByteArray := prog_24_method_60_code
def yX6_codeAt : MethodName := ⟨RX6, "codeAt", "(I)I"⟩
def dkwX6_codeAt_0 : List UInt8 := [27, 42, 180, 1, 9, 162, 0, 15, 42, 180, 0, 24, 16, 60, 27, 96, 46, 167, 0, 4, 3, 172]
abbrev dktX6_codeAt_0 : List UInt8 := dkwX6_codeAt_0 ++ []
theorem dksX6_codeAt_0 : cX6_codeAt.data.toList.drop 0 = dktX6_codeAt_0 := by decide +kernel
theorem dX6_codeAt_0 : decode cX6_codeAt 0 = .ok (.iload_n 1, 1) := dk_27 (dk_at dksX6_codeAt_0 0 rfl rfl)
theorem dX6_codeAt_1 : decode cX6_codeAt 1 = .ok (.aload_n 0, 1) := dk_42 (dk_at dksX6_codeAt_0 1 rfl rfl)
theorem dX6_codeAt_2 : decode cX6_codeAt 2 = .ok (.getfield 265, 3) := dk_180 1 9 (dk_at dksX6_codeAt_0 2 rfl rfl)
theorem dX6_codeAt_5 : decode cX6_codeAt 5 = .ok (.if_icmp .ge 15, 3) := dk_162 0 15 (dk_at dksX6_codeAt_0 5 rfl rfl)
theorem dX6_codeAt_8 : decode cX6_codeAt 8 = .ok (.aload_n 0, 1) := dk_42 (dk_at dksX6_codeAt_0 8 rfl rfl)
theorem dX6_codeAt_9 : decode cX6_codeAt 9 = .ok (.getfield 24, 3) := dk_180 0 24 (dk_at dksX6_codeAt_0 9 rfl rfl)
theorem dX6_codeAt_12 : decode cX6_codeAt 12 = .ok (.bipush 60, 2) := dk_16 60 (dk_at dksX6_codeAt_0 12 rfl rfl)
theorem dX6_codeAt_14 : decode cX6_codeAt 14 = .ok (.iload_n 1, 1) := dk_27 (dk_at dksX6_codeAt_0 14 rfl rfl)
theorem dX6_codeAt_15 : decode cX6_codeAt 15 = .ok (.iadd, 1) := dk_96 (dk_at dksX6_codeAt_0 15 rfl rfl)
theorem dX6_codeAt_16 : decode cX6_codeAt 16 = .ok (.iaload, 1) := dk_46 (dk_at dksX6_codeAt_0 16 rfl rfl)
theorem dX6_codeAt_17 : decode cX6_codeAt 17 = .ok (.goto 4, 3) := dk_167 0 4 (dk_at dksX6_codeAt_0 17 rfl rfl)
theorem dX6_codeAt_20 : decode cX6_codeAt 20 = .ok (.iconst 0, 1) := dk_3 (dk_at dksX6_codeAt_0 20 rfl rfl)
theorem dX6_codeAt_21 : decode cX6_codeAt 21 = .ok (.ireturn, 1) := dk_172 (dk_at dksX6_codeAt_0 21 rfl rfl)
abbrev cX6_sumOf : ByteArray := prog_24_method_63_code
def yX6_sumOf : MethodName := ⟨RX6, "sumOf", "(Z)J"⟩
def dkwX6_sumOf_4 : List UInt8 := [182, 1, 29, 65, 167, 255, 162, 32, 173]
abbrev dktX6_sumOf_4 : List UInt8 := dkwX6_sumOf_4 ++ []
def dkwX6_sumOf_3 : List UInt8 := [27, 182, 1, 25, 55, 5, 42, 21, 4, 153, 0, 10, 32, 22, 5, 97, 167, 0, 7, 32, 22, 5, 101, 27]
abbrev dktX6_sumOf_3 : List UInt8 := dkwX6_sumOf_3 ++ dktX6_sumOf_4
def dkwX6_sumOf_2 : List UInt8 := [184, 0, 227, 160, 0, 7, 4, 167, 0, 4, 3, 54, 4, 42, 89, 180, 1, 12, 4, 96, 181, 1, 12, 42]
abbrev dktX6_sumOf_2 : List UInt8 := dkwX6_sumOf_2 ++ dktX6_sumOf_3
def dkwX6_sumOf_1 : List UInt8 := [180, 1, 12, 182, 1, 15, 16, 45, 184, 0, 227, 160, 0, 68, 42, 42, 180, 1, 12, 182, 1, 15, 16, 43]
abbrev dktX6_sumOf_1 : List UInt8 := dkwX6_sumOf_1 ++ dktX6_sumOf_2
def dkwX6_sumOf_0 : List UInt8 := [42, 27, 182, 1, 25, 65, 42, 42, 180, 1, 12, 182, 1, 15, 16, 43, 184, 0, 227, 159, 0, 19, 42, 42]
abbrev dktX6_sumOf_0 : List UInt8 := dkwX6_sumOf_0 ++ dktX6_sumOf_1
theorem dksX6_sumOf_0 : cX6_sumOf.data.toList.drop 0 = dktX6_sumOf_0 := by decide +kernel
theorem dksX6_sumOf_1 : cX6_sumOf.data.toList.drop 24 = dktX6_sumOf_1 := dk_seg dksX6_sumOf_0 24 rfl rfl
theorem dksX6_sumOf_2 : cX6_sumOf.data.toList.drop 48 = dktX6_sumOf_2 := dk_seg dksX6_sumOf_1 24 rfl rfl
theorem dksX6_sumOf_3 : cX6_sumOf.data.toList.drop 72 = dktX6_sumOf_3 := dk_seg dksX6_sumOf_2 24 rfl rfl
theorem dksX6_sumOf_4 : cX6_sumOf.data.toList.drop 96 = dktX6_sumOf_4 := dk_seg dksX6_sumOf_3 24 rfl rfl
theorem dX6_sumOf_0 : decode cX6_sumOf 0 = .ok (.aload_n 0, 1) := dk_42 (dk_at dksX6_sumOf_0 0 rfl rfl)
theorem dX6_sumOf_1 : decode cX6_sumOf 1 = .ok (.iload_n 1, 1) := dk_27 (dk_at dksX6_sumOf_0 1 rfl rfl)
theorem dX6_sumOf_2 : decode cX6_sumOf 2 = .ok (.invokevirtual 281, 3) := dk_182 1 25 (dk_at dksX6_sumOf_0 2 rfl rfl)
theorem dX6_sumOf_5 : decode cX6_sumOf 5 = .ok (.lstore_n 2, 1) := dk_65 (dk_at dksX6_sumOf_0 5 rfl rfl)
theorem dX6_sumOf_6 : decode cX6_sumOf 6 = .ok (.aload_n 0, 1) := dk_42 (dk_at dksX6_sumOf_0 6 rfl rfl)
theorem dX6_sumOf_7 : decode cX6_sumOf 7 = .ok (.aload_n 0, 1) := dk_42 (dk_at dksX6_sumOf_0 7 rfl rfl)
theorem dX6_sumOf_8 : decode cX6_sumOf 8 = .ok (.getfield 268, 3) := dk_180 1 12 (dk_at dksX6_sumOf_0 8 rfl rfl)
theorem dX6_sumOf_11 : decode cX6_sumOf 11 = .ok (.invokevirtual 271, 3) := dk_182 1 15 (dk_at dksX6_sumOf_0 11 rfl rfl)
theorem dX6_sumOf_14 : decode cX6_sumOf 14 = .ok (.bipush 43, 2) := dk_16 43 (dk_at dksX6_sumOf_0 14 rfl rfl)
theorem dX6_sumOf_16 : decode cX6_sumOf 16 = .ok (.invokestatic 227, 3) := dk_184 0 227 (dk_at dksX6_sumOf_0 16 rfl rfl)
theorem dX6_sumOf_19 : decode cX6_sumOf 19 = .ok (.if_icmp .eq 19, 3) := dk_159 0 19 (dk_at dksX6_sumOf_0 19 rfl rfl)
theorem dX6_sumOf_22 : decode cX6_sumOf 22 = .ok (.aload_n 0, 1) := dk_42 (dk_at dksX6_sumOf_0 22 rfl rfl)
theorem dX6_sumOf_23 : decode cX6_sumOf 23 = .ok (.aload_n 0, 1) := dk_42 (dk_at dksX6_sumOf_0 23 rfl rfl)
theorem dX6_sumOf_24 : decode cX6_sumOf 24 = .ok (.getfield 268, 3) := dk_180 1 12 (dk_at dksX6_sumOf_1 0 rfl rfl)
theorem dX6_sumOf_27 : decode cX6_sumOf 27 = .ok (.invokevirtual 271, 3) := dk_182 1 15 (dk_at dksX6_sumOf_1 3 rfl rfl)
theorem dX6_sumOf_30 : decode cX6_sumOf 30 = .ok (.bipush 45, 2) := dk_16 45 (dk_at dksX6_sumOf_1 6 rfl rfl)
theorem dX6_sumOf_32 : decode cX6_sumOf 32 = .ok (.invokestatic 227, 3) := dk_184 0 227 (dk_at dksX6_sumOf_1 8 rfl rfl)
theorem dX6_sumOf_35 : decode cX6_sumOf 35 = .ok (.if_icmp .ne 68, 3) := dk_160 0 68 (dk_at dksX6_sumOf_1 11 rfl rfl)
theorem dX6_sumOf_38 : decode cX6_sumOf 38 = .ok (.aload_n 0, 1) := dk_42 (dk_at dksX6_sumOf_1 14 rfl rfl)
theorem dX6_sumOf_39 : decode cX6_sumOf 39 = .ok (.aload_n 0, 1) := dk_42 (dk_at dksX6_sumOf_1 15 rfl rfl)
theorem dX6_sumOf_40 : decode cX6_sumOf 40 = .ok (.getfield 268, 3) := dk_180 1 12 (dk_at dksX6_sumOf_1 16 rfl rfl)
theorem dX6_sumOf_43 : decode cX6_sumOf 43 = .ok (.invokevirtual 271, 3) := dk_182 1 15 (dk_at dksX6_sumOf_1 19 rfl rfl)
theorem dX6_sumOf_46 : decode cX6_sumOf 46 = .ok (.bipush 43, 2) := dk_16 43 (dk_at dksX6_sumOf_1 22 rfl rfl)
theorem dX6_sumOf_48 : decode cX6_sumOf 48 = .ok (.invokestatic 227, 3) := dk_184 0 227 (dk_at dksX6_sumOf_2 0 rfl rfl)
theorem dX6_sumOf_51 : decode cX6_sumOf 51 = .ok (.if_icmp .ne 7, 3) := dk_160 0 7 (dk_at dksX6_sumOf_2 3 rfl rfl)
theorem dX6_sumOf_54 : decode cX6_sumOf 54 = .ok (.iconst 1, 1) := dk_4 (dk_at dksX6_sumOf_2 6 rfl rfl)
theorem dX6_sumOf_55 : decode cX6_sumOf 55 = .ok (.goto 4, 3) := dk_167 0 4 (dk_at dksX6_sumOf_2 7 rfl rfl)
theorem dX6_sumOf_58 : decode cX6_sumOf 58 = .ok (.iconst 0, 1) := dk_3 (dk_at dksX6_sumOf_2 10 rfl rfl)
theorem dX6_sumOf_59 : decode cX6_sumOf 59 = .ok (.istore 4, 2) := dk_54 4 (dk_at dksX6_sumOf_2 11 rfl rfl)
theorem dX6_sumOf_61 : decode cX6_sumOf 61 = .ok (.aload_n 0, 1) := dk_42 (dk_at dksX6_sumOf_2 13 rfl rfl)
theorem dX6_sumOf_62 : decode cX6_sumOf 62 = .ok (.dup, 1) := dk_89 (dk_at dksX6_sumOf_2 14 rfl rfl)
theorem dX6_sumOf_63 : decode cX6_sumOf 63 = .ok (.getfield 268, 3) := dk_180 1 12 (dk_at dksX6_sumOf_2 15 rfl rfl)
theorem dX6_sumOf_66 : decode cX6_sumOf 66 = .ok (.iconst 1, 1) := dk_4 (dk_at dksX6_sumOf_2 18 rfl rfl)
theorem dX6_sumOf_67 : decode cX6_sumOf 67 = .ok (.iadd, 1) := dk_96 (dk_at dksX6_sumOf_2 19 rfl rfl)
theorem dX6_sumOf_68 : decode cX6_sumOf 68 = .ok (.putfield 268, 3) := dk_181 1 12 (dk_at dksX6_sumOf_2 20 rfl rfl)
theorem dX6_sumOf_71 : decode cX6_sumOf 71 = .ok (.aload_n 0, 1) := dk_42 (dk_at dksX6_sumOf_2 23 rfl rfl)
theorem dX6_sumOf_72 : decode cX6_sumOf 72 = .ok (.iload_n 1, 1) := dk_27 (dk_at dksX6_sumOf_3 0 rfl rfl)
theorem dX6_sumOf_73 : decode cX6_sumOf 73 = .ok (.invokevirtual 281, 3) := dk_182 1 25 (dk_at dksX6_sumOf_3 1 rfl rfl)
theorem dX6_sumOf_76 : decode cX6_sumOf 76 = .ok (.lstore 5, 2) := dk_55 5 (dk_at dksX6_sumOf_3 4 rfl rfl)
theorem dX6_sumOf_78 : decode cX6_sumOf 78 = .ok (.aload_n 0, 1) := dk_42 (dk_at dksX6_sumOf_3 6 rfl rfl)
theorem dX6_sumOf_79 : decode cX6_sumOf 79 = .ok (.iload 4, 2) := dk_21 4 (dk_at dksX6_sumOf_3 7 rfl rfl)
theorem dX6_sumOf_81 : decode cX6_sumOf 81 = .ok (.ifCond .eq 10, 3) := dk_153 0 10 (dk_at dksX6_sumOf_3 9 rfl rfl)
theorem dX6_sumOf_84 : decode cX6_sumOf 84 = .ok (.lload_n 2, 1) := dk_32 (dk_at dksX6_sumOf_3 12 rfl rfl)
theorem dX6_sumOf_85 : decode cX6_sumOf 85 = .ok (.lload 5, 2) := dk_22 5 (dk_at dksX6_sumOf_3 13 rfl rfl)
theorem dX6_sumOf_87 : decode cX6_sumOf 87 = .ok (.ladd, 1) := dk_97 (dk_at dksX6_sumOf_3 15 rfl rfl)
theorem dX6_sumOf_88 : decode cX6_sumOf 88 = .ok (.goto 7, 3) := dk_167 0 7 (dk_at dksX6_sumOf_3 16 rfl rfl)
theorem dX6_sumOf_91 : decode cX6_sumOf 91 = .ok (.lload_n 2, 1) := dk_32 (dk_at dksX6_sumOf_3 19 rfl rfl)
theorem dX6_sumOf_92 : decode cX6_sumOf 92 = .ok (.lload 5, 2) := dk_22 5 (dk_at dksX6_sumOf_3 20 rfl rfl)
theorem dX6_sumOf_94 : decode cX6_sumOf 94 = .ok (.lsub, 1) := dk_101 (dk_at dksX6_sumOf_3 22 rfl rfl)
theorem dX6_sumOf_95 : decode cX6_sumOf 95 = .ok (.iload_n 1, 1) := dk_27 (dk_at dksX6_sumOf_3 23 rfl rfl)
theorem dX6_sumOf_96 : decode cX6_sumOf 96 = .ok (.invokevirtual 285, 3) := dk_182 1 29 (dk_at dksX6_sumOf_4 0 rfl rfl)
theorem dX6_sumOf_99 : decode cX6_sumOf 99 = .ok (.lstore_n 2, 1) := dk_65 (dk_at dksX6_sumOf_4 3 rfl rfl)
theorem dX6_sumOf_100 : decode cX6_sumOf 100 = .ok (.goto (-94), 3) := dk_167 255 162 (dk_at dksX6_sumOf_4 4 rfl rfl)
theorem dX6_sumOf_103 : decode cX6_sumOf 103 = .ok (.lload_n 2, 1) := dk_32 (dk_at dksX6_sumOf_4 7 rfl rfl)
theorem dX6_sumOf_104 : decode cX6_sumOf 104 = .ok (.lreturn, 1) := dk_173 (dk_at dksX6_sumOf_4 8 rfl rfl)
abbrev cX6_termOf : ByteArray := prog_24_method_64_code
def yX6_termOf : MethodName := ⟨RX6, "termOf", "(Z)J"⟩
def dkwX6_termOf_7 : List UInt8 := [167, 255, 97, 32, 173]
abbrev dktX6_termOf_7 : List UInt8 := dkwX6_termOf_7 ++ []
def dkwX6_termOf_6 : List UInt8 := [184, 0, 227, 160, 0, 10, 32, 22, 5, 109, 167, 0, 7, 32, 22, 5, 113, 27, 182, 1, 29, 65]
abbrev dktX6_termOf_6 : List UInt8 := dkwX6_termOf_6 ++ dktX6_termOf_7
def dkwX6_termOf_5 : List UInt8 := [55, 5, 42, 21, 4, 16, 42, 184, 0, 227, 160, 0, 10, 32, 22, 5, 105, 167, 0, 24, 21, 4, 16, 47]
abbrev dktX6_termOf_5 : List UInt8 := dkwX6_termOf_5 ++ dktX6_termOf_6
def dkwX6_termOf_4 : List UInt8 := [154, 0, 26, 42, 42, 180, 1, 22, 154, 0, 7, 27, 153, 0, 7, 4, 167, 0, 4, 3, 181, 1, 22, 10]
abbrev dktX6_termOf_4 : List UInt8 := dkwX6_termOf_4 ++ dktX6_termOf_5
def dkwX6_termOf_3 : List UInt8 := [181, 1, 12, 42, 27, 182, 1, 33, 55, 5, 21, 4, 16, 42, 184, 0, 227, 159, 0, 33, 22, 5, 9, 148]
abbrev dktX6_termOf_3 : List UInt8 := dkwX6_termOf_3 ++ dktX6_termOf_4
def dkwX6_termOf_2 : List UInt8 := [184, 0, 227, 160, 0, 117, 42, 42, 180, 1, 12, 182, 1, 15, 54, 4, 42, 89, 180, 1, 12, 4, 96]
abbrev dktX6_termOf_2 : List UInt8 := dkwX6_termOf_2 ++ dktX6_termOf_3
def dkwX6_termOf_1 : List UInt8 := [180, 1, 12, 182, 1, 15, 16, 47, 184, 0, 227, 159, 0, 19, 42, 42, 180, 1, 12, 182, 1, 15, 16, 37]
abbrev dktX6_termOf_1 : List UInt8 := dkwX6_termOf_1 ++ dktX6_termOf_2
def dkwX6_termOf_0 : List UInt8 := [42, 27, 182, 1, 33, 65, 42, 42, 180, 1, 12, 182, 1, 15, 16, 42, 184, 0, 227, 159, 0, 35, 42, 42]
abbrev dktX6_termOf_0 : List UInt8 := dkwX6_termOf_0 ++ dktX6_termOf_1
theorem dksX6_termOf_0 : cX6_termOf.data.toList.drop 0 = dktX6_termOf_0 := by decide +kernel
theorem dksX6_termOf_1 : cX6_termOf.data.toList.drop 24 = dktX6_termOf_1 := dk_seg dksX6_termOf_0 24 rfl rfl
theorem dksX6_termOf_2 : cX6_termOf.data.toList.drop 48 = dktX6_termOf_2 := dk_seg dksX6_termOf_1 24 rfl rfl
theorem dksX6_termOf_3 : cX6_termOf.data.toList.drop 71 = dktX6_termOf_3 := dk_seg dksX6_termOf_2 23 rfl rfl
theorem dksX6_termOf_4 : cX6_termOf.data.toList.drop 95 = dktX6_termOf_4 := dk_seg dksX6_termOf_3 24 rfl rfl
theorem dksX6_termOf_5 : cX6_termOf.data.toList.drop 119 = dktX6_termOf_5 := dk_seg dksX6_termOf_4 24 rfl rfl
theorem dksX6_termOf_6 : cX6_termOf.data.toList.drop 143 = dktX6_termOf_6 := dk_seg dksX6_termOf_5 24 rfl rfl
theorem dksX6_termOf_7 : cX6_termOf.data.toList.drop 165 = dktX6_termOf_7 := dk_seg dksX6_termOf_6 22 rfl rfl
theorem dX6_termOf_0 : decode cX6_termOf 0 = .ok (.aload_n 0, 1) := dk_42 (dk_at dksX6_termOf_0 0 rfl rfl)
theorem dX6_termOf_1 : decode cX6_termOf 1 = .ok (.iload_n 1, 1) := dk_27 (dk_at dksX6_termOf_0 1 rfl rfl)
theorem dX6_termOf_2 : decode cX6_termOf 2 = .ok (.invokevirtual 289, 3) := dk_182 1 33 (dk_at dksX6_termOf_0 2 rfl rfl)
theorem dX6_termOf_5 : decode cX6_termOf 5 = .ok (.lstore_n 2, 1) := dk_65 (dk_at dksX6_termOf_0 5 rfl rfl)
theorem dX6_termOf_6 : decode cX6_termOf 6 = .ok (.aload_n 0, 1) := dk_42 (dk_at dksX6_termOf_0 6 rfl rfl)
theorem dX6_termOf_7 : decode cX6_termOf 7 = .ok (.aload_n 0, 1) := dk_42 (dk_at dksX6_termOf_0 7 rfl rfl)
theorem dX6_termOf_8 : decode cX6_termOf 8 = .ok (.getfield 268, 3) := dk_180 1 12 (dk_at dksX6_termOf_0 8 rfl rfl)
theorem dX6_termOf_11 : decode cX6_termOf 11 = .ok (.invokevirtual 271, 3) := dk_182 1 15 (dk_at dksX6_termOf_0 11 rfl rfl)
theorem dX6_termOf_14 : decode cX6_termOf 14 = .ok (.bipush 42, 2) := dk_16 42 (dk_at dksX6_termOf_0 14 rfl rfl)
theorem dX6_termOf_16 : decode cX6_termOf 16 = .ok (.invokestatic 227, 3) := dk_184 0 227 (dk_at dksX6_termOf_0 16 rfl rfl)
theorem dX6_termOf_19 : decode cX6_termOf 19 = .ok (.if_icmp .eq 35, 3) := dk_159 0 35 (dk_at dksX6_termOf_0 19 rfl rfl)
theorem dX6_termOf_22 : decode cX6_termOf 22 = .ok (.aload_n 0, 1) := dk_42 (dk_at dksX6_termOf_0 22 rfl rfl)
theorem dX6_termOf_23 : decode cX6_termOf 23 = .ok (.aload_n 0, 1) := dk_42 (dk_at dksX6_termOf_0 23 rfl rfl)
theorem dX6_termOf_24 : decode cX6_termOf 24 = .ok (.getfield 268, 3) := dk_180 1 12 (dk_at dksX6_termOf_1 0 rfl rfl)
theorem dX6_termOf_27 : decode cX6_termOf 27 = .ok (.invokevirtual 271, 3) := dk_182 1 15 (dk_at dksX6_termOf_1 3 rfl rfl)
theorem dX6_termOf_30 : decode cX6_termOf 30 = .ok (.bipush 47, 2) := dk_16 47 (dk_at dksX6_termOf_1 6 rfl rfl)
theorem dX6_termOf_32 : decode cX6_termOf 32 = .ok (.invokestatic 227, 3) := dk_184 0 227 (dk_at dksX6_termOf_1 8 rfl rfl)
theorem dX6_termOf_35 : decode cX6_termOf 35 = .ok (.if_icmp .eq 19, 3) := dk_159 0 19 (dk_at dksX6_termOf_1 11 rfl rfl)
theorem dX6_termOf_38 : decode cX6_termOf 38 = .ok (.aload_n 0, 1) := dk_42 (dk_at dksX6_termOf_1 14 rfl rfl)
theorem dX6_termOf_39 : decode cX6_termOf 39 = .ok (.aload_n 0, 1) := dk_42 (dk_at dksX6_termOf_1 15 rfl rfl)
theorem dX6_termOf_40 : decode cX6_termOf 40 = .ok (.getfield 268, 3) := dk_180 1 12 (dk_at dksX6_termOf_1 16 rfl rfl)
theorem dX6_termOf_43 : decode cX6_termOf 43 = .ok (.invokevirtual 271, 3) := dk_182 1 15 (dk_at dksX6_termOf_1 19 rfl rfl)
theorem dX6_termOf_46 : decode cX6_termOf 46 = .ok (.bipush 37, 2) := dk_16 37 (dk_at dksX6_termOf_1 22 rfl rfl)
theorem dX6_termOf_48 : decode cX6_termOf 48 = .ok (.invokestatic 227, 3) := dk_184 0 227 (dk_at dksX6_termOf_2 0 rfl rfl)
theorem dX6_termOf_51 : decode cX6_termOf 51 = .ok (.if_icmp .ne 117, 3) := dk_160 0 117 (dk_at dksX6_termOf_2 3 rfl rfl)
theorem dX6_termOf_54 : decode cX6_termOf 54 = .ok (.aload_n 0, 1) := dk_42 (dk_at dksX6_termOf_2 6 rfl rfl)
theorem dX6_termOf_55 : decode cX6_termOf 55 = .ok (.aload_n 0, 1) := dk_42 (dk_at dksX6_termOf_2 7 rfl rfl)
theorem dX6_termOf_56 : decode cX6_termOf 56 = .ok (.getfield 268, 3) := dk_180 1 12 (dk_at dksX6_termOf_2 8 rfl rfl)
theorem dX6_termOf_59 : decode cX6_termOf 59 = .ok (.invokevirtual 271, 3) := dk_182 1 15 (dk_at dksX6_termOf_2 11 rfl rfl)
theorem dX6_termOf_62 : decode cX6_termOf 62 = .ok (.istore 4, 2) := dk_54 4 (dk_at dksX6_termOf_2 14 rfl rfl)
theorem dX6_termOf_64 : decode cX6_termOf 64 = .ok (.aload_n 0, 1) := dk_42 (dk_at dksX6_termOf_2 16 rfl rfl)
theorem dX6_termOf_65 : decode cX6_termOf 65 = .ok (.dup, 1) := dk_89 (dk_at dksX6_termOf_2 17 rfl rfl)
theorem dX6_termOf_66 : decode cX6_termOf 66 = .ok (.getfield 268, 3) := dk_180 1 12 (dk_at dksX6_termOf_2 18 rfl rfl)
theorem dX6_termOf_69 : decode cX6_termOf 69 = .ok (.iconst 1, 1) := dk_4 (dk_at dksX6_termOf_2 21 rfl rfl)
theorem dX6_termOf_70 : decode cX6_termOf 70 = .ok (.iadd, 1) := dk_96 (dk_at dksX6_termOf_2 22 rfl rfl)
theorem dX6_termOf_71 : decode cX6_termOf 71 = .ok (.putfield 268, 3) := dk_181 1 12 (dk_at dksX6_termOf_3 0 rfl rfl)
theorem dX6_termOf_74 : decode cX6_termOf 74 = .ok (.aload_n 0, 1) := dk_42 (dk_at dksX6_termOf_3 3 rfl rfl)
theorem dX6_termOf_75 : decode cX6_termOf 75 = .ok (.iload_n 1, 1) := dk_27 (dk_at dksX6_termOf_3 4 rfl rfl)
theorem dX6_termOf_76 : decode cX6_termOf 76 = .ok (.invokevirtual 289, 3) := dk_182 1 33 (dk_at dksX6_termOf_3 5 rfl rfl)
theorem dX6_termOf_79 : decode cX6_termOf 79 = .ok (.lstore 5, 2) := dk_55 5 (dk_at dksX6_termOf_3 8 rfl rfl)
theorem dX6_termOf_81 : decode cX6_termOf 81 = .ok (.iload 4, 2) := dk_21 4 (dk_at dksX6_termOf_3 10 rfl rfl)
theorem dX6_termOf_83 : decode cX6_termOf 83 = .ok (.bipush 42, 2) := dk_16 42 (dk_at dksX6_termOf_3 12 rfl rfl)
theorem dX6_termOf_85 : decode cX6_termOf 85 = .ok (.invokestatic 227, 3) := dk_184 0 227 (dk_at dksX6_termOf_3 14 rfl rfl)
theorem dX6_termOf_88 : decode cX6_termOf 88 = .ok (.if_icmp .eq 33, 3) := dk_159 0 33 (dk_at dksX6_termOf_3 17 rfl rfl)
theorem dX6_termOf_91 : decode cX6_termOf 91 = .ok (.lload 5, 2) := dk_22 5 (dk_at dksX6_termOf_3 20 rfl rfl)
theorem dX6_termOf_93 : decode cX6_termOf 93 = .ok (.lconst 0, 1) := dk_9 (dk_at dksX6_termOf_3 22 rfl rfl)
theorem dX6_termOf_94 : decode cX6_termOf 94 = .ok (.lcmp, 1) := dk_148 (dk_at dksX6_termOf_3 23 rfl rfl)
theorem dX6_termOf_95 : decode cX6_termOf 95 = .ok (.ifCond .ne 26, 3) := dk_154 0 26 (dk_at dksX6_termOf_4 0 rfl rfl)
theorem dX6_termOf_98 : decode cX6_termOf 98 = .ok (.aload_n 0, 1) := dk_42 (dk_at dksX6_termOf_4 3 rfl rfl)
theorem dX6_termOf_99 : decode cX6_termOf 99 = .ok (.aload_n 0, 1) := dk_42 (dk_at dksX6_termOf_4 4 rfl rfl)
theorem dX6_termOf_100 : decode cX6_termOf 100 = .ok (.getfield 278, 3) := dk_180 1 22 (dk_at dksX6_termOf_4 5 rfl rfl)
theorem dX6_termOf_103 : decode cX6_termOf 103 = .ok (.ifCond .ne 7, 3) := dk_154 0 7 (dk_at dksX6_termOf_4 8 rfl rfl)
theorem dX6_termOf_106 : decode cX6_termOf 106 = .ok (.iload_n 1, 1) := dk_27 (dk_at dksX6_termOf_4 11 rfl rfl)
theorem dX6_termOf_107 : decode cX6_termOf 107 = .ok (.ifCond .eq 7, 3) := dk_153 0 7 (dk_at dksX6_termOf_4 12 rfl rfl)
theorem dX6_termOf_110 : decode cX6_termOf 110 = .ok (.iconst 1, 1) := dk_4 (dk_at dksX6_termOf_4 15 rfl rfl)
theorem dX6_termOf_111 : decode cX6_termOf 111 = .ok (.goto 4, 3) := dk_167 0 4 (dk_at dksX6_termOf_4 16 rfl rfl)
theorem dX6_termOf_114 : decode cX6_termOf 114 = .ok (.iconst 0, 1) := dk_3 (dk_at dksX6_termOf_4 19 rfl rfl)
theorem dX6_termOf_115 : decode cX6_termOf 115 = .ok (.putfield 278, 3) := dk_181 1 22 (dk_at dksX6_termOf_4 20 rfl rfl)
theorem dX6_termOf_118 : decode cX6_termOf 118 = .ok (.lconst 1, 1) := dk_10 (dk_at dksX6_termOf_4 23 rfl rfl)
theorem dX6_termOf_119 : decode cX6_termOf 119 = .ok (.lstore 5, 2) := dk_55 5 (dk_at dksX6_termOf_5 0 rfl rfl)
theorem dX6_termOf_121 : decode cX6_termOf 121 = .ok (.aload_n 0, 1) := dk_42 (dk_at dksX6_termOf_5 2 rfl rfl)
theorem dX6_termOf_122 : decode cX6_termOf 122 = .ok (.iload 4, 2) := dk_21 4 (dk_at dksX6_termOf_5 3 rfl rfl)
theorem dX6_termOf_124 : decode cX6_termOf 124 = .ok (.bipush 42, 2) := dk_16 42 (dk_at dksX6_termOf_5 5 rfl rfl)
theorem dX6_termOf_126 : decode cX6_termOf 126 = .ok (.invokestatic 227, 3) := dk_184 0 227 (dk_at dksX6_termOf_5 7 rfl rfl)
theorem dX6_termOf_129 : decode cX6_termOf 129 = .ok (.if_icmp .ne 10, 3) := dk_160 0 10 (dk_at dksX6_termOf_5 10 rfl rfl)
theorem dX6_termOf_132 : decode cX6_termOf 132 = .ok (.lload_n 2, 1) := dk_32 (dk_at dksX6_termOf_5 13 rfl rfl)
theorem dX6_termOf_133 : decode cX6_termOf 133 = .ok (.lload 5, 2) := dk_22 5 (dk_at dksX6_termOf_5 14 rfl rfl)
theorem dX6_termOf_135 : decode cX6_termOf 135 = .ok (.lmul, 1) := dk_105 (dk_at dksX6_termOf_5 16 rfl rfl)
theorem dX6_termOf_136 : decode cX6_termOf 136 = .ok (.goto 24, 3) := dk_167 0 24 (dk_at dksX6_termOf_5 17 rfl rfl)
theorem dX6_termOf_139 : decode cX6_termOf 139 = .ok (.iload 4, 2) := dk_21 4 (dk_at dksX6_termOf_5 20 rfl rfl)
theorem dX6_termOf_141 : decode cX6_termOf 141 = .ok (.bipush 47, 2) := dk_16 47 (dk_at dksX6_termOf_5 22 rfl rfl)
theorem dX6_termOf_143 : decode cX6_termOf 143 = .ok (.invokestatic 227, 3) := dk_184 0 227 (dk_at dksX6_termOf_6 0 rfl rfl)
theorem dX6_termOf_146 : decode cX6_termOf 146 = .ok (.if_icmp .ne 10, 3) := dk_160 0 10 (dk_at dksX6_termOf_6 3 rfl rfl)
theorem dX6_termOf_149 : decode cX6_termOf 149 = .ok (.lload_n 2, 1) := dk_32 (dk_at dksX6_termOf_6 6 rfl rfl)
theorem dX6_termOf_150 : decode cX6_termOf 150 = .ok (.lload 5, 2) := dk_22 5 (dk_at dksX6_termOf_6 7 rfl rfl)
theorem dX6_termOf_152 : decode cX6_termOf 152 = .ok (.ldiv, 1) := dk_109 (dk_at dksX6_termOf_6 9 rfl rfl)
theorem dX6_termOf_153 : decode cX6_termOf 153 = .ok (.goto 7, 3) := dk_167 0 7 (dk_at dksX6_termOf_6 10 rfl rfl)
theorem dX6_termOf_156 : decode cX6_termOf 156 = .ok (.lload_n 2, 1) := dk_32 (dk_at dksX6_termOf_6 13 rfl rfl)
theorem dX6_termOf_157 : decode cX6_termOf 157 = .ok (.lload 5, 2) := dk_22 5 (dk_at dksX6_termOf_6 14 rfl rfl)
theorem dX6_termOf_159 : decode cX6_termOf 159 = .ok (.lrem, 1) := dk_113 (dk_at dksX6_termOf_6 16 rfl rfl)
theorem dX6_termOf_160 : decode cX6_termOf 160 = .ok (.iload_n 1, 1) := dk_27 (dk_at dksX6_termOf_6 17 rfl rfl)
theorem dX6_termOf_161 : decode cX6_termOf 161 = .ok (.invokevirtual 285, 3) := dk_182 1 29 (dk_at dksX6_termOf_6 18 rfl rfl)
theorem dX6_termOf_164 : decode cX6_termOf 164 = .ok (.lstore_n 2, 1) := dk_65 (dk_at dksX6_termOf_6 21 rfl rfl)
theorem dX6_termOf_165 : decode cX6_termOf 165 = .ok (.goto (-159), 3) := dk_167 255 97 (dk_at dksX6_termOf_7 0 rfl rfl)
theorem dX6_termOf_168 : decode cX6_termOf 168 = .ok (.lload_n 2, 1) := dk_32 (dk_at dksX6_termOf_7 3 rfl rfl)
theorem dX6_termOf_169 : decode cX6_termOf 169 = .ok (.lreturn, 1) := dk_173 (dk_at dksX6_termOf_7 4 rfl rfl)
abbrev cX6_partOf : ByteArray := prog_24_method_65_code
def yX6_partOf : MethodName := ⟨RX6, "partOf", "(Z)J"⟩
def dkwX6_partOf_6 : List UInt8 := [182, 1, 45, 133, 167, 0, 13, 42, 180, 0, 59, 28, 16, 8, 100, 46, 133, 173]
abbrev dktX6_partOf_6 : List UInt8 := dkwX6_partOf_6 ++ []
def dkwX6_partOf_5 : List UInt8 := [17, 11, 44, 42, 180, 1, 12, 96, 4, 100, 46, 133, 173, 42, 180, 1, 42, 153, 0, 13, 42, 28, 29]
abbrev dktX6_partOf_5 : List UInt8 := dkwX6_partOf_5 ++ dktX6_partOf_6
def dkwX6_partOf_4 : List UInt8 := [153, 0, 10, 42, 180, 1, 22, 153, 0, 5, 9, 173, 28, 16, 50, 160, 0, 20, 42, 180, 0, 24]
abbrev dktX6_partOf_4 : List UInt8 := dkwX6_partOf_4 ++ dktX6_partOf_5
def dkwX6_partOf_3 : List UInt8 := [180, 0, 24, 17, 11, 44, 42, 180, 1, 12, 96, 46, 62, 42, 89, 180, 1, 12, 4, 96, 181, 1, 12, 27]
abbrev dktX6_partOf_3 : List UInt8 := dkwX6_partOf_3 ++ dktX6_partOf_4
def dkwX6_partOf_2 : List UInt8 := [181, 1, 12, 42, 180, 1, 42, 153, 0, 39, 28, 16, 14, 159, 0, 9, 28, 16, 20, 160, 0, 27, 42]
abbrev dktX6_partOf_2 : List UInt8 := dkwX6_partOf_2 ++ dktX6_partOf_3
def dkwX6_partOf_1 : List UInt8 := [96, 181, 1, 12, 32, 173, 42, 42, 180, 1, 12, 182, 1, 15, 61, 3, 62, 42, 89, 180, 1, 12, 4, 96]
abbrev dktX6_partOf_1 : List UInt8 := dkwX6_partOf_1 ++ dktX6_partOf_2
def dkwX6_partOf_0 : List UInt8 := [42, 16, 91, 184, 0, 227, 182, 1, 36, 153, 0, 21, 42, 27, 182, 1, 39, 65, 42, 89, 180, 1, 12, 4]
abbrev dktX6_partOf_0 : List UInt8 := dkwX6_partOf_0 ++ dktX6_partOf_1
theorem dksX6_partOf_0 : cX6_partOf.data.toList.drop 0 = dktX6_partOf_0 := by decide +kernel
theorem dksX6_partOf_1 : cX6_partOf.data.toList.drop 24 = dktX6_partOf_1 := dk_seg dksX6_partOf_0 24 rfl rfl
theorem dksX6_partOf_2 : cX6_partOf.data.toList.drop 48 = dktX6_partOf_2 := dk_seg dksX6_partOf_1 24 rfl rfl
theorem dksX6_partOf_3 : cX6_partOf.data.toList.drop 71 = dktX6_partOf_3 := dk_seg dksX6_partOf_2 23 rfl rfl
theorem dksX6_partOf_4 : cX6_partOf.data.toList.drop 95 = dktX6_partOf_4 := dk_seg dksX6_partOf_3 24 rfl rfl
theorem dksX6_partOf_5 : cX6_partOf.data.toList.drop 117 = dktX6_partOf_5 := dk_seg dksX6_partOf_4 22 rfl rfl
theorem dksX6_partOf_6 : cX6_partOf.data.toList.drop 140 = dktX6_partOf_6 := dk_seg dksX6_partOf_5 23 rfl rfl
theorem dX6_partOf_0 : decode cX6_partOf 0 = .ok (.aload_n 0, 1) := dk_42 (dk_at dksX6_partOf_0 0 rfl rfl)
theorem dX6_partOf_1 : decode cX6_partOf 1 = .ok (.bipush 91, 2) := dk_16 91 (dk_at dksX6_partOf_0 1 rfl rfl)
theorem dX6_partOf_3 : decode cX6_partOf 3 = .ok (.invokestatic 227, 3) := dk_184 0 227 (dk_at dksX6_partOf_0 3 rfl rfl)
theorem dX6_partOf_6 : decode cX6_partOf 6 = .ok (.invokevirtual 292, 3) := dk_182 1 36 (dk_at dksX6_partOf_0 6 rfl rfl)
theorem dX6_partOf_9 : decode cX6_partOf 9 = .ok (.ifCond .eq 21, 3) := dk_153 0 21 (dk_at dksX6_partOf_0 9 rfl rfl)
theorem dX6_partOf_12 : decode cX6_partOf 12 = .ok (.aload_n 0, 1) := dk_42 (dk_at dksX6_partOf_0 12 rfl rfl)
theorem dX6_partOf_13 : decode cX6_partOf 13 = .ok (.iload_n 1, 1) := dk_27 (dk_at dksX6_partOf_0 13 rfl rfl)
theorem dX6_partOf_14 : decode cX6_partOf 14 = .ok (.invokevirtual 295, 3) := dk_182 1 39 (dk_at dksX6_partOf_0 14 rfl rfl)
theorem dX6_partOf_17 : decode cX6_partOf 17 = .ok (.lstore_n 2, 1) := dk_65 (dk_at dksX6_partOf_0 17 rfl rfl)
theorem dX6_partOf_18 : decode cX6_partOf 18 = .ok (.aload_n 0, 1) := dk_42 (dk_at dksX6_partOf_0 18 rfl rfl)
theorem dX6_partOf_19 : decode cX6_partOf 19 = .ok (.dup, 1) := dk_89 (dk_at dksX6_partOf_0 19 rfl rfl)
theorem dX6_partOf_20 : decode cX6_partOf 20 = .ok (.getfield 268, 3) := dk_180 1 12 (dk_at dksX6_partOf_0 20 rfl rfl)
theorem dX6_partOf_23 : decode cX6_partOf 23 = .ok (.iconst 1, 1) := dk_4 (dk_at dksX6_partOf_0 23 rfl rfl)
theorem dX6_partOf_24 : decode cX6_partOf 24 = .ok (.iadd, 1) := dk_96 (dk_at dksX6_partOf_1 0 rfl rfl)
theorem dX6_partOf_25 : decode cX6_partOf 25 = .ok (.putfield 268, 3) := dk_181 1 12 (dk_at dksX6_partOf_1 1 rfl rfl)
theorem dX6_partOf_28 : decode cX6_partOf 28 = .ok (.lload_n 2, 1) := dk_32 (dk_at dksX6_partOf_1 4 rfl rfl)
theorem dX6_partOf_29 : decode cX6_partOf 29 = .ok (.lreturn, 1) := dk_173 (dk_at dksX6_partOf_1 5 rfl rfl)
theorem dX6_partOf_30 : decode cX6_partOf 30 = .ok (.aload_n 0, 1) := dk_42 (dk_at dksX6_partOf_1 6 rfl rfl)
theorem dX6_partOf_31 : decode cX6_partOf 31 = .ok (.aload_n 0, 1) := dk_42 (dk_at dksX6_partOf_1 7 rfl rfl)
theorem dX6_partOf_32 : decode cX6_partOf 32 = .ok (.getfield 268, 3) := dk_180 1 12 (dk_at dksX6_partOf_1 8 rfl rfl)
theorem dX6_partOf_35 : decode cX6_partOf 35 = .ok (.invokevirtual 271, 3) := dk_182 1 15 (dk_at dksX6_partOf_1 11 rfl rfl)
theorem dX6_partOf_38 : decode cX6_partOf 38 = .ok (.istore_n 2, 1) := dk_61 (dk_at dksX6_partOf_1 14 rfl rfl)
theorem dX6_partOf_39 : decode cX6_partOf 39 = .ok (.iconst 0, 1) := dk_3 (dk_at dksX6_partOf_1 15 rfl rfl)
theorem dX6_partOf_40 : decode cX6_partOf 40 = .ok (.istore_n 3, 1) := dk_62 (dk_at dksX6_partOf_1 16 rfl rfl)
theorem dX6_partOf_41 : decode cX6_partOf 41 = .ok (.aload_n 0, 1) := dk_42 (dk_at dksX6_partOf_1 17 rfl rfl)
theorem dX6_partOf_42 : decode cX6_partOf 42 = .ok (.dup, 1) := dk_89 (dk_at dksX6_partOf_1 18 rfl rfl)
theorem dX6_partOf_43 : decode cX6_partOf 43 = .ok (.getfield 268, 3) := dk_180 1 12 (dk_at dksX6_partOf_1 19 rfl rfl)
theorem dX6_partOf_46 : decode cX6_partOf 46 = .ok (.iconst 1, 1) := dk_4 (dk_at dksX6_partOf_1 22 rfl rfl)
theorem dX6_partOf_47 : decode cX6_partOf 47 = .ok (.iadd, 1) := dk_96 (dk_at dksX6_partOf_1 23 rfl rfl)
theorem dX6_partOf_48 : decode cX6_partOf 48 = .ok (.putfield 268, 3) := dk_181 1 12 (dk_at dksX6_partOf_2 0 rfl rfl)
theorem dX6_partOf_51 : decode cX6_partOf 51 = .ok (.aload_n 0, 1) := dk_42 (dk_at dksX6_partOf_2 3 rfl rfl)
theorem dX6_partOf_52 : decode cX6_partOf 52 = .ok (.getfield 298, 3) := dk_180 1 42 (dk_at dksX6_partOf_2 4 rfl rfl)
theorem dX6_partOf_55 : decode cX6_partOf 55 = .ok (.ifCond .eq 39, 3) := dk_153 0 39 (dk_at dksX6_partOf_2 7 rfl rfl)
theorem dX6_partOf_58 : decode cX6_partOf 58 = .ok (.iload_n 2, 1) := dk_28 (dk_at dksX6_partOf_2 10 rfl rfl)
theorem dX6_partOf_59 : decode cX6_partOf 59 = .ok (.bipush 14, 2) := dk_16 14 (dk_at dksX6_partOf_2 11 rfl rfl)
theorem dX6_partOf_61 : decode cX6_partOf 61 = .ok (.if_icmp .eq 9, 3) := dk_159 0 9 (dk_at dksX6_partOf_2 13 rfl rfl)
theorem dX6_partOf_64 : decode cX6_partOf 64 = .ok (.iload_n 2, 1) := dk_28 (dk_at dksX6_partOf_2 16 rfl rfl)
theorem dX6_partOf_65 : decode cX6_partOf 65 = .ok (.bipush 20, 2) := dk_16 20 (dk_at dksX6_partOf_2 17 rfl rfl)
theorem dX6_partOf_67 : decode cX6_partOf 67 = .ok (.if_icmp .ne 27, 3) := dk_160 0 27 (dk_at dksX6_partOf_2 19 rfl rfl)
theorem dX6_partOf_70 : decode cX6_partOf 70 = .ok (.aload_n 0, 1) := dk_42 (dk_at dksX6_partOf_2 22 rfl rfl)
theorem dX6_partOf_71 : decode cX6_partOf 71 = .ok (.getfield 24, 3) := dk_180 0 24 (dk_at dksX6_partOf_3 0 rfl rfl)
theorem dX6_partOf_74 : decode cX6_partOf 74 = .ok (.sipush 2860, 3) := dk_17 11 44 (dk_at dksX6_partOf_3 3 rfl rfl)
theorem dX6_partOf_77 : decode cX6_partOf 77 = .ok (.aload_n 0, 1) := dk_42 (dk_at dksX6_partOf_3 6 rfl rfl)
theorem dX6_partOf_78 : decode cX6_partOf 78 = .ok (.getfield 268, 3) := dk_180 1 12 (dk_at dksX6_partOf_3 7 rfl rfl)
theorem dX6_partOf_81 : decode cX6_partOf 81 = .ok (.iadd, 1) := dk_96 (dk_at dksX6_partOf_3 10 rfl rfl)
theorem dX6_partOf_82 : decode cX6_partOf 82 = .ok (.iaload, 1) := dk_46 (dk_at dksX6_partOf_3 11 rfl rfl)
theorem dX6_partOf_83 : decode cX6_partOf 83 = .ok (.istore_n 3, 1) := dk_62 (dk_at dksX6_partOf_3 12 rfl rfl)
theorem dX6_partOf_84 : decode cX6_partOf 84 = .ok (.aload_n 0, 1) := dk_42 (dk_at dksX6_partOf_3 13 rfl rfl)
theorem dX6_partOf_85 : decode cX6_partOf 85 = .ok (.dup, 1) := dk_89 (dk_at dksX6_partOf_3 14 rfl rfl)
theorem dX6_partOf_86 : decode cX6_partOf 86 = .ok (.getfield 268, 3) := dk_180 1 12 (dk_at dksX6_partOf_3 15 rfl rfl)
theorem dX6_partOf_89 : decode cX6_partOf 89 = .ok (.iconst 1, 1) := dk_4 (dk_at dksX6_partOf_3 18 rfl rfl)
theorem dX6_partOf_90 : decode cX6_partOf 90 = .ok (.iadd, 1) := dk_96 (dk_at dksX6_partOf_3 19 rfl rfl)
theorem dX6_partOf_91 : decode cX6_partOf 91 = .ok (.putfield 268, 3) := dk_181 1 12 (dk_at dksX6_partOf_3 20 rfl rfl)
theorem dX6_partOf_94 : decode cX6_partOf 94 = .ok (.iload_n 1, 1) := dk_27 (dk_at dksX6_partOf_3 23 rfl rfl)
theorem dX6_partOf_95 : decode cX6_partOf 95 = .ok (.ifCond .eq 10, 3) := dk_153 0 10 (dk_at dksX6_partOf_4 0 rfl rfl)
theorem dX6_partOf_98 : decode cX6_partOf 98 = .ok (.aload_n 0, 1) := dk_42 (dk_at dksX6_partOf_4 3 rfl rfl)
theorem dX6_partOf_99 : decode cX6_partOf 99 = .ok (.getfield 278, 3) := dk_180 1 22 (dk_at dksX6_partOf_4 4 rfl rfl)
theorem dX6_partOf_102 : decode cX6_partOf 102 = .ok (.ifCond .eq 5, 3) := dk_153 0 5 (dk_at dksX6_partOf_4 7 rfl rfl)
theorem dX6_partOf_105 : decode cX6_partOf 105 = .ok (.lconst 0, 1) := dk_9 (dk_at dksX6_partOf_4 10 rfl rfl)
theorem dX6_partOf_106 : decode cX6_partOf 106 = .ok (.lreturn, 1) := dk_173 (dk_at dksX6_partOf_4 11 rfl rfl)
theorem dX6_partOf_107 : decode cX6_partOf 107 = .ok (.iload_n 2, 1) := dk_28 (dk_at dksX6_partOf_4 12 rfl rfl)
theorem dX6_partOf_108 : decode cX6_partOf 108 = .ok (.bipush 50, 2) := dk_16 50 (dk_at dksX6_partOf_4 13 rfl rfl)
theorem dX6_partOf_110 : decode cX6_partOf 110 = .ok (.if_icmp .ne 20, 3) := dk_160 0 20 (dk_at dksX6_partOf_4 15 rfl rfl)
theorem dX6_partOf_113 : decode cX6_partOf 113 = .ok (.aload_n 0, 1) := dk_42 (dk_at dksX6_partOf_4 18 rfl rfl)
theorem dX6_partOf_114 : decode cX6_partOf 114 = .ok (.getfield 24, 3) := dk_180 0 24 (dk_at dksX6_partOf_4 19 rfl rfl)
theorem dX6_partOf_117 : decode cX6_partOf 117 = .ok (.sipush 2860, 3) := dk_17 11 44 (dk_at dksX6_partOf_5 0 rfl rfl)
theorem dX6_partOf_120 : decode cX6_partOf 120 = .ok (.aload_n 0, 1) := dk_42 (dk_at dksX6_partOf_5 3 rfl rfl)
theorem dX6_partOf_121 : decode cX6_partOf 121 = .ok (.getfield 268, 3) := dk_180 1 12 (dk_at dksX6_partOf_5 4 rfl rfl)
theorem dX6_partOf_124 : decode cX6_partOf 124 = .ok (.iadd, 1) := dk_96 (dk_at dksX6_partOf_5 7 rfl rfl)
theorem dX6_partOf_125 : decode cX6_partOf 125 = .ok (.iconst 1, 1) := dk_4 (dk_at dksX6_partOf_5 8 rfl rfl)
theorem dX6_partOf_126 : decode cX6_partOf 126 = .ok (.isub, 1) := dk_100 (dk_at dksX6_partOf_5 9 rfl rfl)
theorem dX6_partOf_127 : decode cX6_partOf 127 = .ok (.iaload, 1) := dk_46 (dk_at dksX6_partOf_5 10 rfl rfl)
theorem dX6_partOf_128 : decode cX6_partOf 128 = .ok (.i2l, 1) := dk_133 (dk_at dksX6_partOf_5 11 rfl rfl)
theorem dX6_partOf_129 : decode cX6_partOf 129 = .ok (.lreturn, 1) := dk_173 (dk_at dksX6_partOf_5 12 rfl rfl)
theorem dX6_partOf_130 : decode cX6_partOf 130 = .ok (.aload_n 0, 1) := dk_42 (dk_at dksX6_partOf_5 13 rfl rfl)
theorem dX6_partOf_131 : decode cX6_partOf 131 = .ok (.getfield 298, 3) := dk_180 1 42 (dk_at dksX6_partOf_5 14 rfl rfl)
theorem dX6_partOf_134 : decode cX6_partOf 134 = .ok (.ifCond .eq 13, 3) := dk_153 0 13 (dk_at dksX6_partOf_5 17 rfl rfl)
theorem dX6_partOf_137 : decode cX6_partOf 137 = .ok (.aload_n 0, 1) := dk_42 (dk_at dksX6_partOf_5 20 rfl rfl)
theorem dX6_partOf_138 : decode cX6_partOf 138 = .ok (.iload_n 2, 1) := dk_28 (dk_at dksX6_partOf_5 21 rfl rfl)
theorem dX6_partOf_139 : decode cX6_partOf 139 = .ok (.iload_n 3, 1) := dk_29 (dk_at dksX6_partOf_5 22 rfl rfl)
theorem dX6_partOf_140 : decode cX6_partOf 140 = .ok (.invokevirtual 301, 3) := dk_182 1 45 (dk_at dksX6_partOf_6 0 rfl rfl)
theorem dX6_partOf_143 : decode cX6_partOf 143 = .ok (.i2l, 1) := dk_133 (dk_at dksX6_partOf_6 3 rfl rfl)
theorem dX6_partOf_144 : decode cX6_partOf 144 = .ok (.goto 13, 3) := dk_167 0 13 (dk_at dksX6_partOf_6 4 rfl rfl)
theorem dX6_partOf_147 : decode cX6_partOf 147 = .ok (.aload_n 0, 1) := dk_42 (dk_at dksX6_partOf_6 7 rfl rfl)
theorem dX6_partOf_148 : decode cX6_partOf 148 = .ok (.getfield 59, 3) := dk_180 0 59 (dk_at dksX6_partOf_6 8 rfl rfl)
theorem dX6_partOf_151 : decode cX6_partOf 151 = .ok (.iload_n 2, 1) := dk_28 (dk_at dksX6_partOf_6 11 rfl rfl)
theorem dX6_partOf_152 : decode cX6_partOf 152 = .ok (.bipush 8, 2) := dk_16 8 (dk_at dksX6_partOf_6 12 rfl rfl)
theorem dX6_partOf_154 : decode cX6_partOf 154 = .ok (.isub, 1) := dk_100 (dk_at dksX6_partOf_6 14 rfl rfl)
theorem dX6_partOf_155 : decode cX6_partOf 155 = .ok (.iaload, 1) := dk_46 (dk_at dksX6_partOf_6 15 rfl rfl)
theorem dX6_partOf_156 : decode cX6_partOf 156 = .ok (.i2l, 1) := dk_133 (dk_at dksX6_partOf_6 16 rfl rfl)
theorem dX6_partOf_157 : decode cX6_partOf 157 = .ok (.lreturn, 1) := dk_173 (dk_at dksX6_partOf_6 17 rfl rfl)
abbrev cX6_sign : ByteArray := prog_24_method_42_code
def yX6_sign : MethodName := ⟨RX6, "sign", "(C)I"⟩
def dkwX6_sign_0 : List UInt8 := [16, 100, 26, 96, 172]
abbrev dktX6_sign_0 : List UInt8 := dkwX6_sign_0 ++ []
theorem dksX6_sign_0 : cX6_sign.data.toList.drop 0 = dktX6_sign_0 := by decide +kernel
theorem dX6_sign_0 : decode cX6_sign 0 = .ok (.bipush 100, 2) := dk_16 100 (dk_at dksX6_sign_0 0 rfl rfl)
theorem dX6_sign_2 : decode cX6_sign 2 = .ok (.iload_n 0, 1) := dk_26 (dk_at dksX6_sign_0 2 rfl rfl)
theorem dX6_sign_3 : decode cX6_sign 3 = .ok (.iadd, 1) := dk_96 (dk_at dksX6_sign_0 3 rfl rfl)
theorem dX6_sign_4 : decode cX6_sign 4 = .ok (.ireturn, 1) := dk_172 (dk_at dksX6_sign_0 4 rfl rfl)
abbrev cX6_passes0 : ByteArray := prog_24_method_61_code
def yX6_passes0 : MethodName := ⟨RX6, "passes0", "(I)Z"⟩
def dkwX6_passes0_1 : List UInt8 := [180, 1, 12, 4, 96, 181, 1, 12, 28, 172]
abbrev dktX6_passes0_1 : List UInt8 := dkwX6_passes0_1 ++ []
def dkwX6_passes0_0 : List UInt8 := [42, 42, 180, 1, 12, 182, 1, 15, 27, 160, 0, 7, 4, 167, 0, 4, 3, 61, 28, 153, 0, 13, 42, 89]
abbrev dktX6_passes0_0 : List UInt8 := dkwX6_passes0_0 ++ dktX6_passes0_1
theorem dksX6_passes0_0 : cX6_passes0.data.toList.drop 0 = dktX6_passes0_0 := by decide +kernel
theorem dksX6_passes0_1 : cX6_passes0.data.toList.drop 24 = dktX6_passes0_1 := dk_seg dksX6_passes0_0 24 rfl rfl
theorem dX6_passes0_0 : decode cX6_passes0 0 = .ok (.aload_n 0, 1) := dk_42 (dk_at dksX6_passes0_0 0 rfl rfl)
theorem dX6_passes0_1 : decode cX6_passes0 1 = .ok (.aload_n 0, 1) := dk_42 (dk_at dksX6_passes0_0 1 rfl rfl)
theorem dX6_passes0_2 : decode cX6_passes0 2 = .ok (.getfield 268, 3) := dk_180 1 12 (dk_at dksX6_passes0_0 2 rfl rfl)
theorem dX6_passes0_5 : decode cX6_passes0 5 = .ok (.invokevirtual 271, 3) := dk_182 1 15 (dk_at dksX6_passes0_0 5 rfl rfl)
theorem dX6_passes0_8 : decode cX6_passes0 8 = .ok (.iload_n 1, 1) := dk_27 (dk_at dksX6_passes0_0 8 rfl rfl)
theorem dX6_passes0_9 : decode cX6_passes0 9 = .ok (.if_icmp .ne 7, 3) := dk_160 0 7 (dk_at dksX6_passes0_0 9 rfl rfl)
theorem dX6_passes0_12 : decode cX6_passes0 12 = .ok (.iconst 1, 1) := dk_4 (dk_at dksX6_passes0_0 12 rfl rfl)
theorem dX6_passes0_13 : decode cX6_passes0 13 = .ok (.goto 4, 3) := dk_167 0 4 (dk_at dksX6_passes0_0 13 rfl rfl)
theorem dX6_passes0_16 : decode cX6_passes0 16 = .ok (.iconst 0, 1) := dk_3 (dk_at dksX6_passes0_0 16 rfl rfl)
theorem dX6_passes0_17 : decode cX6_passes0 17 = .ok (.istore_n 2, 1) := dk_61 (dk_at dksX6_passes0_0 17 rfl rfl)
theorem dX6_passes0_18 : decode cX6_passes0 18 = .ok (.iload_n 2, 1) := dk_28 (dk_at dksX6_passes0_0 18 rfl rfl)
theorem dX6_passes0_19 : decode cX6_passes0 19 = .ok (.ifCond .eq 13, 3) := dk_153 0 13 (dk_at dksX6_passes0_0 19 rfl rfl)
theorem dX6_passes0_22 : decode cX6_passes0 22 = .ok (.aload_n 0, 1) := dk_42 (dk_at dksX6_passes0_0 22 rfl rfl)
theorem dX6_passes0_23 : decode cX6_passes0 23 = .ok (.dup, 1) := dk_89 (dk_at dksX6_passes0_0 23 rfl rfl)
theorem dX6_passes0_24 : decode cX6_passes0 24 = .ok (.getfield 268, 3) := dk_180 1 12 (dk_at dksX6_passes0_1 0 rfl rfl)
theorem dX6_passes0_27 : decode cX6_passes0 27 = .ok (.iconst 1, 1) := dk_4 (dk_at dksX6_passes0_1 3 rfl rfl)
theorem dX6_passes0_28 : decode cX6_passes0 28 = .ok (.iadd, 1) := dk_96 (dk_at dksX6_passes0_1 4 rfl rfl)
theorem dX6_passes0_29 : decode cX6_passes0 29 = .ok (.putfield 268, 3) := dk_181 1 12 (dk_at dksX6_passes0_1 5 rfl rfl)
theorem dX6_passes0_32 : decode cX6_passes0 32 = .ok (.iload_n 2, 1) := dk_28 (dk_at dksX6_passes0_1 8 rfl rfl)
theorem dX6_passes0_33 : decode cX6_passes0 33 = .ok (.ireturn, 1) := dk_172 (dk_at dksX6_passes0_1 9 rfl rfl)
abbrev cX6_orderValue : ByteArray := prog_24_method_67_code
def yX6_orderValue : MethodName := ⟨RX6, "orderValue", "(II)I"⟩
def dkwX6_orderValue_5 : List UInt8 := [180, 1, 54, 172, 42, 182, 1, 57, 172]
abbrev dktX6_orderValue_5 : List UInt8 := dkwX6_orderValue_5 ++ []
def dkwX6_orderValue_4 : List UInt8 := [42, 180, 0, 24, 3, 46, 184, 1, 48, 172, 42, 180, 0, 24, 8, 46, 172, 42, 180, 1, 51, 172, 42]
abbrev dktX6_orderValue_4 : List UInt8 := dkwX6_orderValue_4 ++ dktX6_orderValue_5
def dkwX6_orderValue_3 : List UInt8 := [182, 0, 130, 154, 0, 7, 2, 167, 0, 16, 42, 28, 182, 0, 134, 153, 0, 7, 4, 167, 0, 4, 3, 172]
abbrev dktX6_orderValue_3 : List UInt8 := dkwX6_orderValue_3 ++ dktX6_orderValue_4
def dkwX6_orderValue_2 : List UInt8 := [42, 28, 182, 0, 143, 153, 0, 14, 42, 180, 0, 24, 4, 28, 96, 46, 167, 0, 4, 2, 172, 42, 28]
abbrev dktX6_orderValue_2 : List UInt8 := dkwX6_orderValue_2 ++ dktX6_orderValue_3
def dkwX6_orderValue_1 : List UInt8 := [170, 0, 0, 0, 0, 0, 117, 0, 0, 0, 14, 0, 0, 0, 20, 0, 0, 0, 43, 0, 0, 0, 90, 0, 0, 0, 100, 0, 0, 0, 107, 0, 0, 0, 112, 0, 0, 0, 117, 0, 0, 0, 64]
abbrev dktX6_orderValue_1 : List UInt8 := dkwX6_orderValue_1 ++ dktX6_orderValue_2
def dkwX6_orderValue_0 : List UInt8 := [27]
abbrev dktX6_orderValue_0 : List UInt8 := dkwX6_orderValue_0 ++ dktX6_orderValue_1
theorem dksX6_orderValue_0 : cX6_orderValue.data.toList.drop 0 = dktX6_orderValue_0 := by decide +kernel
theorem dksX6_orderValue_1 : cX6_orderValue.data.toList.drop 1 = dktX6_orderValue_1 := dk_seg dksX6_orderValue_0 1 rfl rfl
theorem dksX6_orderValue_2 : cX6_orderValue.data.toList.drop 44 = dktX6_orderValue_2 := dk_seg dksX6_orderValue_1 43 rfl rfl
theorem dksX6_orderValue_3 : cX6_orderValue.data.toList.drop 67 = dktX6_orderValue_3 := dk_seg dksX6_orderValue_2 23 rfl rfl
theorem dksX6_orderValue_4 : cX6_orderValue.data.toList.drop 91 = dktX6_orderValue_4 := dk_seg dksX6_orderValue_3 24 rfl rfl
theorem dksX6_orderValue_5 : cX6_orderValue.data.toList.drop 114 = dktX6_orderValue_5 := dk_seg dksX6_orderValue_4 23 rfl rfl
theorem dX6_orderValue_0 : decode cX6_orderValue 0 = .ok (.iload_n 1, 1) := dk_27 (dk_at dksX6_orderValue_0 0 rfl rfl)
theorem dX6_orderValue_1 : decode cX6_orderValue 1 = .ok (.tableswitch 117 14 20 #[43, 90, 100, 107, 112, 117, 64], 43) := by decide +kernel
theorem dX6_orderValue_44 : decode cX6_orderValue 44 = .ok (.aload_n 0, 1) := dk_42 (dk_at dksX6_orderValue_2 0 rfl rfl)
theorem dX6_orderValue_45 : decode cX6_orderValue 45 = .ok (.iload_n 2, 1) := dk_28 (dk_at dksX6_orderValue_2 1 rfl rfl)
theorem dX6_orderValue_46 : decode cX6_orderValue 46 = .ok (.invokevirtual 143, 3) := dk_182 0 143 (dk_at dksX6_orderValue_2 2 rfl rfl)
theorem dX6_orderValue_49 : decode cX6_orderValue 49 = .ok (.ifCond .eq 14, 3) := dk_153 0 14 (dk_at dksX6_orderValue_2 5 rfl rfl)
theorem dX6_orderValue_52 : decode cX6_orderValue 52 = .ok (.aload_n 0, 1) := dk_42 (dk_at dksX6_orderValue_2 8 rfl rfl)
theorem dX6_orderValue_53 : decode cX6_orderValue 53 = .ok (.getfield 24, 3) := dk_180 0 24 (dk_at dksX6_orderValue_2 9 rfl rfl)
theorem dX6_orderValue_56 : decode cX6_orderValue 56 = .ok (.iconst 1, 1) := dk_4 (dk_at dksX6_orderValue_2 12 rfl rfl)
theorem dX6_orderValue_57 : decode cX6_orderValue 57 = .ok (.iload_n 2, 1) := dk_28 (dk_at dksX6_orderValue_2 13 rfl rfl)
theorem dX6_orderValue_58 : decode cX6_orderValue 58 = .ok (.iadd, 1) := dk_96 (dk_at dksX6_orderValue_2 14 rfl rfl)
theorem dX6_orderValue_59 : decode cX6_orderValue 59 = .ok (.iaload, 1) := dk_46 (dk_at dksX6_orderValue_2 15 rfl rfl)
theorem dX6_orderValue_60 : decode cX6_orderValue 60 = .ok (.goto 4, 3) := dk_167 0 4 (dk_at dksX6_orderValue_2 16 rfl rfl)
theorem dX6_orderValue_63 : decode cX6_orderValue 63 = .ok (.iconst (-1), 1) := dk_2 (dk_at dksX6_orderValue_2 19 rfl rfl)
theorem dX6_orderValue_64 : decode cX6_orderValue 64 = .ok (.ireturn, 1) := dk_172 (dk_at dksX6_orderValue_2 20 rfl rfl)
theorem dX6_orderValue_65 : decode cX6_orderValue 65 = .ok (.aload_n 0, 1) := dk_42 (dk_at dksX6_orderValue_2 21 rfl rfl)
theorem dX6_orderValue_66 : decode cX6_orderValue 66 = .ok (.iload_n 2, 1) := dk_28 (dk_at dksX6_orderValue_2 22 rfl rfl)
theorem dX6_orderValue_67 : decode cX6_orderValue 67 = .ok (.invokevirtual 130, 3) := dk_182 0 130 (dk_at dksX6_orderValue_3 0 rfl rfl)
theorem dX6_orderValue_70 : decode cX6_orderValue 70 = .ok (.ifCond .ne 7, 3) := dk_154 0 7 (dk_at dksX6_orderValue_3 3 rfl rfl)
theorem dX6_orderValue_73 : decode cX6_orderValue 73 = .ok (.iconst (-1), 1) := dk_2 (dk_at dksX6_orderValue_3 6 rfl rfl)
theorem dX6_orderValue_74 : decode cX6_orderValue 74 = .ok (.goto 16, 3) := dk_167 0 16 (dk_at dksX6_orderValue_3 7 rfl rfl)
theorem dX6_orderValue_77 : decode cX6_orderValue 77 = .ok (.aload_n 0, 1) := dk_42 (dk_at dksX6_orderValue_3 10 rfl rfl)
theorem dX6_orderValue_78 : decode cX6_orderValue 78 = .ok (.iload_n 2, 1) := dk_28 (dk_at dksX6_orderValue_3 11 rfl rfl)
theorem dX6_orderValue_79 : decode cX6_orderValue 79 = .ok (.invokevirtual 134, 3) := dk_182 0 134 (dk_at dksX6_orderValue_3 12 rfl rfl)
theorem dX6_orderValue_82 : decode cX6_orderValue 82 = .ok (.ifCond .eq 7, 3) := dk_153 0 7 (dk_at dksX6_orderValue_3 15 rfl rfl)
theorem dX6_orderValue_85 : decode cX6_orderValue 85 = .ok (.iconst 1, 1) := dk_4 (dk_at dksX6_orderValue_3 18 rfl rfl)
theorem dX6_orderValue_86 : decode cX6_orderValue 86 = .ok (.goto 4, 3) := dk_167 0 4 (dk_at dksX6_orderValue_3 19 rfl rfl)
theorem dX6_orderValue_89 : decode cX6_orderValue 89 = .ok (.iconst 0, 1) := dk_3 (dk_at dksX6_orderValue_3 22 rfl rfl)
theorem dX6_orderValue_90 : decode cX6_orderValue 90 = .ok (.ireturn, 1) := dk_172 (dk_at dksX6_orderValue_3 23 rfl rfl)
theorem dX6_orderValue_91 : decode cX6_orderValue 91 = .ok (.aload_n 0, 1) := dk_42 (dk_at dksX6_orderValue_4 0 rfl rfl)
theorem dX6_orderValue_92 : decode cX6_orderValue 92 = .ok (.getfield 24, 3) := dk_180 0 24 (dk_at dksX6_orderValue_4 1 rfl rfl)
theorem dX6_orderValue_95 : decode cX6_orderValue 95 = .ok (.iconst 0, 1) := dk_3 (dk_at dksX6_orderValue_4 4 rfl rfl)
theorem dX6_orderValue_96 : decode cX6_orderValue 96 = .ok (.iaload, 1) := dk_46 (dk_at dksX6_orderValue_4 5 rfl rfl)
theorem dX6_orderValue_97 : decode cX6_orderValue 97 = .ok (.invokestatic 304, 3) := dk_184 1 48 (dk_at dksX6_orderValue_4 6 rfl rfl)
theorem dX6_orderValue_100 : decode cX6_orderValue 100 = .ok (.ireturn, 1) := dk_172 (dk_at dksX6_orderValue_4 9 rfl rfl)
theorem dX6_orderValue_101 : decode cX6_orderValue 101 = .ok (.aload_n 0, 1) := dk_42 (dk_at dksX6_orderValue_4 10 rfl rfl)
theorem dX6_orderValue_102 : decode cX6_orderValue 102 = .ok (.getfield 24, 3) := dk_180 0 24 (dk_at dksX6_orderValue_4 11 rfl rfl)
theorem dX6_orderValue_105 : decode cX6_orderValue 105 = .ok (.iconst 5, 1) := dk_8 (dk_at dksX6_orderValue_4 14 rfl rfl)
theorem dX6_orderValue_106 : decode cX6_orderValue 106 = .ok (.iaload, 1) := dk_46 (dk_at dksX6_orderValue_4 15 rfl rfl)
theorem dX6_orderValue_107 : decode cX6_orderValue 107 = .ok (.ireturn, 1) := dk_172 (dk_at dksX6_orderValue_4 16 rfl rfl)
theorem dX6_orderValue_108 : decode cX6_orderValue 108 = .ok (.aload_n 0, 1) := dk_42 (dk_at dksX6_orderValue_4 17 rfl rfl)
theorem dX6_orderValue_109 : decode cX6_orderValue 109 = .ok (.getfield 307, 3) := dk_180 1 51 (dk_at dksX6_orderValue_4 18 rfl rfl)
theorem dX6_orderValue_112 : decode cX6_orderValue 112 = .ok (.ireturn, 1) := dk_172 (dk_at dksX6_orderValue_4 21 rfl rfl)
theorem dX6_orderValue_113 : decode cX6_orderValue 113 = .ok (.aload_n 0, 1) := dk_42 (dk_at dksX6_orderValue_4 22 rfl rfl)
theorem dX6_orderValue_114 : decode cX6_orderValue 114 = .ok (.getfield 310, 3) := dk_180 1 54 (dk_at dksX6_orderValue_5 0 rfl rfl)
theorem dX6_orderValue_117 : decode cX6_orderValue 117 = .ok (.ireturn, 1) := dk_172 (dk_at dksX6_orderValue_5 3 rfl rfl)
theorem dX6_orderValue_118 : decode cX6_orderValue 118 = .ok (.aload_n 0, 1) := dk_42 (dk_at dksX6_orderValue_5 4 rfl rfl)
theorem dX6_orderValue_119 : decode cX6_orderValue 119 = .ok (.invokevirtual 313, 3) := dk_182 1 57 (dk_at dksX6_orderValue_5 5 rfl rfl)
theorem dX6_orderValue_122 : decode cX6_orderValue 122 = .ok (.ireturn, 1) := dk_172 (dk_at dksX6_orderValue_5 8 rfl rfl)
abbrev cX6_isLeek : ByteArray := prog_24_method_17_code
def yX6_isLeek : MethodName := ⟨RX6, "isLeek", "(I)Z"⟩
def dkwX6_isLeek_0 : List UInt8 := [27, 3, 42, 182, 0, 116, 4, 100, 184, 0, 102, 172]
abbrev dktX6_isLeek_0 : List UInt8 := dkwX6_isLeek_0 ++ []
theorem dksX6_isLeek_0 : cX6_isLeek.data.toList.drop 0 = dktX6_isLeek_0 := by decide +kernel
theorem dX6_isLeek_0 : decode cX6_isLeek 0 = .ok (.iload_n 1, 1) := dk_27 (dk_at dksX6_isLeek_0 0 rfl rfl)
theorem dX6_isLeek_1 : decode cX6_isLeek 1 = .ok (.iconst 0, 1) := dk_3 (dk_at dksX6_isLeek_0 1 rfl rfl)
theorem dX6_isLeek_2 : decode cX6_isLeek 2 = .ok (.aload_n 0, 1) := dk_42 (dk_at dksX6_isLeek_0 2 rfl rfl)
theorem dX6_isLeek_3 : decode cX6_isLeek 3 = .ok (.invokevirtual 116, 3) := dk_182 0 116 (dk_at dksX6_isLeek_0 3 rfl rfl)
theorem dX6_isLeek_6 : decode cX6_isLeek 6 = .ok (.iconst 1, 1) := dk_4 (dk_at dksX6_isLeek_0 6 rfl rfl)
theorem dX6_isLeek_7 : decode cX6_isLeek 7 = .ok (.isub, 1) := dk_100 (dk_at dksX6_isLeek_0 7 rfl rfl)
theorem dX6_isLeek_8 : decode cX6_isLeek 8 = .ok (.invokestatic 102, 3) := dk_184 0 102 (dk_at dksX6_isLeek_0 8 rfl rfl)
theorem dX6_isLeek_11 : decode cX6_isLeek 11 = .ok (.ireturn, 1) := dk_172 (dk_at dksX6_isLeek_0 11 rfl rfl)
abbrev cX6_leekMany : ByteArray := prog_24_method_15_code
def yX6_leekMany : MethodName := ⟨RX6, "leekMany", "()I"⟩
def dkwX6_leekMany_0 : List UInt8 := [42, 180, 0, 24, 16, 49, 46, 172]
abbrev dktX6_leekMany_0 : List UInt8 := dkwX6_leekMany_0 ++ []
theorem dksX6_leekMany_0 : cX6_leekMany.data.toList.drop 0 = dktX6_leekMany_0 := by decide +kernel
theorem dX6_leekMany_0 : decode cX6_leekMany 0 = .ok (.aload_n 0, 1) := dk_42 (dk_at dksX6_leekMany_0 0 rfl rfl)
theorem dX6_leekMany_1 : decode cX6_leekMany 1 = .ok (.getfield 24, 3) := dk_180 0 24 (dk_at dksX6_leekMany_0 1 rfl rfl)
theorem dX6_leekMany_4 : decode cX6_leekMany 4 = .ok (.bipush 49, 2) := dk_16 49 (dk_at dksX6_leekMany_0 4 rfl rfl)
theorem dX6_leekMany_6 : decode cX6_leekMany 6 = .ok (.iaload, 1) := dk_46 (dk_at dksX6_leekMany_0 6 rfl rfl)
theorem dX6_leekMany_7 : decode cX6_leekMany 7 = .ok (.ireturn, 1) := dk_172 (dk_at dksX6_leekMany_0 7 rfl rfl)
abbrev cX6_allHigh : ByteArray := prog_24_method_66_code
def yX6_allHigh : MethodName := ⟨RX6, "allHigh", "()I"⟩
def dkwX6_allHigh_1 : List UInt8 := [132, 2, 1, 167, 255, 234, 27, 172]
abbrev dktX6_allHigh_1 : List UInt8 := dkwX6_allHigh_1 ++ []
def dkwX6_allHigh_0 : List UInt8 := [3, 60, 3, 61, 28, 42, 182, 0, 116, 162, 0, 20, 27, 42, 180, 0, 24, 4, 28, 96, 46, 96, 60]
abbrev dktX6_allHigh_0 : List UInt8 := dkwX6_allHigh_0 ++ dktX6_allHigh_1
theorem dksX6_allHigh_0 : cX6_allHigh.data.toList.drop 0 = dktX6_allHigh_0 := by decide +kernel
theorem dksX6_allHigh_1 : cX6_allHigh.data.toList.drop 23 = dktX6_allHigh_1 := dk_seg dksX6_allHigh_0 23 rfl rfl
theorem dX6_allHigh_0 : decode cX6_allHigh 0 = .ok (.iconst 0, 1) := dk_3 (dk_at dksX6_allHigh_0 0 rfl rfl)
theorem dX6_allHigh_1 : decode cX6_allHigh 1 = .ok (.istore_n 1, 1) := dk_60 (dk_at dksX6_allHigh_0 1 rfl rfl)
theorem dX6_allHigh_2 : decode cX6_allHigh 2 = .ok (.iconst 0, 1) := dk_3 (dk_at dksX6_allHigh_0 2 rfl rfl)
theorem dX6_allHigh_3 : decode cX6_allHigh 3 = .ok (.istore_n 2, 1) := dk_61 (dk_at dksX6_allHigh_0 3 rfl rfl)
theorem dX6_allHigh_4 : decode cX6_allHigh 4 = .ok (.iload_n 2, 1) := dk_28 (dk_at dksX6_allHigh_0 4 rfl rfl)
theorem dX6_allHigh_5 : decode cX6_allHigh 5 = .ok (.aload_n 0, 1) := dk_42 (dk_at dksX6_allHigh_0 5 rfl rfl)
theorem dX6_allHigh_6 : decode cX6_allHigh 6 = .ok (.invokevirtual 116, 3) := dk_182 0 116 (dk_at dksX6_allHigh_0 6 rfl rfl)
theorem dX6_allHigh_9 : decode cX6_allHigh 9 = .ok (.if_icmp .ge 20, 3) := dk_162 0 20 (dk_at dksX6_allHigh_0 9 rfl rfl)
theorem dX6_allHigh_12 : decode cX6_allHigh 12 = .ok (.iload_n 1, 1) := dk_27 (dk_at dksX6_allHigh_0 12 rfl rfl)
theorem dX6_allHigh_13 : decode cX6_allHigh 13 = .ok (.aload_n 0, 1) := dk_42 (dk_at dksX6_allHigh_0 13 rfl rfl)
theorem dX6_allHigh_14 : decode cX6_allHigh 14 = .ok (.getfield 24, 3) := dk_180 0 24 (dk_at dksX6_allHigh_0 14 rfl rfl)
theorem dX6_allHigh_17 : decode cX6_allHigh 17 = .ok (.iconst 1, 1) := dk_4 (dk_at dksX6_allHigh_0 17 rfl rfl)
theorem dX6_allHigh_18 : decode cX6_allHigh 18 = .ok (.iload_n 2, 1) := dk_28 (dk_at dksX6_allHigh_0 18 rfl rfl)
theorem dX6_allHigh_19 : decode cX6_allHigh 19 = .ok (.iadd, 1) := dk_96 (dk_at dksX6_allHigh_0 19 rfl rfl)
theorem dX6_allHigh_20 : decode cX6_allHigh 20 = .ok (.iaload, 1) := dk_46 (dk_at dksX6_allHigh_0 20 rfl rfl)
theorem dX6_allHigh_21 : decode cX6_allHigh 21 = .ok (.iadd, 1) := dk_96 (dk_at dksX6_allHigh_0 21 rfl rfl)
theorem dX6_allHigh_22 : decode cX6_allHigh 22 = .ok (.istore_n 1, 1) := dk_60 (dk_at dksX6_allHigh_0 22 rfl rfl)
theorem dX6_allHigh_23 : decode cX6_allHigh 23 = .ok (.iinc 2 1, 3) := dk_132 2 1 (dk_at dksX6_allHigh_1 0 rfl rfl)
theorem dX6_allHigh_26 : decode cX6_allHigh 26 = .ok (.goto (-22), 3) := dk_167 255 234 (dk_at dksX6_allHigh_1 3 rfl rfl)
theorem dX6_allHigh_29 : decode cX6_allHigh 29 = .ok (.iload_n 1, 1) := dk_27 (dk_at dksX6_allHigh_1 6 rfl rfl)
theorem dX6_allHigh_30 : decode cX6_allHigh 30 = .ok (.ireturn, 1) := dk_172 (dk_at dksX6_allHigh_1 7 rfl rfl)
abbrev cX6_bounded : ByteArray := prog_24_method_62_code
def yX6_bounded : MethodName := ⟨RX6, "bounded", "(JZ)J"⟩
def dkwX6_bounded_1 : List UInt8 := [181, 1, 22, 42, 180, 1, 22, 153, 0, 7, 9, 167, 0, 4, 31, 173]
abbrev dktX6_bounded_1 : List UInt8 := dkwX6_bounded_1 ++ []
def dkwX6_bounded_0 : List UInt8 := [29, 153, 0, 24, 31, 20, 1, 18, 148, 157, 0, 11, 31, 20, 1, 20, 148, 156, 0, 8, 42, 4]
abbrev dktX6_bounded_0 : List UInt8 := dkwX6_bounded_0 ++ dktX6_bounded_1
theorem dksX6_bounded_0 : cX6_bounded.data.toList.drop 0 = dktX6_bounded_0 := by decide +kernel
theorem dksX6_bounded_1 : cX6_bounded.data.toList.drop 22 = dktX6_bounded_1 := dk_seg dksX6_bounded_0 22 rfl rfl
theorem dX6_bounded_0 : decode cX6_bounded 0 = .ok (.iload_n 3, 1) := dk_29 (dk_at dksX6_bounded_0 0 rfl rfl)
theorem dX6_bounded_1 : decode cX6_bounded 1 = .ok (.ifCond .eq 24, 3) := dk_153 0 24 (dk_at dksX6_bounded_0 1 rfl rfl)
theorem dX6_bounded_4 : decode cX6_bounded 4 = .ok (.lload_n 1, 1) := dk_31 (dk_at dksX6_bounded_0 4 rfl rfl)
theorem dX6_bounded_5 : decode cX6_bounded 5 = .ok (.ldc2_w 274, 3) := dk_20 1 18 (dk_at dksX6_bounded_0 5 rfl rfl)
theorem dX6_bounded_8 : decode cX6_bounded 8 = .ok (.lcmp, 1) := dk_148 (dk_at dksX6_bounded_0 8 rfl rfl)
theorem dX6_bounded_9 : decode cX6_bounded 9 = .ok (.ifCond .gt 11, 3) := dk_157 0 11 (dk_at dksX6_bounded_0 9 rfl rfl)
theorem dX6_bounded_12 : decode cX6_bounded 12 = .ok (.lload_n 1, 1) := dk_31 (dk_at dksX6_bounded_0 12 rfl rfl)
theorem dX6_bounded_13 : decode cX6_bounded 13 = .ok (.ldc2_w 276, 3) := dk_20 1 20 (dk_at dksX6_bounded_0 13 rfl rfl)
theorem dX6_bounded_16 : decode cX6_bounded 16 = .ok (.lcmp, 1) := dk_148 (dk_at dksX6_bounded_0 16 rfl rfl)
theorem dX6_bounded_17 : decode cX6_bounded 17 = .ok (.ifCond .ge 8, 3) := dk_156 0 8 (dk_at dksX6_bounded_0 17 rfl rfl)
theorem dX6_bounded_20 : decode cX6_bounded 20 = .ok (.aload_n 0, 1) := dk_42 (dk_at dksX6_bounded_0 20 rfl rfl)
theorem dX6_bounded_21 : decode cX6_bounded 21 = .ok (.iconst 1, 1) := dk_4 (dk_at dksX6_bounded_0 21 rfl rfl)
theorem dX6_bounded_22 : decode cX6_bounded 22 = .ok (.putfield 278, 3) := dk_181 1 22 (dk_at dksX6_bounded_1 0 rfl rfl)
theorem dX6_bounded_25 : decode cX6_bounded 25 = .ok (.aload_n 0, 1) := dk_42 (dk_at dksX6_bounded_1 3 rfl rfl)
theorem dX6_bounded_26 : decode cX6_bounded 26 = .ok (.getfield 278, 3) := dk_180 1 22 (dk_at dksX6_bounded_1 4 rfl rfl)
theorem dX6_bounded_29 : decode cX6_bounded 29 = .ok (.ifCond .eq 7, 3) := dk_153 0 7 (dk_at dksX6_bounded_1 7 rfl rfl)
theorem dX6_bounded_32 : decode cX6_bounded 32 = .ok (.lconst 0, 1) := dk_9 (dk_at dksX6_bounded_1 10 rfl rfl)
theorem dX6_bounded_33 : decode cX6_bounded 33 = .ok (.goto 4, 3) := dk_167 0 4 (dk_at dksX6_bounded_1 11 rfl rfl)
theorem dX6_bounded_36 : decode cX6_bounded 36 = .ok (.lload_n 1, 1) := dk_31 (dk_at dksX6_bounded_1 14 rfl rfl)
theorem dX6_bounded_37 : decode cX6_bounded 37 = .ok (.lreturn, 1) := dk_173 (dk_at dksX6_bounded_1 15 rfl rfl)
abbrev cX6_testOf : ByteArray := prog_24_method_68_code
def yX6_testOf : MethodName := ⟨RX6, "testOf", "(Z)Z"⟩
def dkwX6_testOf_2 : List UInt8 := [167, 255, 216, 28, 172]
abbrev dktX6_testOf_2 : List UInt8 := dkwX6_testOf_2 ++ []
def dkwX6_testOf_1 : List UInt8 := [167, 0, 4, 3, 182, 1, 60, 62, 28, 154, 0, 7, 29, 153, 0, 7, 4, 167, 0, 4, 3, 61]
abbrev dktX6_testOf_1 : List UInt8 := dkwX6_testOf_1 ++ dktX6_testOf_2
def dkwX6_testOf_0 : List UInt8 := [42, 27, 182, 1, 60, 61, 42, 8, 182, 1, 36, 153, 0, 38, 42, 27, 153, 0, 11, 28, 154, 0, 7, 4]
abbrev dktX6_testOf_0 : List UInt8 := dkwX6_testOf_0 ++ dktX6_testOf_1
theorem dksX6_testOf_0 : cX6_testOf.data.toList.drop 0 = dktX6_testOf_0 := by decide +kernel
theorem dksX6_testOf_1 : cX6_testOf.data.toList.drop 24 = dktX6_testOf_1 := dk_seg dksX6_testOf_0 24 rfl rfl
theorem dksX6_testOf_2 : cX6_testOf.data.toList.drop 46 = dktX6_testOf_2 := dk_seg dksX6_testOf_1 22 rfl rfl
theorem dX6_testOf_0 : decode cX6_testOf 0 = .ok (.aload_n 0, 1) := dk_42 (dk_at dksX6_testOf_0 0 rfl rfl)
theorem dX6_testOf_1 : decode cX6_testOf 1 = .ok (.iload_n 1, 1) := dk_27 (dk_at dksX6_testOf_0 1 rfl rfl)
theorem dX6_testOf_2 : decode cX6_testOf 2 = .ok (.invokevirtual 316, 3) := dk_182 1 60 (dk_at dksX6_testOf_0 2 rfl rfl)
theorem dX6_testOf_5 : decode cX6_testOf 5 = .ok (.istore_n 2, 1) := dk_61 (dk_at dksX6_testOf_0 5 rfl rfl)
theorem dX6_testOf_6 : decode cX6_testOf 6 = .ok (.aload_n 0, 1) := dk_42 (dk_at dksX6_testOf_0 6 rfl rfl)
theorem dX6_testOf_7 : decode cX6_testOf 7 = .ok (.iconst 5, 1) := dk_8 (dk_at dksX6_testOf_0 7 rfl rfl)
theorem dX6_testOf_8 : decode cX6_testOf 8 = .ok (.invokevirtual 292, 3) := dk_182 1 36 (dk_at dksX6_testOf_0 8 rfl rfl)
theorem dX6_testOf_11 : decode cX6_testOf 11 = .ok (.ifCond .eq 38, 3) := dk_153 0 38 (dk_at dksX6_testOf_0 11 rfl rfl)
theorem dX6_testOf_14 : decode cX6_testOf 14 = .ok (.aload_n 0, 1) := dk_42 (dk_at dksX6_testOf_0 14 rfl rfl)
theorem dX6_testOf_15 : decode cX6_testOf 15 = .ok (.iload_n 1, 1) := dk_27 (dk_at dksX6_testOf_0 15 rfl rfl)
theorem dX6_testOf_16 : decode cX6_testOf 16 = .ok (.ifCond .eq 11, 3) := dk_153 0 11 (dk_at dksX6_testOf_0 16 rfl rfl)
theorem dX6_testOf_19 : decode cX6_testOf 19 = .ok (.iload_n 2, 1) := dk_28 (dk_at dksX6_testOf_0 19 rfl rfl)
theorem dX6_testOf_20 : decode cX6_testOf 20 = .ok (.ifCond .ne 7, 3) := dk_154 0 7 (dk_at dksX6_testOf_0 20 rfl rfl)
theorem dX6_testOf_23 : decode cX6_testOf 23 = .ok (.iconst 1, 1) := dk_4 (dk_at dksX6_testOf_0 23 rfl rfl)
theorem dX6_testOf_24 : decode cX6_testOf 24 = .ok (.goto 4, 3) := dk_167 0 4 (dk_at dksX6_testOf_1 0 rfl rfl)
theorem dX6_testOf_27 : decode cX6_testOf 27 = .ok (.iconst 0, 1) := dk_3 (dk_at dksX6_testOf_1 3 rfl rfl)
theorem dX6_testOf_28 : decode cX6_testOf 28 = .ok (.invokevirtual 316, 3) := dk_182 1 60 (dk_at dksX6_testOf_1 4 rfl rfl)
theorem dX6_testOf_31 : decode cX6_testOf 31 = .ok (.istore_n 3, 1) := dk_62 (dk_at dksX6_testOf_1 7 rfl rfl)
theorem dX6_testOf_32 : decode cX6_testOf 32 = .ok (.iload_n 2, 1) := dk_28 (dk_at dksX6_testOf_1 8 rfl rfl)
theorem dX6_testOf_33 : decode cX6_testOf 33 = .ok (.ifCond .ne 7, 3) := dk_154 0 7 (dk_at dksX6_testOf_1 9 rfl rfl)
theorem dX6_testOf_36 : decode cX6_testOf 36 = .ok (.iload_n 3, 1) := dk_29 (dk_at dksX6_testOf_1 12 rfl rfl)
theorem dX6_testOf_37 : decode cX6_testOf 37 = .ok (.ifCond .eq 7, 3) := dk_153 0 7 (dk_at dksX6_testOf_1 13 rfl rfl)
theorem dX6_testOf_40 : decode cX6_testOf 40 = .ok (.iconst 1, 1) := dk_4 (dk_at dksX6_testOf_1 16 rfl rfl)
theorem dX6_testOf_41 : decode cX6_testOf 41 = .ok (.goto 4, 3) := dk_167 0 4 (dk_at dksX6_testOf_1 17 rfl rfl)
theorem dX6_testOf_44 : decode cX6_testOf 44 = .ok (.iconst 0, 1) := dk_3 (dk_at dksX6_testOf_1 20 rfl rfl)
theorem dX6_testOf_45 : decode cX6_testOf 45 = .ok (.istore_n 2, 1) := dk_61 (dk_at dksX6_testOf_1 21 rfl rfl)
theorem dX6_testOf_46 : decode cX6_testOf 46 = .ok (.goto (-40), 3) := dk_167 255 216 (dk_at dksX6_testOf_2 0 rfl rfl)
theorem dX6_testOf_49 : decode cX6_testOf 49 = .ok (.iload_n 2, 1) := dk_28 (dk_at dksX6_testOf_2 3 rfl rfl)
theorem dX6_testOf_50 : decode cX6_testOf 50 = .ok (.ireturn, 1) := dk_172 (dk_at dksX6_testOf_2 4 rfl rfl)
abbrev cX6_bothOf : ByteArray := prog_24_method_69_code
def yX6_bothOf : MethodName := ⟨RX6, "bothOf", "(Z)Z"⟩
def dkwX6_bothOf_2 : List UInt8 := [167, 255, 215, 28, 172]
abbrev dktX6_bothOf_2 : List UInt8 := dkwX6_bothOf_2 ++ []
def dkwX6_bothOf_1 : List UInt8 := [4, 167, 0, 4, 3, 182, 1, 63, 62, 28, 153, 0, 11, 29, 153, 0, 7, 4, 167, 0, 4, 3, 61]
abbrev dktX6_bothOf_1 : List UInt8 := dkwX6_bothOf_1 ++ dktX6_bothOf_2
def dkwX6_bothOf_0 : List UInt8 := [42, 27, 182, 1, 63, 61, 42, 16, 6, 182, 1, 36, 153, 0, 38, 42, 27, 153, 0, 11, 28, 153, 0, 7]
abbrev dktX6_bothOf_0 : List UInt8 := dkwX6_bothOf_0 ++ dktX6_bothOf_1
theorem dksX6_bothOf_0 : cX6_bothOf.data.toList.drop 0 = dktX6_bothOf_0 := by decide +kernel
theorem dksX6_bothOf_1 : cX6_bothOf.data.toList.drop 24 = dktX6_bothOf_1 := dk_seg dksX6_bothOf_0 24 rfl rfl
theorem dksX6_bothOf_2 : cX6_bothOf.data.toList.drop 47 = dktX6_bothOf_2 := dk_seg dksX6_bothOf_1 23 rfl rfl
theorem dX6_bothOf_0 : decode cX6_bothOf 0 = .ok (.aload_n 0, 1) := dk_42 (dk_at dksX6_bothOf_0 0 rfl rfl)
theorem dX6_bothOf_1 : decode cX6_bothOf 1 = .ok (.iload_n 1, 1) := dk_27 (dk_at dksX6_bothOf_0 1 rfl rfl)
theorem dX6_bothOf_2 : decode cX6_bothOf 2 = .ok (.invokevirtual 319, 3) := dk_182 1 63 (dk_at dksX6_bothOf_0 2 rfl rfl)
theorem dX6_bothOf_5 : decode cX6_bothOf 5 = .ok (.istore_n 2, 1) := dk_61 (dk_at dksX6_bothOf_0 5 rfl rfl)
theorem dX6_bothOf_6 : decode cX6_bothOf 6 = .ok (.aload_n 0, 1) := dk_42 (dk_at dksX6_bothOf_0 6 rfl rfl)
theorem dX6_bothOf_7 : decode cX6_bothOf 7 = .ok (.bipush 6, 2) := dk_16 6 (dk_at dksX6_bothOf_0 7 rfl rfl)
theorem dX6_bothOf_9 : decode cX6_bothOf 9 = .ok (.invokevirtual 292, 3) := dk_182 1 36 (dk_at dksX6_bothOf_0 9 rfl rfl)
theorem dX6_bothOf_12 : decode cX6_bothOf 12 = .ok (.ifCond .eq 38, 3) := dk_153 0 38 (dk_at dksX6_bothOf_0 12 rfl rfl)
theorem dX6_bothOf_15 : decode cX6_bothOf 15 = .ok (.aload_n 0, 1) := dk_42 (dk_at dksX6_bothOf_0 15 rfl rfl)
theorem dX6_bothOf_16 : decode cX6_bothOf 16 = .ok (.iload_n 1, 1) := dk_27 (dk_at dksX6_bothOf_0 16 rfl rfl)
theorem dX6_bothOf_17 : decode cX6_bothOf 17 = .ok (.ifCond .eq 11, 3) := dk_153 0 11 (dk_at dksX6_bothOf_0 17 rfl rfl)
theorem dX6_bothOf_20 : decode cX6_bothOf 20 = .ok (.iload_n 2, 1) := dk_28 (dk_at dksX6_bothOf_0 20 rfl rfl)
theorem dX6_bothOf_21 : decode cX6_bothOf 21 = .ok (.ifCond .eq 7, 3) := dk_153 0 7 (dk_at dksX6_bothOf_0 21 rfl rfl)
theorem dX6_bothOf_24 : decode cX6_bothOf 24 = .ok (.iconst 1, 1) := dk_4 (dk_at dksX6_bothOf_1 0 rfl rfl)
theorem dX6_bothOf_25 : decode cX6_bothOf 25 = .ok (.goto 4, 3) := dk_167 0 4 (dk_at dksX6_bothOf_1 1 rfl rfl)
theorem dX6_bothOf_28 : decode cX6_bothOf 28 = .ok (.iconst 0, 1) := dk_3 (dk_at dksX6_bothOf_1 4 rfl rfl)
theorem dX6_bothOf_29 : decode cX6_bothOf 29 = .ok (.invokevirtual 319, 3) := dk_182 1 63 (dk_at dksX6_bothOf_1 5 rfl rfl)
theorem dX6_bothOf_32 : decode cX6_bothOf 32 = .ok (.istore_n 3, 1) := dk_62 (dk_at dksX6_bothOf_1 8 rfl rfl)
theorem dX6_bothOf_33 : decode cX6_bothOf 33 = .ok (.iload_n 2, 1) := dk_28 (dk_at dksX6_bothOf_1 9 rfl rfl)
theorem dX6_bothOf_34 : decode cX6_bothOf 34 = .ok (.ifCond .eq 11, 3) := dk_153 0 11 (dk_at dksX6_bothOf_1 10 rfl rfl)
theorem dX6_bothOf_37 : decode cX6_bothOf 37 = .ok (.iload_n 3, 1) := dk_29 (dk_at dksX6_bothOf_1 13 rfl rfl)
theorem dX6_bothOf_38 : decode cX6_bothOf 38 = .ok (.ifCond .eq 7, 3) := dk_153 0 7 (dk_at dksX6_bothOf_1 14 rfl rfl)
theorem dX6_bothOf_41 : decode cX6_bothOf 41 = .ok (.iconst 1, 1) := dk_4 (dk_at dksX6_bothOf_1 17 rfl rfl)
theorem dX6_bothOf_42 : decode cX6_bothOf 42 = .ok (.goto 4, 3) := dk_167 0 4 (dk_at dksX6_bothOf_1 18 rfl rfl)
theorem dX6_bothOf_45 : decode cX6_bothOf 45 = .ok (.iconst 0, 1) := dk_3 (dk_at dksX6_bothOf_1 21 rfl rfl)
theorem dX6_bothOf_46 : decode cX6_bothOf 46 = .ok (.istore_n 2, 1) := dk_61 (dk_at dksX6_bothOf_1 22 rfl rfl)
theorem dX6_bothOf_47 : decode cX6_bothOf 47 = .ok (.goto (-41), 3) := dk_167 255 215 (dk_at dksX6_bothOf_2 0 rfl rfl)
theorem dX6_bothOf_50 : decode cX6_bothOf 50 = .ok (.iload_n 2, 1) := dk_28 (dk_at dksX6_bothOf_2 3 rfl rfl)
theorem dX6_bothOf_51 : decode cX6_bothOf 51 = .ok (.ireturn, 1) := dk_172 (dk_at dksX6_bothOf_2 4 rfl rfl)
abbrev cX6_plainOf : ByteArray := prog_24_method_70_code
def yX6_plainOf : MethodName := ⟨RX6, "plainOf", "(Z)Z"⟩
def dkwX6_plainOf_1 : List UInt8 := [42, 27, 182, 1, 66, 28, 159, 0, 7, 4, 167, 0, 4, 3, 172]
abbrev dktX6_plainOf_1 : List UInt8 := dkwX6_plainOf_1 ++ []
def dkwX6_plainOf_0 : List UInt8 := [3, 61, 42, 16, 7, 182, 1, 36, 153, 0, 16, 28, 154, 0, 7, 4, 167, 0, 4, 3, 61, 167, 255, 237]
abbrev dktX6_plainOf_0 : List UInt8 := dkwX6_plainOf_0 ++ dktX6_plainOf_1
theorem dksX6_plainOf_0 : cX6_plainOf.data.toList.drop 0 = dktX6_plainOf_0 := by decide +kernel
theorem dksX6_plainOf_1 : cX6_plainOf.data.toList.drop 24 = dktX6_plainOf_1 := dk_seg dksX6_plainOf_0 24 rfl rfl
theorem dX6_plainOf_0 : decode cX6_plainOf 0 = .ok (.iconst 0, 1) := dk_3 (dk_at dksX6_plainOf_0 0 rfl rfl)
theorem dX6_plainOf_1 : decode cX6_plainOf 1 = .ok (.istore_n 2, 1) := dk_61 (dk_at dksX6_plainOf_0 1 rfl rfl)
theorem dX6_plainOf_2 : decode cX6_plainOf 2 = .ok (.aload_n 0, 1) := dk_42 (dk_at dksX6_plainOf_0 2 rfl rfl)
theorem dX6_plainOf_3 : decode cX6_plainOf 3 = .ok (.bipush 7, 2) := dk_16 7 (dk_at dksX6_plainOf_0 3 rfl rfl)
theorem dX6_plainOf_5 : decode cX6_plainOf 5 = .ok (.invokevirtual 292, 3) := dk_182 1 36 (dk_at dksX6_plainOf_0 5 rfl rfl)
theorem dX6_plainOf_8 : decode cX6_plainOf 8 = .ok (.ifCond .eq 16, 3) := dk_153 0 16 (dk_at dksX6_plainOf_0 8 rfl rfl)
theorem dX6_plainOf_11 : decode cX6_plainOf 11 = .ok (.iload_n 2, 1) := dk_28 (dk_at dksX6_plainOf_0 11 rfl rfl)
theorem dX6_plainOf_12 : decode cX6_plainOf 12 = .ok (.ifCond .ne 7, 3) := dk_154 0 7 (dk_at dksX6_plainOf_0 12 rfl rfl)
theorem dX6_plainOf_15 : decode cX6_plainOf 15 = .ok (.iconst 1, 1) := dk_4 (dk_at dksX6_plainOf_0 15 rfl rfl)
theorem dX6_plainOf_16 : decode cX6_plainOf 16 = .ok (.goto 4, 3) := dk_167 0 4 (dk_at dksX6_plainOf_0 16 rfl rfl)
theorem dX6_plainOf_19 : decode cX6_plainOf 19 = .ok (.iconst 0, 1) := dk_3 (dk_at dksX6_plainOf_0 19 rfl rfl)
theorem dX6_plainOf_20 : decode cX6_plainOf 20 = .ok (.istore_n 2, 1) := dk_61 (dk_at dksX6_plainOf_0 20 rfl rfl)
theorem dX6_plainOf_21 : decode cX6_plainOf 21 = .ok (.goto (-19), 3) := dk_167 255 237 (dk_at dksX6_plainOf_0 21 rfl rfl)
theorem dX6_plainOf_24 : decode cX6_plainOf 24 = .ok (.aload_n 0, 1) := dk_42 (dk_at dksX6_plainOf_1 0 rfl rfl)
theorem dX6_plainOf_25 : decode cX6_plainOf 25 = .ok (.iload_n 1, 1) := dk_27 (dk_at dksX6_plainOf_1 1 rfl rfl)
theorem dX6_plainOf_26 : decode cX6_plainOf 26 = .ok (.invokevirtual 322, 3) := dk_182 1 66 (dk_at dksX6_plainOf_1 2 rfl rfl)
theorem dX6_plainOf_29 : decode cX6_plainOf 29 = .ok (.iload_n 2, 1) := dk_28 (dk_at dksX6_plainOf_1 5 rfl rfl)
theorem dX6_plainOf_30 : decode cX6_plainOf 30 = .ok (.if_icmp .eq 7, 3) := dk_159 0 7 (dk_at dksX6_plainOf_1 6 rfl rfl)
theorem dX6_plainOf_33 : decode cX6_plainOf 33 = .ok (.iconst 1, 1) := dk_4 (dk_at dksX6_plainOf_1 9 rfl rfl)
theorem dX6_plainOf_34 : decode cX6_plainOf 34 = .ok (.goto 4, 3) := dk_167 0 4 (dk_at dksX6_plainOf_1 10 rfl rfl)
theorem dX6_plainOf_37 : decode cX6_plainOf 37 = .ok (.iconst 0, 1) := dk_3 (dk_at dksX6_plainOf_1 13 rfl rfl)
theorem dX6_plainOf_38 : decode cX6_plainOf 38 = .ok (.ireturn, 1) := dk_172 (dk_at dksX6_plainOf_1 14 rfl rfl)
abbrev cX6_positiveOf : ByteArray := prog_24_method_71_code
def yX6_positiveOf : MethodName := ⟨RX6, "positiveOf", "(Z)Z"⟩
def dkwX6_positiveOf_5 : List UInt8 := [154, 0, 7, 4, 167, 0, 4, 3, 172]
abbrev dktX6_positiveOf_5 : List UInt8 := dkwX6_positiveOf_5 ++ []
def dkwX6_positiveOf_4 : List UInt8 := [21, 4, 16, 62, 184, 0, 227, 160, 0, 13, 32, 22, 5, 148, 158, 0, 17, 167, 0, 10, 32, 22, 5, 148]
abbrev dktX6_positiveOf_4 : List UInt8 := dkwX6_positiveOf_4 ++ dktX6_positiveOf_5
def dkwX6_positiveOf_3 : List UInt8 := [154, 0, 54, 21, 4, 16, 60, 184, 0, 227, 160, 0, 13, 32, 22, 5, 148, 156, 0, 37, 167, 0, 30]
abbrev dktX6_positiveOf_3 : List UInt8 := dkwX6_positiveOf_3 ++ dktX6_positiveOf_4
def dkwX6_positiveOf_2 : List UInt8 := [180, 1, 12, 4, 96, 181, 1, 12, 42, 27, 182, 1, 39, 55, 5, 27, 153, 0, 61, 42, 180, 1, 22]
abbrev dktX6_positiveOf_2 : List UInt8 := dkwX6_positiveOf_2 ++ dktX6_positiveOf_3
def dkwX6_positiveOf_1 : List UInt8 := [96, 181, 1, 12, 28, 172, 42, 27, 182, 1, 39, 65, 42, 42, 180, 1, 12, 182, 1, 15, 54, 4, 42, 89]
abbrev dktX6_positiveOf_1 : List UInt8 := dkwX6_positiveOf_1 ++ dktX6_positiveOf_2
def dkwX6_positiveOf_0 : List UInt8 := [42, 16, 40, 184, 0, 227, 182, 1, 36, 153, 0, 21, 42, 27, 182, 1, 69, 61, 42, 89, 180, 1, 12, 4]
abbrev dktX6_positiveOf_0 : List UInt8 := dkwX6_positiveOf_0 ++ dktX6_positiveOf_1
theorem dksX6_positiveOf_0 : cX6_positiveOf.data.toList.drop 0 = dktX6_positiveOf_0 := by decide +kernel
theorem dksX6_positiveOf_1 : cX6_positiveOf.data.toList.drop 24 = dktX6_positiveOf_1 := dk_seg dksX6_positiveOf_0 24 rfl rfl
theorem dksX6_positiveOf_2 : cX6_positiveOf.data.toList.drop 48 = dktX6_positiveOf_2 := dk_seg dksX6_positiveOf_1 24 rfl rfl
theorem dksX6_positiveOf_3 : cX6_positiveOf.data.toList.drop 71 = dktX6_positiveOf_3 := dk_seg dksX6_positiveOf_2 23 rfl rfl
theorem dksX6_positiveOf_4 : cX6_positiveOf.data.toList.drop 94 = dktX6_positiveOf_4 := dk_seg dksX6_positiveOf_3 23 rfl rfl
theorem dksX6_positiveOf_5 : cX6_positiveOf.data.toList.drop 118 = dktX6_positiveOf_5 := dk_seg dksX6_positiveOf_4 24 rfl rfl
theorem dX6_positiveOf_0 : decode cX6_positiveOf 0 = .ok (.aload_n 0, 1) := dk_42 (dk_at dksX6_positiveOf_0 0 rfl rfl)
theorem dX6_positiveOf_1 : decode cX6_positiveOf 1 = .ok (.bipush 40, 2) := dk_16 40 (dk_at dksX6_positiveOf_0 1 rfl rfl)
theorem dX6_positiveOf_3 : decode cX6_positiveOf 3 = .ok (.invokestatic 227, 3) := dk_184 0 227 (dk_at dksX6_positiveOf_0 3 rfl rfl)
theorem dX6_positiveOf_6 : decode cX6_positiveOf 6 = .ok (.invokevirtual 292, 3) := dk_182 1 36 (dk_at dksX6_positiveOf_0 6 rfl rfl)
theorem dX6_positiveOf_9 : decode cX6_positiveOf 9 = .ok (.ifCond .eq 21, 3) := dk_153 0 21 (dk_at dksX6_positiveOf_0 9 rfl rfl)
theorem dX6_positiveOf_12 : decode cX6_positiveOf 12 = .ok (.aload_n 0, 1) := dk_42 (dk_at dksX6_positiveOf_0 12 rfl rfl)
theorem dX6_positiveOf_13 : decode cX6_positiveOf 13 = .ok (.iload_n 1, 1) := dk_27 (dk_at dksX6_positiveOf_0 13 rfl rfl)
theorem dX6_positiveOf_14 : decode cX6_positiveOf 14 = .ok (.invokevirtual 325, 3) := dk_182 1 69 (dk_at dksX6_positiveOf_0 14 rfl rfl)
theorem dX6_positiveOf_17 : decode cX6_positiveOf 17 = .ok (.istore_n 2, 1) := dk_61 (dk_at dksX6_positiveOf_0 17 rfl rfl)
theorem dX6_positiveOf_18 : decode cX6_positiveOf 18 = .ok (.aload_n 0, 1) := dk_42 (dk_at dksX6_positiveOf_0 18 rfl rfl)
theorem dX6_positiveOf_19 : decode cX6_positiveOf 19 = .ok (.dup, 1) := dk_89 (dk_at dksX6_positiveOf_0 19 rfl rfl)
theorem dX6_positiveOf_20 : decode cX6_positiveOf 20 = .ok (.getfield 268, 3) := dk_180 1 12 (dk_at dksX6_positiveOf_0 20 rfl rfl)
theorem dX6_positiveOf_23 : decode cX6_positiveOf 23 = .ok (.iconst 1, 1) := dk_4 (dk_at dksX6_positiveOf_0 23 rfl rfl)
theorem dX6_positiveOf_24 : decode cX6_positiveOf 24 = .ok (.iadd, 1) := dk_96 (dk_at dksX6_positiveOf_1 0 rfl rfl)
theorem dX6_positiveOf_25 : decode cX6_positiveOf 25 = .ok (.putfield 268, 3) := dk_181 1 12 (dk_at dksX6_positiveOf_1 1 rfl rfl)
theorem dX6_positiveOf_28 : decode cX6_positiveOf 28 = .ok (.iload_n 2, 1) := dk_28 (dk_at dksX6_positiveOf_1 4 rfl rfl)
theorem dX6_positiveOf_29 : decode cX6_positiveOf 29 = .ok (.ireturn, 1) := dk_172 (dk_at dksX6_positiveOf_1 5 rfl rfl)
theorem dX6_positiveOf_30 : decode cX6_positiveOf 30 = .ok (.aload_n 0, 1) := dk_42 (dk_at dksX6_positiveOf_1 6 rfl rfl)
theorem dX6_positiveOf_31 : decode cX6_positiveOf 31 = .ok (.iload_n 1, 1) := dk_27 (dk_at dksX6_positiveOf_1 7 rfl rfl)
theorem dX6_positiveOf_32 : decode cX6_positiveOf 32 = .ok (.invokevirtual 295, 3) := dk_182 1 39 (dk_at dksX6_positiveOf_1 8 rfl rfl)
theorem dX6_positiveOf_35 : decode cX6_positiveOf 35 = .ok (.lstore_n 2, 1) := dk_65 (dk_at dksX6_positiveOf_1 11 rfl rfl)
theorem dX6_positiveOf_36 : decode cX6_positiveOf 36 = .ok (.aload_n 0, 1) := dk_42 (dk_at dksX6_positiveOf_1 12 rfl rfl)
theorem dX6_positiveOf_37 : decode cX6_positiveOf 37 = .ok (.aload_n 0, 1) := dk_42 (dk_at dksX6_positiveOf_1 13 rfl rfl)
theorem dX6_positiveOf_38 : decode cX6_positiveOf 38 = .ok (.getfield 268, 3) := dk_180 1 12 (dk_at dksX6_positiveOf_1 14 rfl rfl)
theorem dX6_positiveOf_41 : decode cX6_positiveOf 41 = .ok (.invokevirtual 271, 3) := dk_182 1 15 (dk_at dksX6_positiveOf_1 17 rfl rfl)
theorem dX6_positiveOf_44 : decode cX6_positiveOf 44 = .ok (.istore 4, 2) := dk_54 4 (dk_at dksX6_positiveOf_1 20 rfl rfl)
theorem dX6_positiveOf_46 : decode cX6_positiveOf 46 = .ok (.aload_n 0, 1) := dk_42 (dk_at dksX6_positiveOf_1 22 rfl rfl)
theorem dX6_positiveOf_47 : decode cX6_positiveOf 47 = .ok (.dup, 1) := dk_89 (dk_at dksX6_positiveOf_1 23 rfl rfl)
theorem dX6_positiveOf_48 : decode cX6_positiveOf 48 = .ok (.getfield 268, 3) := dk_180 1 12 (dk_at dksX6_positiveOf_2 0 rfl rfl)
theorem dX6_positiveOf_51 : decode cX6_positiveOf 51 = .ok (.iconst 1, 1) := dk_4 (dk_at dksX6_positiveOf_2 3 rfl rfl)
theorem dX6_positiveOf_52 : decode cX6_positiveOf 52 = .ok (.iadd, 1) := dk_96 (dk_at dksX6_positiveOf_2 4 rfl rfl)
theorem dX6_positiveOf_53 : decode cX6_positiveOf 53 = .ok (.putfield 268, 3) := dk_181 1 12 (dk_at dksX6_positiveOf_2 5 rfl rfl)
theorem dX6_positiveOf_56 : decode cX6_positiveOf 56 = .ok (.aload_n 0, 1) := dk_42 (dk_at dksX6_positiveOf_2 8 rfl rfl)
theorem dX6_positiveOf_57 : decode cX6_positiveOf 57 = .ok (.iload_n 1, 1) := dk_27 (dk_at dksX6_positiveOf_2 9 rfl rfl)
theorem dX6_positiveOf_58 : decode cX6_positiveOf 58 = .ok (.invokevirtual 295, 3) := dk_182 1 39 (dk_at dksX6_positiveOf_2 10 rfl rfl)
theorem dX6_positiveOf_61 : decode cX6_positiveOf 61 = .ok (.lstore 5, 2) := dk_55 5 (dk_at dksX6_positiveOf_2 13 rfl rfl)
theorem dX6_positiveOf_63 : decode cX6_positiveOf 63 = .ok (.iload_n 1, 1) := dk_27 (dk_at dksX6_positiveOf_2 15 rfl rfl)
theorem dX6_positiveOf_64 : decode cX6_positiveOf 64 = .ok (.ifCond .eq 61, 3) := dk_153 0 61 (dk_at dksX6_positiveOf_2 16 rfl rfl)
theorem dX6_positiveOf_67 : decode cX6_positiveOf 67 = .ok (.aload_n 0, 1) := dk_42 (dk_at dksX6_positiveOf_2 19 rfl rfl)
theorem dX6_positiveOf_68 : decode cX6_positiveOf 68 = .ok (.getfield 278, 3) := dk_180 1 22 (dk_at dksX6_positiveOf_2 20 rfl rfl)
theorem dX6_positiveOf_71 : decode cX6_positiveOf 71 = .ok (.ifCond .ne 54, 3) := dk_154 0 54 (dk_at dksX6_positiveOf_3 0 rfl rfl)
theorem dX6_positiveOf_74 : decode cX6_positiveOf 74 = .ok (.iload 4, 2) := dk_21 4 (dk_at dksX6_positiveOf_3 3 rfl rfl)
theorem dX6_positiveOf_76 : decode cX6_positiveOf 76 = .ok (.bipush 60, 2) := dk_16 60 (dk_at dksX6_positiveOf_3 5 rfl rfl)
theorem dX6_positiveOf_78 : decode cX6_positiveOf 78 = .ok (.invokestatic 227, 3) := dk_184 0 227 (dk_at dksX6_positiveOf_3 7 rfl rfl)
theorem dX6_positiveOf_81 : decode cX6_positiveOf 81 = .ok (.if_icmp .ne 13, 3) := dk_160 0 13 (dk_at dksX6_positiveOf_3 10 rfl rfl)
theorem dX6_positiveOf_84 : decode cX6_positiveOf 84 = .ok (.lload_n 2, 1) := dk_32 (dk_at dksX6_positiveOf_3 13 rfl rfl)
theorem dX6_positiveOf_85 : decode cX6_positiveOf 85 = .ok (.lload 5, 2) := dk_22 5 (dk_at dksX6_positiveOf_3 14 rfl rfl)
theorem dX6_positiveOf_87 : decode cX6_positiveOf 87 = .ok (.lcmp, 1) := dk_148 (dk_at dksX6_positiveOf_3 16 rfl rfl)
theorem dX6_positiveOf_88 : decode cX6_positiveOf 88 = .ok (.ifCond .ge 37, 3) := dk_156 0 37 (dk_at dksX6_positiveOf_3 17 rfl rfl)
theorem dX6_positiveOf_91 : decode cX6_positiveOf 91 = .ok (.goto 30, 3) := dk_167 0 30 (dk_at dksX6_positiveOf_3 20 rfl rfl)
theorem dX6_positiveOf_94 : decode cX6_positiveOf 94 = .ok (.iload 4, 2) := dk_21 4 (dk_at dksX6_positiveOf_4 0 rfl rfl)
theorem dX6_positiveOf_96 : decode cX6_positiveOf 96 = .ok (.bipush 62, 2) := dk_16 62 (dk_at dksX6_positiveOf_4 2 rfl rfl)
theorem dX6_positiveOf_98 : decode cX6_positiveOf 98 = .ok (.invokestatic 227, 3) := dk_184 0 227 (dk_at dksX6_positiveOf_4 4 rfl rfl)
theorem dX6_positiveOf_101 : decode cX6_positiveOf 101 = .ok (.if_icmp .ne 13, 3) := dk_160 0 13 (dk_at dksX6_positiveOf_4 7 rfl rfl)
theorem dX6_positiveOf_104 : decode cX6_positiveOf 104 = .ok (.lload_n 2, 1) := dk_32 (dk_at dksX6_positiveOf_4 10 rfl rfl)
theorem dX6_positiveOf_105 : decode cX6_positiveOf 105 = .ok (.lload 5, 2) := dk_22 5 (dk_at dksX6_positiveOf_4 11 rfl rfl)
theorem dX6_positiveOf_107 : decode cX6_positiveOf 107 = .ok (.lcmp, 1) := dk_148 (dk_at dksX6_positiveOf_4 13 rfl rfl)
theorem dX6_positiveOf_108 : decode cX6_positiveOf 108 = .ok (.ifCond .le 17, 3) := dk_158 0 17 (dk_at dksX6_positiveOf_4 14 rfl rfl)
theorem dX6_positiveOf_111 : decode cX6_positiveOf 111 = .ok (.goto 10, 3) := dk_167 0 10 (dk_at dksX6_positiveOf_4 17 rfl rfl)
theorem dX6_positiveOf_114 : decode cX6_positiveOf 114 = .ok (.lload_n 2, 1) := dk_32 (dk_at dksX6_positiveOf_4 20 rfl rfl)
theorem dX6_positiveOf_115 : decode cX6_positiveOf 115 = .ok (.lload 5, 2) := dk_22 5 (dk_at dksX6_positiveOf_4 21 rfl rfl)
theorem dX6_positiveOf_117 : decode cX6_positiveOf 117 = .ok (.lcmp, 1) := dk_148 (dk_at dksX6_positiveOf_4 23 rfl rfl)
theorem dX6_positiveOf_118 : decode cX6_positiveOf 118 = .ok (.ifCond .ne 7, 3) := dk_154 0 7 (dk_at dksX6_positiveOf_5 0 rfl rfl)
theorem dX6_positiveOf_121 : decode cX6_positiveOf 121 = .ok (.iconst 1, 1) := dk_4 (dk_at dksX6_positiveOf_5 3 rfl rfl)
theorem dX6_positiveOf_122 : decode cX6_positiveOf 122 = .ok (.goto 4, 3) := dk_167 0 4 (dk_at dksX6_positiveOf_5 4 rfl rfl)
theorem dX6_positiveOf_125 : decode cX6_positiveOf 125 = .ok (.iconst 0, 1) := dk_3 (dk_at dksX6_positiveOf_5 7 rfl rfl)
theorem dX6_positiveOf_126 : decode cX6_positiveOf 126 = .ok (.ireturn, 1) := dk_172 (dk_at dksX6_positiveOf_5 8 rfl rfl)
abbrev cX6_leek : ByteArray := prog_24_method_24_code
def yX6_leek : MethodName := ⟨RX6, "leek", "(I)I"⟩
def dkwX6_leek_2 : List UInt8 := [4, 28, 96, 3, 79, 42, 180, 0, 24, 16, 49, 92, 46, 4, 96, 79, 42, 28, 182, 0, 109, 172]
abbrev dktX6_leek_2 : List UInt8 := dkwX6_leek_2 ++ []
def dkwX6_leek_1 : List UInt8 := [160, 0, 10, 42, 16, 251, 182, 0, 106, 172, 42, 180, 0, 24, 16, 30, 28, 96, 27, 79, 42, 180, 0, 24]
abbrev dktX6_leek_1 : List UInt8 := dkwX6_leek_1 ++ dktX6_leek_2
def dkwX6_leek_0 : List UInt8 := [27, 3, 6, 184, 0, 102, 154, 0, 9, 42, 2, 182, 0, 106, 172, 42, 182, 0, 116, 61, 28, 7]
abbrev dktX6_leek_0 : List UInt8 := dkwX6_leek_0 ++ dktX6_leek_1
theorem dksX6_leek_0 : cX6_leek.data.toList.drop 0 = dktX6_leek_0 := by decide +kernel
theorem dksX6_leek_1 : cX6_leek.data.toList.drop 22 = dktX6_leek_1 := dk_seg dksX6_leek_0 22 rfl rfl
theorem dksX6_leek_2 : cX6_leek.data.toList.drop 46 = dktX6_leek_2 := dk_seg dksX6_leek_1 24 rfl rfl
theorem dX6_leek_0 : decode cX6_leek 0 = .ok (.iload_n 1, 1) := dk_27 (dk_at dksX6_leek_0 0 rfl rfl)
theorem dX6_leek_1 : decode cX6_leek 1 = .ok (.iconst 0, 1) := dk_3 (dk_at dksX6_leek_0 1 rfl rfl)
theorem dX6_leek_2 : decode cX6_leek 2 = .ok (.iconst 3, 1) := dk_6 (dk_at dksX6_leek_0 2 rfl rfl)
theorem dX6_leek_3 : decode cX6_leek 3 = .ok (.invokestatic 102, 3) := dk_184 0 102 (dk_at dksX6_leek_0 3 rfl rfl)
theorem dX6_leek_6 : decode cX6_leek 6 = .ok (.ifCond .ne 9, 3) := dk_154 0 9 (dk_at dksX6_leek_0 6 rfl rfl)
theorem dX6_leek_9 : decode cX6_leek 9 = .ok (.aload_n 0, 1) := dk_42 (dk_at dksX6_leek_0 9 rfl rfl)
theorem dX6_leek_10 : decode cX6_leek 10 = .ok (.iconst (-1), 1) := dk_2 (dk_at dksX6_leek_0 10 rfl rfl)
theorem dX6_leek_11 : decode cX6_leek 11 = .ok (.invokevirtual 106, 3) := dk_182 0 106 (dk_at dksX6_leek_0 11 rfl rfl)
theorem dX6_leek_14 : decode cX6_leek 14 = .ok (.ireturn, 1) := dk_172 (dk_at dksX6_leek_0 14 rfl rfl)
theorem dX6_leek_15 : decode cX6_leek 15 = .ok (.aload_n 0, 1) := dk_42 (dk_at dksX6_leek_0 15 rfl rfl)
theorem dX6_leek_16 : decode cX6_leek 16 = .ok (.invokevirtual 116, 3) := dk_182 0 116 (dk_at dksX6_leek_0 16 rfl rfl)
theorem dX6_leek_19 : decode cX6_leek 19 = .ok (.istore_n 2, 1) := dk_61 (dk_at dksX6_leek_0 19 rfl rfl)
theorem dX6_leek_20 : decode cX6_leek 20 = .ok (.iload_n 2, 1) := dk_28 (dk_at dksX6_leek_0 20 rfl rfl)
theorem dX6_leek_21 : decode cX6_leek 21 = .ok (.iconst 4, 1) := dk_7 (dk_at dksX6_leek_0 21 rfl rfl)
theorem dX6_leek_22 : decode cX6_leek 22 = .ok (.if_icmp .ne 10, 3) := dk_160 0 10 (dk_at dksX6_leek_1 0 rfl rfl)
theorem dX6_leek_25 : decode cX6_leek 25 = .ok (.aload_n 0, 1) := dk_42 (dk_at dksX6_leek_1 3 rfl rfl)
theorem dX6_leek_26 : decode cX6_leek 26 = .ok (.bipush (-5), 2) := dk_16 251 (dk_at dksX6_leek_1 4 rfl rfl)
theorem dX6_leek_28 : decode cX6_leek 28 = .ok (.invokevirtual 106, 3) := dk_182 0 106 (dk_at dksX6_leek_1 6 rfl rfl)
theorem dX6_leek_31 : decode cX6_leek 31 = .ok (.ireturn, 1) := dk_172 (dk_at dksX6_leek_1 9 rfl rfl)
theorem dX6_leek_32 : decode cX6_leek 32 = .ok (.aload_n 0, 1) := dk_42 (dk_at dksX6_leek_1 10 rfl rfl)
theorem dX6_leek_33 : decode cX6_leek 33 = .ok (.getfield 24, 3) := dk_180 0 24 (dk_at dksX6_leek_1 11 rfl rfl)
theorem dX6_leek_36 : decode cX6_leek 36 = .ok (.bipush 30, 2) := dk_16 30 (dk_at dksX6_leek_1 14 rfl rfl)
theorem dX6_leek_38 : decode cX6_leek 38 = .ok (.iload_n 2, 1) := dk_28 (dk_at dksX6_leek_1 16 rfl rfl)
theorem dX6_leek_39 : decode cX6_leek 39 = .ok (.iadd, 1) := dk_96 (dk_at dksX6_leek_1 17 rfl rfl)
theorem dX6_leek_40 : decode cX6_leek 40 = .ok (.iload_n 1, 1) := dk_27 (dk_at dksX6_leek_1 18 rfl rfl)
theorem dX6_leek_41 : decode cX6_leek 41 = .ok (.iastore, 1) := dk_79 (dk_at dksX6_leek_1 19 rfl rfl)
theorem dX6_leek_42 : decode cX6_leek 42 = .ok (.aload_n 0, 1) := dk_42 (dk_at dksX6_leek_1 20 rfl rfl)
theorem dX6_leek_43 : decode cX6_leek 43 = .ok (.getfield 24, 3) := dk_180 0 24 (dk_at dksX6_leek_1 21 rfl rfl)
theorem dX6_leek_46 : decode cX6_leek 46 = .ok (.iconst 1, 1) := dk_4 (dk_at dksX6_leek_2 0 rfl rfl)
theorem dX6_leek_47 : decode cX6_leek 47 = .ok (.iload_n 2, 1) := dk_28 (dk_at dksX6_leek_2 1 rfl rfl)
theorem dX6_leek_48 : decode cX6_leek 48 = .ok (.iadd, 1) := dk_96 (dk_at dksX6_leek_2 2 rfl rfl)
theorem dX6_leek_49 : decode cX6_leek 49 = .ok (.iconst 0, 1) := dk_3 (dk_at dksX6_leek_2 3 rfl rfl)
theorem dX6_leek_50 : decode cX6_leek 50 = .ok (.iastore, 1) := dk_79 (dk_at dksX6_leek_2 4 rfl rfl)
theorem dX6_leek_51 : decode cX6_leek 51 = .ok (.aload_n 0, 1) := dk_42 (dk_at dksX6_leek_2 5 rfl rfl)
theorem dX6_leek_52 : decode cX6_leek 52 = .ok (.getfield 24, 3) := dk_180 0 24 (dk_at dksX6_leek_2 6 rfl rfl)
theorem dX6_leek_55 : decode cX6_leek 55 = .ok (.bipush 49, 2) := dk_16 49 (dk_at dksX6_leek_2 9 rfl rfl)
theorem dX6_leek_57 : decode cX6_leek 57 = .ok (.dup2, 1) := dk_92 (dk_at dksX6_leek_2 11 rfl rfl)
theorem dX6_leek_58 : decode cX6_leek 58 = .ok (.iaload, 1) := dk_46 (dk_at dksX6_leek_2 12 rfl rfl)
theorem dX6_leek_59 : decode cX6_leek 59 = .ok (.iconst 1, 1) := dk_4 (dk_at dksX6_leek_2 13 rfl rfl)
theorem dX6_leek_60 : decode cX6_leek 60 = .ok (.iadd, 1) := dk_96 (dk_at dksX6_leek_2 14 rfl rfl)
theorem dX6_leek_61 : decode cX6_leek 61 = .ok (.iastore, 1) := dk_79 (dk_at dksX6_leek_2 15 rfl rfl)
theorem dX6_leek_62 : decode cX6_leek 62 = .ok (.aload_n 0, 1) := dk_42 (dk_at dksX6_leek_2 16 rfl rfl)
theorem dX6_leek_63 : decode cX6_leek 63 = .ok (.iload_n 2, 1) := dk_28 (dk_at dksX6_leek_2 17 rfl rfl)
theorem dX6_leek_64 : decode cX6_leek 64 = .ok (.invokevirtual 109, 3) := dk_182 0 109 (dk_at dksX6_leek_2 18 rfl rfl)
theorem dX6_leek_67 : decode cX6_leek 67 = .ok (.ireturn, 1) := dk_172 (dk_at dksX6_leek_2 21 rfl rfl)
abbrev cX6_at : ByteArray := prog_24_method_25_code
def yX6_at : MethodName := ⟨RX6, "at", "(II)I"⟩
def dkwX6_at_4 : List UInt8 := [172, 2, 172]
abbrev dktX6_at_4 : List UInt8 := dkwX6_at_4 ++ []
def dkwX6_at_3 : List UInt8 := [42, 180, 0, 24, 16, 30, 27, 96, 46, 172, 42, 180, 0, 24, 4, 27, 96, 46, 172, 42, 27, 182, 0, 150]
abbrev dktX6_at_3 : List UInt8 := dkwX6_at_3 ++ dktX6_at_4
def dkwX6_at_2 : List UInt8 := [170, 0, 0, 0, 0, 51, 0, 0, 0, 0, 0, 0, 0, 2, 0, 0, 0, 26, 0, 0, 0, 36, 0, 0, 0, 45]
abbrev dktX6_at_2 : List UInt8 := dkwX6_at_2 ++ dktX6_at_3
def dkwX6_at_1 : List UInt8 := [42, 27, 28, 6, 100, 182, 0, 146, 172, 28]
abbrev dktX6_at_1 : List UInt8 := dkwX6_at_1 ++ dktX6_at_2
def dkwX6_at_0 : List UInt8 := [42, 27, 182, 0, 143, 154, 0, 5, 2, 172, 28, 6, 5, 42, 182, 0, 112, 96, 184, 0, 102, 153, 0, 12]
abbrev dktX6_at_0 : List UInt8 := dkwX6_at_0 ++ dktX6_at_1
theorem dksX6_at_0 : cX6_at.data.toList.drop 0 = dktX6_at_0 := by decide +kernel
theorem dksX6_at_1 : cX6_at.data.toList.drop 24 = dktX6_at_1 := dk_seg dksX6_at_0 24 rfl rfl
theorem dksX6_at_2 : cX6_at.data.toList.drop 34 = dktX6_at_2 := dk_seg dksX6_at_1 10 rfl rfl
theorem dksX6_at_3 : cX6_at.data.toList.drop 60 = dktX6_at_3 := dk_seg dksX6_at_2 26 rfl rfl
theorem dksX6_at_4 : cX6_at.data.toList.drop 84 = dktX6_at_4 := dk_seg dksX6_at_3 24 rfl rfl
theorem dX6_at_0 : decode cX6_at 0 = .ok (.aload_n 0, 1) := dk_42 (dk_at dksX6_at_0 0 rfl rfl)
theorem dX6_at_1 : decode cX6_at 1 = .ok (.iload_n 1, 1) := dk_27 (dk_at dksX6_at_0 1 rfl rfl)
theorem dX6_at_2 : decode cX6_at 2 = .ok (.invokevirtual 143, 3) := dk_182 0 143 (dk_at dksX6_at_0 2 rfl rfl)
theorem dX6_at_5 : decode cX6_at 5 = .ok (.ifCond .ne 5, 3) := dk_154 0 5 (dk_at dksX6_at_0 5 rfl rfl)
theorem dX6_at_8 : decode cX6_at 8 = .ok (.iconst (-1), 1) := dk_2 (dk_at dksX6_at_0 8 rfl rfl)
theorem dX6_at_9 : decode cX6_at 9 = .ok (.ireturn, 1) := dk_172 (dk_at dksX6_at_0 9 rfl rfl)
theorem dX6_at_10 : decode cX6_at 10 = .ok (.iload_n 2, 1) := dk_28 (dk_at dksX6_at_0 10 rfl rfl)
theorem dX6_at_11 : decode cX6_at 11 = .ok (.iconst 3, 1) := dk_6 (dk_at dksX6_at_0 11 rfl rfl)
theorem dX6_at_12 : decode cX6_at 12 = .ok (.iconst 2, 1) := dk_5 (dk_at dksX6_at_0 12 rfl rfl)
theorem dX6_at_13 : decode cX6_at 13 = .ok (.aload_n 0, 1) := dk_42 (dk_at dksX6_at_0 13 rfl rfl)
theorem dX6_at_14 : decode cX6_at 14 = .ok (.invokevirtual 112, 3) := dk_182 0 112 (dk_at dksX6_at_0 14 rfl rfl)
theorem dX6_at_17 : decode cX6_at 17 = .ok (.iadd, 1) := dk_96 (dk_at dksX6_at_0 17 rfl rfl)
theorem dX6_at_18 : decode cX6_at 18 = .ok (.invokestatic 102, 3) := dk_184 0 102 (dk_at dksX6_at_0 18 rfl rfl)
theorem dX6_at_21 : decode cX6_at 21 = .ok (.ifCond .eq 12, 3) := dk_153 0 12 (dk_at dksX6_at_0 21 rfl rfl)
theorem dX6_at_24 : decode cX6_at 24 = .ok (.aload_n 0, 1) := dk_42 (dk_at dksX6_at_1 0 rfl rfl)
theorem dX6_at_25 : decode cX6_at 25 = .ok (.iload_n 1, 1) := dk_27 (dk_at dksX6_at_1 1 rfl rfl)
theorem dX6_at_26 : decode cX6_at 26 = .ok (.iload_n 2, 1) := dk_28 (dk_at dksX6_at_1 2 rfl rfl)
theorem dX6_at_27 : decode cX6_at 27 = .ok (.iconst 3, 1) := dk_6 (dk_at dksX6_at_1 3 rfl rfl)
theorem dX6_at_28 : decode cX6_at 28 = .ok (.isub, 1) := dk_100 (dk_at dksX6_at_1 4 rfl rfl)
theorem dX6_at_29 : decode cX6_at 29 = .ok (.invokevirtual 146, 3) := dk_182 0 146 (dk_at dksX6_at_1 5 rfl rfl)
theorem dX6_at_32 : decode cX6_at 32 = .ok (.ireturn, 1) := dk_172 (dk_at dksX6_at_1 8 rfl rfl)
theorem dX6_at_33 : decode cX6_at 33 = .ok (.iload_n 2, 1) := dk_28 (dk_at dksX6_at_1 9 rfl rfl)
theorem dX6_at_34 : decode cX6_at 34 = .ok (.tableswitch 51 0 2 #[26, 36, 45], 26) := by decide +kernel
theorem dX6_at_60 : decode cX6_at 60 = .ok (.aload_n 0, 1) := dk_42 (dk_at dksX6_at_3 0 rfl rfl)
theorem dX6_at_61 : decode cX6_at 61 = .ok (.getfield 24, 3) := dk_180 0 24 (dk_at dksX6_at_3 1 rfl rfl)
theorem dX6_at_64 : decode cX6_at 64 = .ok (.bipush 30, 2) := dk_16 30 (dk_at dksX6_at_3 4 rfl rfl)
theorem dX6_at_66 : decode cX6_at 66 = .ok (.iload_n 1, 1) := dk_27 (dk_at dksX6_at_3 6 rfl rfl)
theorem dX6_at_67 : decode cX6_at 67 = .ok (.iadd, 1) := dk_96 (dk_at dksX6_at_3 7 rfl rfl)
theorem dX6_at_68 : decode cX6_at 68 = .ok (.iaload, 1) := dk_46 (dk_at dksX6_at_3 8 rfl rfl)
theorem dX6_at_69 : decode cX6_at 69 = .ok (.ireturn, 1) := dk_172 (dk_at dksX6_at_3 9 rfl rfl)
theorem dX6_at_70 : decode cX6_at 70 = .ok (.aload_n 0, 1) := dk_42 (dk_at dksX6_at_3 10 rfl rfl)
theorem dX6_at_71 : decode cX6_at 71 = .ok (.getfield 24, 3) := dk_180 0 24 (dk_at dksX6_at_3 11 rfl rfl)
theorem dX6_at_74 : decode cX6_at 74 = .ok (.iconst 1, 1) := dk_4 (dk_at dksX6_at_3 14 rfl rfl)
theorem dX6_at_75 : decode cX6_at 75 = .ok (.iload_n 1, 1) := dk_27 (dk_at dksX6_at_3 15 rfl rfl)
theorem dX6_at_76 : decode cX6_at 76 = .ok (.iadd, 1) := dk_96 (dk_at dksX6_at_3 16 rfl rfl)
theorem dX6_at_77 : decode cX6_at 77 = .ok (.iaload, 1) := dk_46 (dk_at dksX6_at_3 17 rfl rfl)
theorem dX6_at_78 : decode cX6_at 78 = .ok (.ireturn, 1) := dk_172 (dk_at dksX6_at_3 18 rfl rfl)
theorem dX6_at_79 : decode cX6_at 79 = .ok (.aload_n 0, 1) := dk_42 (dk_at dksX6_at_3 19 rfl rfl)
theorem dX6_at_80 : decode cX6_at 80 = .ok (.iload_n 1, 1) := dk_27 (dk_at dksX6_at_3 20 rfl rfl)
theorem dX6_at_81 : decode cX6_at 81 = .ok (.invokevirtual 150, 3) := dk_182 0 150 (dk_at dksX6_at_3 21 rfl rfl)
theorem dX6_at_84 : decode cX6_at 84 = .ok (.ireturn, 1) := dk_172 (dk_at dksX6_at_4 0 rfl rfl)
theorem dX6_at_85 : decode cX6_at 85 = .ok (.iconst (-1), 1) := dk_2 (dk_at dksX6_at_4 1 rfl rfl)
theorem dX6_at_86 : decode cX6_at 86 = .ok (.ireturn, 1) := dk_172 (dk_at dksX6_at_4 2 rfl rfl)
abbrev cX6_growsNow : ByteArray := prog_24_method_75_code
def yX6_growsNow : MethodName := ⟨RX6, "growsNow", "(II)I"⟩
def dkwX6_growsNow_1 : List UInt8 := [8, 46, 182, 1, 80, 172]
abbrev dktX6_growsNow_1 : List UInt8 := dkwX6_growsNow_1 ++ []
def dkwX6_growsNow_0 : List UInt8 := [42, 27, 28, 42, 180, 0, 24, 4, 27, 96, 46, 42, 180, 0, 24, 3, 46, 184, 1, 48, 42, 180, 0, 24]
abbrev dktX6_growsNow_0 : List UInt8 := dkwX6_growsNow_0 ++ dktX6_growsNow_1
theorem dksX6_growsNow_0 : cX6_growsNow.data.toList.drop 0 = dktX6_growsNow_0 := by decide +kernel
theorem dksX6_growsNow_1 : cX6_growsNow.data.toList.drop 24 = dktX6_growsNow_1 := dk_seg dksX6_growsNow_0 24 rfl rfl
theorem dX6_growsNow_0 : decode cX6_growsNow 0 = .ok (.aload_n 0, 1) := dk_42 (dk_at dksX6_growsNow_0 0 rfl rfl)
theorem dX6_growsNow_1 : decode cX6_growsNow 1 = .ok (.iload_n 1, 1) := dk_27 (dk_at dksX6_growsNow_0 1 rfl rfl)
theorem dX6_growsNow_2 : decode cX6_growsNow 2 = .ok (.iload_n 2, 1) := dk_28 (dk_at dksX6_growsNow_0 2 rfl rfl)
theorem dX6_growsNow_3 : decode cX6_growsNow 3 = .ok (.aload_n 0, 1) := dk_42 (dk_at dksX6_growsNow_0 3 rfl rfl)
theorem dX6_growsNow_4 : decode cX6_growsNow 4 = .ok (.getfield 24, 3) := dk_180 0 24 (dk_at dksX6_growsNow_0 4 rfl rfl)
theorem dX6_growsNow_7 : decode cX6_growsNow 7 = .ok (.iconst 1, 1) := dk_4 (dk_at dksX6_growsNow_0 7 rfl rfl)
theorem dX6_growsNow_8 : decode cX6_growsNow 8 = .ok (.iload_n 1, 1) := dk_27 (dk_at dksX6_growsNow_0 8 rfl rfl)
theorem dX6_growsNow_9 : decode cX6_growsNow 9 = .ok (.iadd, 1) := dk_96 (dk_at dksX6_growsNow_0 9 rfl rfl)
theorem dX6_growsNow_10 : decode cX6_growsNow 10 = .ok (.iaload, 1) := dk_46 (dk_at dksX6_growsNow_0 10 rfl rfl)
theorem dX6_growsNow_11 : decode cX6_growsNow 11 = .ok (.aload_n 0, 1) := dk_42 (dk_at dksX6_growsNow_0 11 rfl rfl)
theorem dX6_growsNow_12 : decode cX6_growsNow 12 = .ok (.getfield 24, 3) := dk_180 0 24 (dk_at dksX6_growsNow_0 12 rfl rfl)
theorem dX6_growsNow_15 : decode cX6_growsNow 15 = .ok (.iconst 0, 1) := dk_3 (dk_at dksX6_growsNow_0 15 rfl rfl)
theorem dX6_growsNow_16 : decode cX6_growsNow 16 = .ok (.iaload, 1) := dk_46 (dk_at dksX6_growsNow_0 16 rfl rfl)
theorem dX6_growsNow_17 : decode cX6_growsNow 17 = .ok (.invokestatic 304, 3) := dk_184 1 48 (dk_at dksX6_growsNow_0 17 rfl rfl)
theorem dX6_growsNow_20 : decode cX6_growsNow 20 = .ok (.aload_n 0, 1) := dk_42 (dk_at dksX6_growsNow_0 20 rfl rfl)
theorem dX6_growsNow_21 : decode cX6_growsNow 21 = .ok (.getfield 24, 3) := dk_180 0 24 (dk_at dksX6_growsNow_0 21 rfl rfl)
theorem dX6_growsNow_24 : decode cX6_growsNow 24 = .ok (.iconst 5, 1) := dk_8 (dk_at dksX6_growsNow_1 0 rfl rfl)
theorem dX6_growsNow_25 : decode cX6_growsNow 25 = .ok (.iaload, 1) := dk_46 (dk_at dksX6_growsNow_1 1 rfl rfl)
theorem dX6_growsNow_26 : decode cX6_growsNow 26 = .ok (.invokevirtual 336, 3) := dk_182 1 80 (dk_at dksX6_growsNow_1 2 rfl rfl)
theorem dX6_growsNow_29 : decode cX6_growsNow 29 = .ok (.ireturn, 1) := dk_172 (dk_at dksX6_growsNow_1 5 rfl rfl)
abbrev cX6_growsBy : ByteArray := prog_24_method_74_code
def yX6_growsBy : MethodName := ⟨RX6, "growsBy", "(IIIII)I"⟩
def dkwX6_growsBy_1 : List UInt8 := [182, 1, 76, 172]
abbrev dktX6_growsBy_1 : List UInt8 := dkwX6_growsBy_1 ++ []
def dkwX6_growsBy_0 : List UInt8 := [42, 27, 28, 29, 21, 4, 21, 5, 182, 1, 72, 42, 4, 16, 99, 42, 180, 0, 24, 16, 6, 28, 96, 46]
abbrev dktX6_growsBy_0 : List UInt8 := dkwX6_growsBy_0 ++ dktX6_growsBy_1
theorem dksX6_growsBy_0 : cX6_growsBy.data.toList.drop 0 = dktX6_growsBy_0 := by decide +kernel
theorem dksX6_growsBy_1 : cX6_growsBy.data.toList.drop 24 = dktX6_growsBy_1 := dk_seg dksX6_growsBy_0 24 rfl rfl
theorem dX6_growsBy_0 : decode cX6_growsBy 0 = .ok (.aload_n 0, 1) := dk_42 (dk_at dksX6_growsBy_0 0 rfl rfl)
theorem dX6_growsBy_1 : decode cX6_growsBy 1 = .ok (.iload_n 1, 1) := dk_27 (dk_at dksX6_growsBy_0 1 rfl rfl)
theorem dX6_growsBy_2 : decode cX6_growsBy 2 = .ok (.iload_n 2, 1) := dk_28 (dk_at dksX6_growsBy_0 2 rfl rfl)
theorem dX6_growsBy_3 : decode cX6_growsBy 3 = .ok (.iload_n 3, 1) := dk_29 (dk_at dksX6_growsBy_0 3 rfl rfl)
theorem dX6_growsBy_4 : decode cX6_growsBy 4 = .ok (.iload 4, 2) := dk_21 4 (dk_at dksX6_growsBy_0 4 rfl rfl)
theorem dX6_growsBy_6 : decode cX6_growsBy 6 = .ok (.iload 5, 2) := dk_21 5 (dk_at dksX6_growsBy_0 6 rfl rfl)
theorem dX6_growsBy_8 : decode cX6_growsBy 8 = .ok (.invokevirtual 328, 3) := dk_182 1 72 (dk_at dksX6_growsBy_0 8 rfl rfl)
theorem dX6_growsBy_11 : decode cX6_growsBy 11 = .ok (.aload_n 0, 1) := dk_42 (dk_at dksX6_growsBy_0 11 rfl rfl)
theorem dX6_growsBy_12 : decode cX6_growsBy 12 = .ok (.iconst 1, 1) := dk_4 (dk_at dksX6_growsBy_0 12 rfl rfl)
theorem dX6_growsBy_13 : decode cX6_growsBy 13 = .ok (.bipush 99, 2) := dk_16 99 (dk_at dksX6_growsBy_0 13 rfl rfl)
theorem dX6_growsBy_15 : decode cX6_growsBy 15 = .ok (.aload_n 0, 1) := dk_42 (dk_at dksX6_growsBy_0 15 rfl rfl)
theorem dX6_growsBy_16 : decode cX6_growsBy 16 = .ok (.getfield 24, 3) := dk_180 0 24 (dk_at dksX6_growsBy_0 16 rfl rfl)
theorem dX6_growsBy_19 : decode cX6_growsBy 19 = .ok (.bipush 6, 2) := dk_16 6 (dk_at dksX6_growsBy_0 19 rfl rfl)
theorem dX6_growsBy_21 : decode cX6_growsBy 21 = .ok (.iload_n 2, 1) := dk_28 (dk_at dksX6_growsBy_0 21 rfl rfl)
theorem dX6_growsBy_22 : decode cX6_growsBy 22 = .ok (.iadd, 1) := dk_96 (dk_at dksX6_growsBy_0 22 rfl rfl)
theorem dX6_growsBy_23 : decode cX6_growsBy 23 = .ok (.iaload, 1) := dk_46 (dk_at dksX6_growsBy_0 23 rfl rfl)
theorem dX6_growsBy_24 : decode cX6_growsBy 24 = .ok (.invokevirtual 332, 3) := dk_182 1 76 (dk_at dksX6_growsBy_1 0 rfl rfl)
theorem dX6_growsBy_27 : decode cX6_growsBy 27 = .ok (.ireturn, 1) := dk_172 (dk_at dksX6_growsBy_1 3 rfl rfl)
abbrev cX6_wiltsNow : ByteArray := prog_24_method_76_code
def yX6_wiltsNow : MethodName := ⟨RX6, "wiltsNow", "(I)I"⟩
def dkwX6_wiltsNow_1 : List UInt8 := [8, 46, 182, 1, 72, 42, 5, 16, 9, 3, 182, 1, 76, 172]
abbrev dktX6_wiltsNow_1 : List UInt8 := dkwX6_wiltsNow_1 ++ []
def dkwX6_wiltsNow_0 : List UInt8 := [42, 27, 2, 42, 180, 0, 24, 4, 27, 96, 46, 42, 180, 0, 24, 3, 46, 184, 1, 48, 42, 180, 0, 24]
abbrev dktX6_wiltsNow_0 : List UInt8 := dkwX6_wiltsNow_0 ++ dktX6_wiltsNow_1
theorem dksX6_wiltsNow_0 : cX6_wiltsNow.data.toList.drop 0 = dktX6_wiltsNow_0 := by decide +kernel
theorem dksX6_wiltsNow_1 : cX6_wiltsNow.data.toList.drop 24 = dktX6_wiltsNow_1 := dk_seg dksX6_wiltsNow_0 24 rfl rfl
theorem dX6_wiltsNow_0 : decode cX6_wiltsNow 0 = .ok (.aload_n 0, 1) := dk_42 (dk_at dksX6_wiltsNow_0 0 rfl rfl)
theorem dX6_wiltsNow_1 : decode cX6_wiltsNow 1 = .ok (.iload_n 1, 1) := dk_27 (dk_at dksX6_wiltsNow_0 1 rfl rfl)
theorem dX6_wiltsNow_2 : decode cX6_wiltsNow 2 = .ok (.iconst (-1), 1) := dk_2 (dk_at dksX6_wiltsNow_0 2 rfl rfl)
theorem dX6_wiltsNow_3 : decode cX6_wiltsNow 3 = .ok (.aload_n 0, 1) := dk_42 (dk_at dksX6_wiltsNow_0 3 rfl rfl)
theorem dX6_wiltsNow_4 : decode cX6_wiltsNow 4 = .ok (.getfield 24, 3) := dk_180 0 24 (dk_at dksX6_wiltsNow_0 4 rfl rfl)
theorem dX6_wiltsNow_7 : decode cX6_wiltsNow 7 = .ok (.iconst 1, 1) := dk_4 (dk_at dksX6_wiltsNow_0 7 rfl rfl)
theorem dX6_wiltsNow_8 : decode cX6_wiltsNow 8 = .ok (.iload_n 1, 1) := dk_27 (dk_at dksX6_wiltsNow_0 8 rfl rfl)
theorem dX6_wiltsNow_9 : decode cX6_wiltsNow 9 = .ok (.iadd, 1) := dk_96 (dk_at dksX6_wiltsNow_0 9 rfl rfl)
theorem dX6_wiltsNow_10 : decode cX6_wiltsNow 10 = .ok (.iaload, 1) := dk_46 (dk_at dksX6_wiltsNow_0 10 rfl rfl)
theorem dX6_wiltsNow_11 : decode cX6_wiltsNow 11 = .ok (.aload_n 0, 1) := dk_42 (dk_at dksX6_wiltsNow_0 11 rfl rfl)
theorem dX6_wiltsNow_12 : decode cX6_wiltsNow 12 = .ok (.getfield 24, 3) := dk_180 0 24 (dk_at dksX6_wiltsNow_0 12 rfl rfl)
theorem dX6_wiltsNow_15 : decode cX6_wiltsNow 15 = .ok (.iconst 0, 1) := dk_3 (dk_at dksX6_wiltsNow_0 15 rfl rfl)
theorem dX6_wiltsNow_16 : decode cX6_wiltsNow 16 = .ok (.iaload, 1) := dk_46 (dk_at dksX6_wiltsNow_0 16 rfl rfl)
theorem dX6_wiltsNow_17 : decode cX6_wiltsNow 17 = .ok (.invokestatic 304, 3) := dk_184 1 48 (dk_at dksX6_wiltsNow_0 17 rfl rfl)
theorem dX6_wiltsNow_20 : decode cX6_wiltsNow 20 = .ok (.aload_n 0, 1) := dk_42 (dk_at dksX6_wiltsNow_0 20 rfl rfl)
theorem dX6_wiltsNow_21 : decode cX6_wiltsNow 21 = .ok (.getfield 24, 3) := dk_180 0 24 (dk_at dksX6_wiltsNow_0 21 rfl rfl)
theorem dX6_wiltsNow_24 : decode cX6_wiltsNow 24 = .ok (.iconst 5, 1) := dk_8 (dk_at dksX6_wiltsNow_1 0 rfl rfl)
theorem dX6_wiltsNow_25 : decode cX6_wiltsNow 25 = .ok (.iaload, 1) := dk_46 (dk_at dksX6_wiltsNow_1 1 rfl rfl)
theorem dX6_wiltsNow_26 : decode cX6_wiltsNow 26 = .ok (.invokevirtual 328, 3) := dk_182 1 72 (dk_at dksX6_wiltsNow_1 2 rfl rfl)
theorem dX6_wiltsNow_29 : decode cX6_wiltsNow 29 = .ok (.aload_n 0, 1) := dk_42 (dk_at dksX6_wiltsNow_1 5 rfl rfl)
theorem dX6_wiltsNow_30 : decode cX6_wiltsNow 30 = .ok (.iconst 2, 1) := dk_5 (dk_at dksX6_wiltsNow_1 6 rfl rfl)
theorem dX6_wiltsNow_31 : decode cX6_wiltsNow 31 = .ok (.bipush 9, 2) := dk_16 9 (dk_at dksX6_wiltsNow_1 7 rfl rfl)
theorem dX6_wiltsNow_33 : decode cX6_wiltsNow 33 = .ok (.iconst 0, 1) := dk_3 (dk_at dksX6_wiltsNow_1 9 rfl rfl)
theorem dX6_wiltsNow_34 : decode cX6_wiltsNow 34 = .ok (.invokevirtual 332, 3) := dk_182 1 76 (dk_at dksX6_wiltsNow_1 10 rfl rfl)
theorem dX6_wiltsNow_37 : decode cX6_wiltsNow 37 = .ok (.ireturn, 1) := dk_172 (dk_at dksX6_wiltsNow_1 13 rfl rfl)
abbrev cX6_terms : ByteArray := prog_24_method_28_code
def yX6_terms : MethodName := ⟨RX6, "terms", "(II)I"⟩
def dkwX6_terms_1 : List UInt8 := [42, 180, 0, 24, 27, 184, 0, 156, 28, 79, 42, 29, 182, 0, 109, 172]
abbrev dktX6_terms_1 : List UInt8 := dkwX6_terms_1 ++ []
def dkwX6_terms_0 : List UInt8 := [27, 28, 184, 0, 153, 154, 0, 9, 42, 2, 182, 0, 106, 172, 42, 180, 0, 24, 27, 184, 0, 156, 46, 62]
abbrev dktX6_terms_0 : List UInt8 := dkwX6_terms_0 ++ dktX6_terms_1
theorem dksX6_terms_0 : cX6_terms.data.toList.drop 0 = dktX6_terms_0 := by decide +kernel
theorem dksX6_terms_1 : cX6_terms.data.toList.drop 24 = dktX6_terms_1 := dk_seg dksX6_terms_0 24 rfl rfl
theorem dX6_terms_0 : decode cX6_terms 0 = .ok (.iload_n 1, 1) := dk_27 (dk_at dksX6_terms_0 0 rfl rfl)
theorem dX6_terms_1 : decode cX6_terms 1 = .ok (.iload_n 2, 1) := dk_28 (dk_at dksX6_terms_0 1 rfl rfl)
theorem dX6_terms_2 : decode cX6_terms 2 = .ok (.invokestatic 153, 3) := dk_184 0 153 (dk_at dksX6_terms_0 2 rfl rfl)
theorem dX6_terms_5 : decode cX6_terms 5 = .ok (.ifCond .ne 9, 3) := dk_154 0 9 (dk_at dksX6_terms_0 5 rfl rfl)
theorem dX6_terms_8 : decode cX6_terms 8 = .ok (.aload_n 0, 1) := dk_42 (dk_at dksX6_terms_0 8 rfl rfl)
theorem dX6_terms_9 : decode cX6_terms 9 = .ok (.iconst (-1), 1) := dk_2 (dk_at dksX6_terms_0 9 rfl rfl)
theorem dX6_terms_10 : decode cX6_terms 10 = .ok (.invokevirtual 106, 3) := dk_182 0 106 (dk_at dksX6_terms_0 10 rfl rfl)
theorem dX6_terms_13 : decode cX6_terms 13 = .ok (.ireturn, 1) := dk_172 (dk_at dksX6_terms_0 13 rfl rfl)
theorem dX6_terms_14 : decode cX6_terms 14 = .ok (.aload_n 0, 1) := dk_42 (dk_at dksX6_terms_0 14 rfl rfl)
theorem dX6_terms_15 : decode cX6_terms 15 = .ok (.getfield 24, 3) := dk_180 0 24 (dk_at dksX6_terms_0 15 rfl rfl)
theorem dX6_terms_18 : decode cX6_terms 18 = .ok (.iload_n 1, 1) := dk_27 (dk_at dksX6_terms_0 18 rfl rfl)
theorem dX6_terms_19 : decode cX6_terms 19 = .ok (.invokestatic 156, 3) := dk_184 0 156 (dk_at dksX6_terms_0 19 rfl rfl)
theorem dX6_terms_22 : decode cX6_terms 22 = .ok (.iaload, 1) := dk_46 (dk_at dksX6_terms_0 22 rfl rfl)
theorem dX6_terms_23 : decode cX6_terms 23 = .ok (.istore_n 3, 1) := dk_62 (dk_at dksX6_terms_0 23 rfl rfl)
theorem dX6_terms_24 : decode cX6_terms 24 = .ok (.aload_n 0, 1) := dk_42 (dk_at dksX6_terms_1 0 rfl rfl)
theorem dX6_terms_25 : decode cX6_terms 25 = .ok (.getfield 24, 3) := dk_180 0 24 (dk_at dksX6_terms_1 1 rfl rfl)
theorem dX6_terms_28 : decode cX6_terms 28 = .ok (.iload_n 1, 1) := dk_27 (dk_at dksX6_terms_1 4 rfl rfl)
theorem dX6_terms_29 : decode cX6_terms 29 = .ok (.invokestatic 156, 3) := dk_184 0 156 (dk_at dksX6_terms_1 5 rfl rfl)
theorem dX6_terms_32 : decode cX6_terms 32 = .ok (.iload_n 2, 1) := dk_28 (dk_at dksX6_terms_1 8 rfl rfl)
theorem dX6_terms_33 : decode cX6_terms 33 = .ok (.iastore, 1) := dk_79 (dk_at dksX6_terms_1 9 rfl rfl)
theorem dX6_terms_34 : decode cX6_terms 34 = .ok (.aload_n 0, 1) := dk_42 (dk_at dksX6_terms_1 10 rfl rfl)
theorem dX6_terms_35 : decode cX6_terms 35 = .ok (.iload_n 3, 1) := dk_29 (dk_at dksX6_terms_1 11 rfl rfl)
theorem dX6_terms_36 : decode cX6_terms 36 = .ok (.invokevirtual 109, 3) := dk_182 0 109 (dk_at dksX6_terms_1 12 rfl rfl)
theorem dX6_terms_39 : decode cX6_terms 39 = .ok (.ireturn, 1) := dk_172 (dk_at dksX6_terms_1 15 rfl rfl)
abbrev cX6_isTerm : ByteArray := prog_24_method_26_code
def yX6_isTerm : MethodName := ⟨RX6, "isTerm", "(II)Z"⟩
def dkwX6_isTerm_3 : List UInt8 := [172, 3, 172]
abbrev dktX6_isTerm_3 : List UInt8 := dkwX6_isTerm_3 ++ []
def dkwX6_isTerm_2 : List UInt8 := [27, 3, 17, 3, 231, 184, 0, 102, 172, 27, 3, 16, 10, 184, 0, 102, 172, 27, 3, 16, 9, 184, 0, 102]
abbrev dktX6_isTerm_2 : List UInt8 := dkwX6_isTerm_2 ++ dktX6_isTerm_3
def dkwX6_isTerm_1 : List UInt8 := [170, 0, 0, 0, 0, 0, 52, 0, 0, 0, 0, 0, 0, 0, 2, 0, 0, 0, 27, 0, 0, 0, 36, 0, 0, 0, 44]
abbrev dktX6_isTerm_1 : List UInt8 := dkwX6_isTerm_1 ++ dktX6_isTerm_2
def dkwX6_isTerm_0 : List UInt8 := [26]
abbrev dktX6_isTerm_0 : List UInt8 := dkwX6_isTerm_0 ++ dktX6_isTerm_1
theorem dksX6_isTerm_0 : cX6_isTerm.data.toList.drop 0 = dktX6_isTerm_0 := by decide +kernel
theorem dksX6_isTerm_1 : cX6_isTerm.data.toList.drop 1 = dktX6_isTerm_1 := dk_seg dksX6_isTerm_0 1 rfl rfl
theorem dksX6_isTerm_2 : cX6_isTerm.data.toList.drop 28 = dktX6_isTerm_2 := dk_seg dksX6_isTerm_1 27 rfl rfl
theorem dksX6_isTerm_3 : cX6_isTerm.data.toList.drop 52 = dktX6_isTerm_3 := dk_seg dksX6_isTerm_2 24 rfl rfl
theorem dX6_isTerm_0 : decode cX6_isTerm 0 = .ok (.iload_n 0, 1) := dk_26 (dk_at dksX6_isTerm_0 0 rfl rfl)
theorem dX6_isTerm_1 : decode cX6_isTerm 1 = .ok (.tableswitch 52 0 2 #[27, 36, 44], 27) := by decide +kernel
theorem dX6_isTerm_28 : decode cX6_isTerm 28 = .ok (.iload_n 1, 1) := dk_27 (dk_at dksX6_isTerm_2 0 rfl rfl)
theorem dX6_isTerm_29 : decode cX6_isTerm 29 = .ok (.iconst 0, 1) := dk_3 (dk_at dksX6_isTerm_2 1 rfl rfl)
theorem dX6_isTerm_30 : decode cX6_isTerm 30 = .ok (.sipush 999, 3) := dk_17 3 231 (dk_at dksX6_isTerm_2 2 rfl rfl)
theorem dX6_isTerm_33 : decode cX6_isTerm 33 = .ok (.invokestatic 102, 3) := dk_184 0 102 (dk_at dksX6_isTerm_2 5 rfl rfl)
theorem dX6_isTerm_36 : decode cX6_isTerm 36 = .ok (.ireturn, 1) := dk_172 (dk_at dksX6_isTerm_2 8 rfl rfl)
theorem dX6_isTerm_37 : decode cX6_isTerm 37 = .ok (.iload_n 1, 1) := dk_27 (dk_at dksX6_isTerm_2 9 rfl rfl)
theorem dX6_isTerm_38 : decode cX6_isTerm 38 = .ok (.iconst 0, 1) := dk_3 (dk_at dksX6_isTerm_2 10 rfl rfl)
theorem dX6_isTerm_39 : decode cX6_isTerm 39 = .ok (.bipush 10, 2) := dk_16 10 (dk_at dksX6_isTerm_2 11 rfl rfl)
theorem dX6_isTerm_41 : decode cX6_isTerm 41 = .ok (.invokestatic 102, 3) := dk_184 0 102 (dk_at dksX6_isTerm_2 13 rfl rfl)
theorem dX6_isTerm_44 : decode cX6_isTerm 44 = .ok (.ireturn, 1) := dk_172 (dk_at dksX6_isTerm_2 16 rfl rfl)
theorem dX6_isTerm_45 : decode cX6_isTerm 45 = .ok (.iload_n 1, 1) := dk_27 (dk_at dksX6_isTerm_2 17 rfl rfl)
theorem dX6_isTerm_46 : decode cX6_isTerm 46 = .ok (.iconst 0, 1) := dk_3 (dk_at dksX6_isTerm_2 18 rfl rfl)
theorem dX6_isTerm_47 : decode cX6_isTerm 47 = .ok (.bipush 9, 2) := dk_16 9 (dk_at dksX6_isTerm_2 19 rfl rfl)
theorem dX6_isTerm_49 : decode cX6_isTerm 49 = .ok (.invokestatic 102, 3) := dk_184 0 102 (dk_at dksX6_isTerm_2 21 rfl rfl)
theorem dX6_isTerm_52 : decode cX6_isTerm 52 = .ok (.ireturn, 1) := dk_172 (dk_at dksX6_isTerm_3 0 rfl rfl)
theorem dX6_isTerm_53 : decode cX6_isTerm 53 = .ok (.iconst 0, 1) := dk_3 (dk_at dksX6_isTerm_3 1 rfl rfl)
theorem dX6_isTerm_54 : decode cX6_isTerm 54 = .ok (.ireturn, 1) := dk_172 (dk_at dksX6_isTerm_3 2 rfl rfl)
abbrev cX6_termAt : ByteArray := prog_24_method_27_code
def yX6_termAt : MethodName := ⟨RX6, "termAt", "(I)I"⟩
def dkwX6_termAt_0 : List UInt8 := [26, 154, 0, 7, 8, 167, 0, 15, 26, 4, 160, 0, 8, 16, 46, 167, 0, 5, 16, 47, 172]
abbrev dktX6_termAt_0 : List UInt8 := dkwX6_termAt_0 ++ []
theorem dksX6_termAt_0 : cX6_termAt.data.toList.drop 0 = dktX6_termAt_0 := by decide +kernel
theorem dX6_termAt_0 : decode cX6_termAt 0 = .ok (.iload_n 0, 1) := dk_26 (dk_at dksX6_termAt_0 0 rfl rfl)
theorem dX6_termAt_1 : decode cX6_termAt 1 = .ok (.ifCond .ne 7, 3) := dk_154 0 7 (dk_at dksX6_termAt_0 1 rfl rfl)
theorem dX6_termAt_4 : decode cX6_termAt 4 = .ok (.iconst 5, 1) := dk_8 (dk_at dksX6_termAt_0 4 rfl rfl)
theorem dX6_termAt_5 : decode cX6_termAt 5 = .ok (.goto 15, 3) := dk_167 0 15 (dk_at dksX6_termAt_0 5 rfl rfl)
theorem dX6_termAt_8 : decode cX6_termAt 8 = .ok (.iload_n 0, 1) := dk_26 (dk_at dksX6_termAt_0 8 rfl rfl)
theorem dX6_termAt_9 : decode cX6_termAt 9 = .ok (.iconst 1, 1) := dk_4 (dk_at dksX6_termAt_0 9 rfl rfl)
theorem dX6_termAt_10 : decode cX6_termAt 10 = .ok (.if_icmp .ne 8, 3) := dk_160 0 8 (dk_at dksX6_termAt_0 10 rfl rfl)
theorem dX6_termAt_13 : decode cX6_termAt 13 = .ok (.bipush 46, 2) := dk_16 46 (dk_at dksX6_termAt_0 13 rfl rfl)
theorem dX6_termAt_15 : decode cX6_termAt 15 = .ok (.goto 5, 3) := dk_167 0 5 (dk_at dksX6_termAt_0 15 rfl rfl)
theorem dX6_termAt_18 : decode cX6_termAt 18 = .ok (.bipush 47, 2) := dk_16 47 (dk_at dksX6_termAt_0 18 rfl rfl)
theorem dX6_termAt_20 : decode cX6_termAt 20 = .ok (.ireturn, 1) := dk_172 (dk_at dksX6_termAt_0 20 rfl rfl)
abbrev cX6_row : ByteArray := prog_24_method_29_code
def yX6_row : MethodName := ⟨RX6, "row", "()I"⟩
def dkwX6_row_7 : List UInt8 := [181, 0, 162, 132, 3, 3, 167, 255, 128, 42, 28, 182, 0, 109, 172]
abbrev dktX6_row_7 : List UInt8 := dkwX6_row_7 ++ []
def dkwX6_row_6 : List UInt8 := [167, 0, 4, 3, 96, 61, 42, 89, 180, 0, 162, 21, 5, 153, 0, 7, 3, 167, 0, 4, 4, 96]
abbrev dktX6_row_6 : List UInt8 := dkwX6_row_6 ++ dktX6_row_7
def dkwX6_row_5 : List UInt8 := [29, 51, 42, 180, 0, 41, 29, 4, 96, 51, 21, 4, 182, 0, 126, 28, 21, 5, 153, 0, 7, 4]
abbrev dktX6_row_5 : List UInt8 := dkwX6_row_5 ++ dktX6_row_6
def dkwX6_row_4 : List UInt8 := [182, 0, 112, 120, 162, 0, 7, 4, 167, 0, 4, 3, 54, 5, 21, 5, 153, 0, 23, 42, 42, 180, 0, 41]
abbrev dktX6_row_4 : List UInt8 := dkwX6_row_4 ++ dktX6_row_5
def dkwX6_row_3 : List UInt8 := [180, 0, 41, 29, 51, 42, 180, 0, 41, 29, 4, 96, 51, 184, 0, 123, 153, 0, 18, 21, 4, 4, 42]
abbrev dktX6_row_3 : List UInt8 := dkwX6_row_3 ++ dktX6_row_4
def dkwX6_row_2 : List UInt8 := [180, 0, 41, 29, 5, 96, 51, 17, 0, 255, 126, 54, 4, 42, 182, 0, 112, 16, 8, 162, 0, 38, 42]
abbrev dktX6_row_2 : List UInt8 := dkwX6_row_2 ++ dktX6_row_3
def dkwX6_row_1 : List UInt8 := [27, 6, 112, 154, 0, 7, 3, 167, 0, 4, 4, 181, 0, 162, 3, 62, 29, 6, 96, 27, 163, 0, 127, 42]
abbrev dktX6_row_1 : List UInt8 := dkwX6_row_1 ++ dktX6_row_2
def dkwX6_row_0 : List UInt8 := [42, 180, 0, 159, 60, 42, 3, 181, 0, 159, 27, 154, 0, 10, 42, 16, 250, 182, 0, 106, 172, 3, 61, 42]
abbrev dktX6_row_0 : List UInt8 := dkwX6_row_0 ++ dktX6_row_1
theorem dksX6_row_0 : cX6_row.data.toList.drop 0 = dktX6_row_0 := by decide +kernel
theorem dksX6_row_1 : cX6_row.data.toList.drop 24 = dktX6_row_1 := dk_seg dksX6_row_0 24 rfl rfl
theorem dksX6_row_2 : cX6_row.data.toList.drop 48 = dktX6_row_2 := dk_seg dksX6_row_1 24 rfl rfl
theorem dksX6_row_3 : cX6_row.data.toList.drop 71 = dktX6_row_3 := dk_seg dksX6_row_2 23 rfl rfl
theorem dksX6_row_4 : cX6_row.data.toList.drop 94 = dktX6_row_4 := dk_seg dksX6_row_3 23 rfl rfl
theorem dksX6_row_5 : cX6_row.data.toList.drop 118 = dktX6_row_5 := dk_seg dksX6_row_4 24 rfl rfl
theorem dksX6_row_6 : cX6_row.data.toList.drop 140 = dktX6_row_6 := dk_seg dksX6_row_5 22 rfl rfl
theorem dksX6_row_7 : cX6_row.data.toList.drop 162 = dktX6_row_7 := dk_seg dksX6_row_6 22 rfl rfl
theorem dX6_row_0 : decode cX6_row 0 = .ok (.aload_n 0, 1) := dk_42 (dk_at dksX6_row_0 0 rfl rfl)
theorem dX6_row_1 : decode cX6_row 1 = .ok (.getfield 159, 3) := dk_180 0 159 (dk_at dksX6_row_0 1 rfl rfl)
theorem dX6_row_4 : decode cX6_row 4 = .ok (.istore_n 1, 1) := dk_60 (dk_at dksX6_row_0 4 rfl rfl)
theorem dX6_row_5 : decode cX6_row 5 = .ok (.aload_n 0, 1) := dk_42 (dk_at dksX6_row_0 5 rfl rfl)
theorem dX6_row_6 : decode cX6_row 6 = .ok (.iconst 0, 1) := dk_3 (dk_at dksX6_row_0 6 rfl rfl)
theorem dX6_row_7 : decode cX6_row 7 = .ok (.putfield 159, 3) := dk_181 0 159 (dk_at dksX6_row_0 7 rfl rfl)
theorem dX6_row_10 : decode cX6_row 10 = .ok (.iload_n 1, 1) := dk_27 (dk_at dksX6_row_0 10 rfl rfl)
theorem dX6_row_11 : decode cX6_row 11 = .ok (.ifCond .ne 10, 3) := dk_154 0 10 (dk_at dksX6_row_0 11 rfl rfl)
theorem dX6_row_14 : decode cX6_row 14 = .ok (.aload_n 0, 1) := dk_42 (dk_at dksX6_row_0 14 rfl rfl)
theorem dX6_row_15 : decode cX6_row 15 = .ok (.bipush (-6), 2) := dk_16 250 (dk_at dksX6_row_0 15 rfl rfl)
theorem dX6_row_17 : decode cX6_row 17 = .ok (.invokevirtual 106, 3) := dk_182 0 106 (dk_at dksX6_row_0 17 rfl rfl)
theorem dX6_row_20 : decode cX6_row 20 = .ok (.ireturn, 1) := dk_172 (dk_at dksX6_row_0 20 rfl rfl)
theorem dX6_row_21 : decode cX6_row 21 = .ok (.iconst 0, 1) := dk_3 (dk_at dksX6_row_0 21 rfl rfl)
theorem dX6_row_22 : decode cX6_row 22 = .ok (.istore_n 2, 1) := dk_61 (dk_at dksX6_row_0 22 rfl rfl)
theorem dX6_row_23 : decode cX6_row 23 = .ok (.aload_n 0, 1) := dk_42 (dk_at dksX6_row_0 23 rfl rfl)
theorem dX6_row_24 : decode cX6_row 24 = .ok (.iload_n 1, 1) := dk_27 (dk_at dksX6_row_1 0 rfl rfl)
theorem dX6_row_25 : decode cX6_row 25 = .ok (.iconst 3, 1) := dk_6 (dk_at dksX6_row_1 1 rfl rfl)
theorem dX6_row_26 : decode cX6_row 26 = .ok (.irem, 1) := dk_112 (dk_at dksX6_row_1 2 rfl rfl)
theorem dX6_row_27 : decode cX6_row 27 = .ok (.ifCond .ne 7, 3) := dk_154 0 7 (dk_at dksX6_row_1 3 rfl rfl)
theorem dX6_row_30 : decode cX6_row 30 = .ok (.iconst 0, 1) := dk_3 (dk_at dksX6_row_1 6 rfl rfl)
theorem dX6_row_31 : decode cX6_row 31 = .ok (.goto 4, 3) := dk_167 0 4 (dk_at dksX6_row_1 7 rfl rfl)
theorem dX6_row_34 : decode cX6_row 34 = .ok (.iconst 1, 1) := dk_4 (dk_at dksX6_row_1 10 rfl rfl)
theorem dX6_row_35 : decode cX6_row 35 = .ok (.putfield 162, 3) := dk_181 0 162 (dk_at dksX6_row_1 11 rfl rfl)
theorem dX6_row_38 : decode cX6_row 38 = .ok (.iconst 0, 1) := dk_3 (dk_at dksX6_row_1 14 rfl rfl)
theorem dX6_row_39 : decode cX6_row 39 = .ok (.istore_n 3, 1) := dk_62 (dk_at dksX6_row_1 15 rfl rfl)
theorem dX6_row_40 : decode cX6_row 40 = .ok (.iload_n 3, 1) := dk_29 (dk_at dksX6_row_1 16 rfl rfl)
theorem dX6_row_41 : decode cX6_row 41 = .ok (.iconst 3, 1) := dk_6 (dk_at dksX6_row_1 17 rfl rfl)
theorem dX6_row_42 : decode cX6_row 42 = .ok (.iadd, 1) := dk_96 (dk_at dksX6_row_1 18 rfl rfl)
theorem dX6_row_43 : decode cX6_row 43 = .ok (.iload_n 1, 1) := dk_27 (dk_at dksX6_row_1 19 rfl rfl)
theorem dX6_row_44 : decode cX6_row 44 = .ok (.if_icmp .gt 127, 3) := dk_163 0 127 (dk_at dksX6_row_1 20 rfl rfl)
theorem dX6_row_47 : decode cX6_row 47 = .ok (.aload_n 0, 1) := dk_42 (dk_at dksX6_row_1 23 rfl rfl)
theorem dX6_row_48 : decode cX6_row 48 = .ok (.getfield 41, 3) := dk_180 0 41 (dk_at dksX6_row_2 0 rfl rfl)
theorem dX6_row_51 : decode cX6_row 51 = .ok (.iload_n 3, 1) := dk_29 (dk_at dksX6_row_2 3 rfl rfl)
theorem dX6_row_52 : decode cX6_row 52 = .ok (.iconst 2, 1) := dk_5 (dk_at dksX6_row_2 4 rfl rfl)
theorem dX6_row_53 : decode cX6_row 53 = .ok (.iadd, 1) := dk_96 (dk_at dksX6_row_2 5 rfl rfl)
theorem dX6_row_54 : decode cX6_row 54 = .ok (.baload, 1) := dk_51 (dk_at dksX6_row_2 6 rfl rfl)
theorem dX6_row_55 : decode cX6_row 55 = .ok (.sipush 255, 3) := dk_17 0 255 (dk_at dksX6_row_2 7 rfl rfl)
theorem dX6_row_58 : decode cX6_row 58 = .ok (.iand, 1) := dk_126 (dk_at dksX6_row_2 10 rfl rfl)
theorem dX6_row_59 : decode cX6_row 59 = .ok (.istore 4, 2) := dk_54 4 (dk_at dksX6_row_2 11 rfl rfl)
theorem dX6_row_61 : decode cX6_row 61 = .ok (.aload_n 0, 1) := dk_42 (dk_at dksX6_row_2 13 rfl rfl)
theorem dX6_row_62 : decode cX6_row 62 = .ok (.invokevirtual 112, 3) := dk_182 0 112 (dk_at dksX6_row_2 14 rfl rfl)
theorem dX6_row_65 : decode cX6_row 65 = .ok (.bipush 8, 2) := dk_16 8 (dk_at dksX6_row_2 17 rfl rfl)
theorem dX6_row_67 : decode cX6_row 67 = .ok (.if_icmp .ge 38, 3) := dk_162 0 38 (dk_at dksX6_row_2 19 rfl rfl)
theorem dX6_row_70 : decode cX6_row 70 = .ok (.aload_n 0, 1) := dk_42 (dk_at dksX6_row_2 22 rfl rfl)
theorem dX6_row_71 : decode cX6_row 71 = .ok (.getfield 41, 3) := dk_180 0 41 (dk_at dksX6_row_3 0 rfl rfl)
theorem dX6_row_74 : decode cX6_row 74 = .ok (.iload_n 3, 1) := dk_29 (dk_at dksX6_row_3 3 rfl rfl)
theorem dX6_row_75 : decode cX6_row 75 = .ok (.baload, 1) := dk_51 (dk_at dksX6_row_3 4 rfl rfl)
theorem dX6_row_76 : decode cX6_row 76 = .ok (.aload_n 0, 1) := dk_42 (dk_at dksX6_row_3 5 rfl rfl)
theorem dX6_row_77 : decode cX6_row 77 = .ok (.getfield 41, 3) := dk_180 0 41 (dk_at dksX6_row_3 6 rfl rfl)
theorem dX6_row_80 : decode cX6_row 80 = .ok (.iload_n 3, 1) := dk_29 (dk_at dksX6_row_3 9 rfl rfl)
theorem dX6_row_81 : decode cX6_row 81 = .ok (.iconst 1, 1) := dk_4 (dk_at dksX6_row_3 10 rfl rfl)
theorem dX6_row_82 : decode cX6_row 82 = .ok (.iadd, 1) := dk_96 (dk_at dksX6_row_3 11 rfl rfl)
theorem dX6_row_83 : decode cX6_row 83 = .ok (.baload, 1) := dk_51 (dk_at dksX6_row_3 12 rfl rfl)
theorem dX6_row_84 : decode cX6_row 84 = .ok (.invokestatic 123, 3) := dk_184 0 123 (dk_at dksX6_row_3 13 rfl rfl)
theorem dX6_row_87 : decode cX6_row 87 = .ok (.ifCond .eq 18, 3) := dk_153 0 18 (dk_at dksX6_row_3 16 rfl rfl)
theorem dX6_row_90 : decode cX6_row 90 = .ok (.iload 4, 2) := dk_21 4 (dk_at dksX6_row_3 19 rfl rfl)
theorem dX6_row_92 : decode cX6_row 92 = .ok (.iconst 1, 1) := dk_4 (dk_at dksX6_row_3 21 rfl rfl)
theorem dX6_row_93 : decode cX6_row 93 = .ok (.aload_n 0, 1) := dk_42 (dk_at dksX6_row_3 22 rfl rfl)
theorem dX6_row_94 : decode cX6_row 94 = .ok (.invokevirtual 112, 3) := dk_182 0 112 (dk_at dksX6_row_4 0 rfl rfl)
theorem dX6_row_97 : decode cX6_row 97 = .ok (.ishl, 1) := dk_120 (dk_at dksX6_row_4 3 rfl rfl)
theorem dX6_row_98 : decode cX6_row 98 = .ok (.if_icmp .ge 7, 3) := dk_162 0 7 (dk_at dksX6_row_4 4 rfl rfl)
theorem dX6_row_101 : decode cX6_row 101 = .ok (.iconst 1, 1) := dk_4 (dk_at dksX6_row_4 7 rfl rfl)
theorem dX6_row_102 : decode cX6_row 102 = .ok (.goto 4, 3) := dk_167 0 4 (dk_at dksX6_row_4 8 rfl rfl)
theorem dX6_row_105 : decode cX6_row 105 = .ok (.iconst 0, 1) := dk_3 (dk_at dksX6_row_4 11 rfl rfl)
theorem dX6_row_106 : decode cX6_row 106 = .ok (.istore 5, 2) := dk_54 5 (dk_at dksX6_row_4 12 rfl rfl)
theorem dX6_row_108 : decode cX6_row 108 = .ok (.iload 5, 2) := dk_21 5 (dk_at dksX6_row_4 14 rfl rfl)
theorem dX6_row_110 : decode cX6_row 110 = .ok (.ifCond .eq 23, 3) := dk_153 0 23 (dk_at dksX6_row_4 16 rfl rfl)
theorem dX6_row_113 : decode cX6_row 113 = .ok (.aload_n 0, 1) := dk_42 (dk_at dksX6_row_4 19 rfl rfl)
theorem dX6_row_114 : decode cX6_row 114 = .ok (.aload_n 0, 1) := dk_42 (dk_at dksX6_row_4 20 rfl rfl)
theorem dX6_row_115 : decode cX6_row 115 = .ok (.getfield 41, 3) := dk_180 0 41 (dk_at dksX6_row_4 21 rfl rfl)
theorem dX6_row_118 : decode cX6_row 118 = .ok (.iload_n 3, 1) := dk_29 (dk_at dksX6_row_5 0 rfl rfl)
theorem dX6_row_119 : decode cX6_row 119 = .ok (.baload, 1) := dk_51 (dk_at dksX6_row_5 1 rfl rfl)
theorem dX6_row_120 : decode cX6_row 120 = .ok (.aload_n 0, 1) := dk_42 (dk_at dksX6_row_5 2 rfl rfl)
theorem dX6_row_121 : decode cX6_row 121 = .ok (.getfield 41, 3) := dk_180 0 41 (dk_at dksX6_row_5 3 rfl rfl)
theorem dX6_row_124 : decode cX6_row 124 = .ok (.iload_n 3, 1) := dk_29 (dk_at dksX6_row_5 6 rfl rfl)
theorem dX6_row_125 : decode cX6_row 125 = .ok (.iconst 1, 1) := dk_4 (dk_at dksX6_row_5 7 rfl rfl)
theorem dX6_row_126 : decode cX6_row 126 = .ok (.iadd, 1) := dk_96 (dk_at dksX6_row_5 8 rfl rfl)
theorem dX6_row_127 : decode cX6_row 127 = .ok (.baload, 1) := dk_51 (dk_at dksX6_row_5 9 rfl rfl)
theorem dX6_row_128 : decode cX6_row 128 = .ok (.iload 4, 2) := dk_21 4 (dk_at dksX6_row_5 10 rfl rfl)
theorem dX6_row_130 : decode cX6_row 130 = .ok (.invokevirtual 126, 3) := dk_182 0 126 (dk_at dksX6_row_5 12 rfl rfl)
theorem dX6_row_133 : decode cX6_row 133 = .ok (.iload_n 2, 1) := dk_28 (dk_at dksX6_row_5 15 rfl rfl)
theorem dX6_row_134 : decode cX6_row 134 = .ok (.iload 5, 2) := dk_21 5 (dk_at dksX6_row_5 16 rfl rfl)
theorem dX6_row_136 : decode cX6_row 136 = .ok (.ifCond .eq 7, 3) := dk_153 0 7 (dk_at dksX6_row_5 18 rfl rfl)
theorem dX6_row_139 : decode cX6_row 139 = .ok (.iconst 1, 1) := dk_4 (dk_at dksX6_row_5 21 rfl rfl)
theorem dX6_row_140 : decode cX6_row 140 = .ok (.goto 4, 3) := dk_167 0 4 (dk_at dksX6_row_6 0 rfl rfl)
theorem dX6_row_143 : decode cX6_row 143 = .ok (.iconst 0, 1) := dk_3 (dk_at dksX6_row_6 3 rfl rfl)
theorem dX6_row_144 : decode cX6_row 144 = .ok (.iadd, 1) := dk_96 (dk_at dksX6_row_6 4 rfl rfl)
theorem dX6_row_145 : decode cX6_row 145 = .ok (.istore_n 2, 1) := dk_61 (dk_at dksX6_row_6 5 rfl rfl)
theorem dX6_row_146 : decode cX6_row 146 = .ok (.aload_n 0, 1) := dk_42 (dk_at dksX6_row_6 6 rfl rfl)
theorem dX6_row_147 : decode cX6_row 147 = .ok (.dup, 1) := dk_89 (dk_at dksX6_row_6 7 rfl rfl)
theorem dX6_row_148 : decode cX6_row 148 = .ok (.getfield 162, 3) := dk_180 0 162 (dk_at dksX6_row_6 8 rfl rfl)
theorem dX6_row_151 : decode cX6_row 151 = .ok (.iload 5, 2) := dk_21 5 (dk_at dksX6_row_6 11 rfl rfl)
theorem dX6_row_153 : decode cX6_row 153 = .ok (.ifCond .eq 7, 3) := dk_153 0 7 (dk_at dksX6_row_6 13 rfl rfl)
theorem dX6_row_156 : decode cX6_row 156 = .ok (.iconst 0, 1) := dk_3 (dk_at dksX6_row_6 16 rfl rfl)
theorem dX6_row_157 : decode cX6_row 157 = .ok (.goto 4, 3) := dk_167 0 4 (dk_at dksX6_row_6 17 rfl rfl)
theorem dX6_row_160 : decode cX6_row 160 = .ok (.iconst 1, 1) := dk_4 (dk_at dksX6_row_6 20 rfl rfl)
theorem dX6_row_161 : decode cX6_row 161 = .ok (.iadd, 1) := dk_96 (dk_at dksX6_row_6 21 rfl rfl)
theorem dX6_row_162 : decode cX6_row 162 = .ok (.putfield 162, 3) := dk_181 0 162 (dk_at dksX6_row_7 0 rfl rfl)
theorem dX6_row_165 : decode cX6_row 165 = .ok (.iinc 3 3, 3) := dk_132 3 3 (dk_at dksX6_row_7 3 rfl rfl)
theorem dX6_row_168 : decode cX6_row 168 = .ok (.goto (-128), 3) := dk_167 255 128 (dk_at dksX6_row_7 6 rfl rfl)
theorem dX6_row_171 : decode cX6_row 171 = .ok (.aload_n 0, 1) := dk_42 (dk_at dksX6_row_7 9 rfl rfl)
theorem dX6_row_172 : decode cX6_row 172 = .ok (.iload_n 2, 1) := dk_28 (dk_at dksX6_row_7 10 rfl rfl)
theorem dX6_row_173 : decode cX6_row 173 = .ok (.invokevirtual 109, 3) := dk_182 0 109 (dk_at dksX6_row_7 11 rfl rfl)
theorem dX6_row_176 : decode cX6_row 176 = .ok (.ireturn, 1) := dk_172 (dk_at dksX6_row_7 14 rfl rfl)
abbrev cX6_slugs : ByteArray := prog_24_method_30_code
def yX6_slugs : MethodName := ⟨RX6, "slugs", "()I"⟩
theorem dX6_slugs_0 : decode cX6_slugs 0 = .ok (.aload_n 0, 1) := by decide +kernel
theorem dX6_slugs_1 : decode cX6_slugs 1 = .ok (.getfield 162, 3) := by decide +kernel
theorem dX6_slugs_4 : decode cX6_slugs 4 = .ok (.ireturn, 1) := by decide +kernel
abbrev cX6_feed : ByteArray := prog_24_method_31_code
def yX6_feed : MethodName := ⟨RX6, "feed", "(IIIII)I"⟩
def dkwX6_feed_5 : List UInt8 := [180, 0, 159, 172]
abbrev dktX6_feed_5 : List UInt8 := dkwX6_feed_5 ++ []
def dkwX6_feed_4 : List UInt8 := [100, 122, 145, 84, 132, 6, 1, 167, 255, 213, 42, 89, 180, 0, 159, 16, 20, 96, 181, 0, 159, 42]
abbrev dktX6_feed_4 : List UInt8 := dkwX6_feed_4 ++ dktX6_feed_5
def dkwX6_feed_3 : List UInt8 := [180, 0, 159, 21, 6, 96, 42, 180, 0, 44, 21, 6, 7, 108, 46, 16, 24, 16, 8, 21, 6, 7, 112, 104]
abbrev dktX6_feed_3 : List UInt8 := dkwX6_feed_3 ++ dktX6_feed_4
def dkwX6_feed_2 : List UInt8 := [180, 0, 44, 7, 21, 5, 79, 3, 54, 6, 21, 6, 16, 20, 162, 0, 42, 42, 180, 0, 41, 42]
abbrev dktX6_feed_2 : List UInt8 := dkwX6_feed_2 ++ dktX6_feed_3
def dkwX6_feed_1 : List UInt8 := [180, 0, 44, 4, 28, 79, 42, 180, 0, 44, 5, 29, 79, 42, 180, 0, 44, 6, 21, 4, 79, 42]
abbrev dktX6_feed_1 : List UInt8 := dkwX6_feed_1 ++ dktX6_feed_2
def dkwX6_feed_0 : List UInt8 := [42, 180, 0, 159, 16, 20, 96, 17, 1, 144, 164, 0, 5, 2, 172, 42, 180, 0, 44, 3, 27, 79, 42]
abbrev dktX6_feed_0 : List UInt8 := dkwX6_feed_0 ++ dktX6_feed_1
theorem dksX6_feed_0 : cX6_feed.data.toList.drop 0 = dktX6_feed_0 := by decide +kernel
theorem dksX6_feed_1 : cX6_feed.data.toList.drop 23 = dktX6_feed_1 := dk_seg dksX6_feed_0 23 rfl rfl
theorem dksX6_feed_2 : cX6_feed.data.toList.drop 45 = dktX6_feed_2 := dk_seg dksX6_feed_1 22 rfl rfl
theorem dksX6_feed_3 : cX6_feed.data.toList.drop 67 = dktX6_feed_3 := dk_seg dksX6_feed_2 22 rfl rfl
theorem dksX6_feed_4 : cX6_feed.data.toList.drop 91 = dktX6_feed_4 := dk_seg dksX6_feed_3 24 rfl rfl
theorem dksX6_feed_5 : cX6_feed.data.toList.drop 113 = dktX6_feed_5 := dk_seg dksX6_feed_4 22 rfl rfl
theorem dX6_feed_0 : decode cX6_feed 0 = .ok (.aload_n 0, 1) := dk_42 (dk_at dksX6_feed_0 0 rfl rfl)
theorem dX6_feed_1 : decode cX6_feed 1 = .ok (.getfield 159, 3) := dk_180 0 159 (dk_at dksX6_feed_0 1 rfl rfl)
theorem dX6_feed_4 : decode cX6_feed 4 = .ok (.bipush 20, 2) := dk_16 20 (dk_at dksX6_feed_0 4 rfl rfl)
theorem dX6_feed_6 : decode cX6_feed 6 = .ok (.iadd, 1) := dk_96 (dk_at dksX6_feed_0 6 rfl rfl)
theorem dX6_feed_7 : decode cX6_feed 7 = .ok (.sipush 400, 3) := dk_17 1 144 (dk_at dksX6_feed_0 7 rfl rfl)
theorem dX6_feed_10 : decode cX6_feed 10 = .ok (.if_icmp .le 5, 3) := dk_164 0 5 (dk_at dksX6_feed_0 10 rfl rfl)
theorem dX6_feed_13 : decode cX6_feed 13 = .ok (.iconst (-1), 1) := dk_2 (dk_at dksX6_feed_0 13 rfl rfl)
theorem dX6_feed_14 : decode cX6_feed 14 = .ok (.ireturn, 1) := dk_172 (dk_at dksX6_feed_0 14 rfl rfl)
theorem dX6_feed_15 : decode cX6_feed 15 = .ok (.aload_n 0, 1) := dk_42 (dk_at dksX6_feed_0 15 rfl rfl)
theorem dX6_feed_16 : decode cX6_feed 16 = .ok (.getfield 44, 3) := dk_180 0 44 (dk_at dksX6_feed_0 16 rfl rfl)
theorem dX6_feed_19 : decode cX6_feed 19 = .ok (.iconst 0, 1) := dk_3 (dk_at dksX6_feed_0 19 rfl rfl)
theorem dX6_feed_20 : decode cX6_feed 20 = .ok (.iload_n 1, 1) := dk_27 (dk_at dksX6_feed_0 20 rfl rfl)
theorem dX6_feed_21 : decode cX6_feed 21 = .ok (.iastore, 1) := dk_79 (dk_at dksX6_feed_0 21 rfl rfl)
theorem dX6_feed_22 : decode cX6_feed 22 = .ok (.aload_n 0, 1) := dk_42 (dk_at dksX6_feed_0 22 rfl rfl)
theorem dX6_feed_23 : decode cX6_feed 23 = .ok (.getfield 44, 3) := dk_180 0 44 (dk_at dksX6_feed_1 0 rfl rfl)
theorem dX6_feed_26 : decode cX6_feed 26 = .ok (.iconst 1, 1) := dk_4 (dk_at dksX6_feed_1 3 rfl rfl)
theorem dX6_feed_27 : decode cX6_feed 27 = .ok (.iload_n 2, 1) := dk_28 (dk_at dksX6_feed_1 4 rfl rfl)
theorem dX6_feed_28 : decode cX6_feed 28 = .ok (.iastore, 1) := dk_79 (dk_at dksX6_feed_1 5 rfl rfl)
theorem dX6_feed_29 : decode cX6_feed 29 = .ok (.aload_n 0, 1) := dk_42 (dk_at dksX6_feed_1 6 rfl rfl)
theorem dX6_feed_30 : decode cX6_feed 30 = .ok (.getfield 44, 3) := dk_180 0 44 (dk_at dksX6_feed_1 7 rfl rfl)
theorem dX6_feed_33 : decode cX6_feed 33 = .ok (.iconst 2, 1) := dk_5 (dk_at dksX6_feed_1 10 rfl rfl)
theorem dX6_feed_34 : decode cX6_feed 34 = .ok (.iload_n 3, 1) := dk_29 (dk_at dksX6_feed_1 11 rfl rfl)
theorem dX6_feed_35 : decode cX6_feed 35 = .ok (.iastore, 1) := dk_79 (dk_at dksX6_feed_1 12 rfl rfl)
theorem dX6_feed_36 : decode cX6_feed 36 = .ok (.aload_n 0, 1) := dk_42 (dk_at dksX6_feed_1 13 rfl rfl)
theorem dX6_feed_37 : decode cX6_feed 37 = .ok (.getfield 44, 3) := dk_180 0 44 (dk_at dksX6_feed_1 14 rfl rfl)
theorem dX6_feed_40 : decode cX6_feed 40 = .ok (.iconst 3, 1) := dk_6 (dk_at dksX6_feed_1 17 rfl rfl)
theorem dX6_feed_41 : decode cX6_feed 41 = .ok (.iload 4, 2) := dk_21 4 (dk_at dksX6_feed_1 18 rfl rfl)
theorem dX6_feed_43 : decode cX6_feed 43 = .ok (.iastore, 1) := dk_79 (dk_at dksX6_feed_1 20 rfl rfl)
theorem dX6_feed_44 : decode cX6_feed 44 = .ok (.aload_n 0, 1) := dk_42 (dk_at dksX6_feed_1 21 rfl rfl)
theorem dX6_feed_45 : decode cX6_feed 45 = .ok (.getfield 44, 3) := dk_180 0 44 (dk_at dksX6_feed_2 0 rfl rfl)
theorem dX6_feed_48 : decode cX6_feed 48 = .ok (.iconst 4, 1) := dk_7 (dk_at dksX6_feed_2 3 rfl rfl)
theorem dX6_feed_49 : decode cX6_feed 49 = .ok (.iload 5, 2) := dk_21 5 (dk_at dksX6_feed_2 4 rfl rfl)
theorem dX6_feed_51 : decode cX6_feed 51 = .ok (.iastore, 1) := dk_79 (dk_at dksX6_feed_2 6 rfl rfl)
theorem dX6_feed_52 : decode cX6_feed 52 = .ok (.iconst 0, 1) := dk_3 (dk_at dksX6_feed_2 7 rfl rfl)
theorem dX6_feed_53 : decode cX6_feed 53 = .ok (.istore 6, 2) := dk_54 6 (dk_at dksX6_feed_2 8 rfl rfl)
theorem dX6_feed_55 : decode cX6_feed 55 = .ok (.iload 6, 2) := dk_21 6 (dk_at dksX6_feed_2 10 rfl rfl)
theorem dX6_feed_57 : decode cX6_feed 57 = .ok (.bipush 20, 2) := dk_16 20 (dk_at dksX6_feed_2 12 rfl rfl)
theorem dX6_feed_59 : decode cX6_feed 59 = .ok (.if_icmp .ge 42, 3) := dk_162 0 42 (dk_at dksX6_feed_2 14 rfl rfl)
theorem dX6_feed_62 : decode cX6_feed 62 = .ok (.aload_n 0, 1) := dk_42 (dk_at dksX6_feed_2 17 rfl rfl)
theorem dX6_feed_63 : decode cX6_feed 63 = .ok (.getfield 41, 3) := dk_180 0 41 (dk_at dksX6_feed_2 18 rfl rfl)
theorem dX6_feed_66 : decode cX6_feed 66 = .ok (.aload_n 0, 1) := dk_42 (dk_at dksX6_feed_2 21 rfl rfl)
theorem dX6_feed_67 : decode cX6_feed 67 = .ok (.getfield 159, 3) := dk_180 0 159 (dk_at dksX6_feed_3 0 rfl rfl)
theorem dX6_feed_70 : decode cX6_feed 70 = .ok (.iload 6, 2) := dk_21 6 (dk_at dksX6_feed_3 3 rfl rfl)
theorem dX6_feed_72 : decode cX6_feed 72 = .ok (.iadd, 1) := dk_96 (dk_at dksX6_feed_3 5 rfl rfl)
theorem dX6_feed_73 : decode cX6_feed 73 = .ok (.aload_n 0, 1) := dk_42 (dk_at dksX6_feed_3 6 rfl rfl)
theorem dX6_feed_74 : decode cX6_feed 74 = .ok (.getfield 44, 3) := dk_180 0 44 (dk_at dksX6_feed_3 7 rfl rfl)
theorem dX6_feed_77 : decode cX6_feed 77 = .ok (.iload 6, 2) := dk_21 6 (dk_at dksX6_feed_3 10 rfl rfl)
theorem dX6_feed_79 : decode cX6_feed 79 = .ok (.iconst 4, 1) := dk_7 (dk_at dksX6_feed_3 12 rfl rfl)
theorem dX6_feed_80 : decode cX6_feed 80 = .ok (.idiv, 1) := dk_108 (dk_at dksX6_feed_3 13 rfl rfl)
theorem dX6_feed_81 : decode cX6_feed 81 = .ok (.iaload, 1) := dk_46 (dk_at dksX6_feed_3 14 rfl rfl)
theorem dX6_feed_82 : decode cX6_feed 82 = .ok (.bipush 24, 2) := dk_16 24 (dk_at dksX6_feed_3 15 rfl rfl)
theorem dX6_feed_84 : decode cX6_feed 84 = .ok (.bipush 8, 2) := dk_16 8 (dk_at dksX6_feed_3 17 rfl rfl)
theorem dX6_feed_86 : decode cX6_feed 86 = .ok (.iload 6, 2) := dk_21 6 (dk_at dksX6_feed_3 19 rfl rfl)
theorem dX6_feed_88 : decode cX6_feed 88 = .ok (.iconst 4, 1) := dk_7 (dk_at dksX6_feed_3 21 rfl rfl)
theorem dX6_feed_89 : decode cX6_feed 89 = .ok (.irem, 1) := dk_112 (dk_at dksX6_feed_3 22 rfl rfl)
theorem dX6_feed_90 : decode cX6_feed 90 = .ok (.imul, 1) := dk_104 (dk_at dksX6_feed_3 23 rfl rfl)
theorem dX6_feed_91 : decode cX6_feed 91 = .ok (.isub, 1) := dk_100 (dk_at dksX6_feed_4 0 rfl rfl)
theorem dX6_feed_92 : decode cX6_feed 92 = .ok (.ishr, 1) := dk_122 (dk_at dksX6_feed_4 1 rfl rfl)
theorem dX6_feed_93 : decode cX6_feed 93 = .ok (.i2b, 1) := dk_145 (dk_at dksX6_feed_4 2 rfl rfl)
theorem dX6_feed_94 : decode cX6_feed 94 = .ok (.bastore, 1) := dk_84 (dk_at dksX6_feed_4 3 rfl rfl)
theorem dX6_feed_95 : decode cX6_feed 95 = .ok (.iinc 6 1, 3) := dk_132 6 1 (dk_at dksX6_feed_4 4 rfl rfl)
theorem dX6_feed_98 : decode cX6_feed 98 = .ok (.goto (-43), 3) := dk_167 255 213 (dk_at dksX6_feed_4 7 rfl rfl)
theorem dX6_feed_101 : decode cX6_feed 101 = .ok (.aload_n 0, 1) := dk_42 (dk_at dksX6_feed_4 10 rfl rfl)
theorem dX6_feed_102 : decode cX6_feed 102 = .ok (.dup, 1) := dk_89 (dk_at dksX6_feed_4 11 rfl rfl)
theorem dX6_feed_103 : decode cX6_feed 103 = .ok (.getfield 159, 3) := dk_180 0 159 (dk_at dksX6_feed_4 12 rfl rfl)
theorem dX6_feed_106 : decode cX6_feed 106 = .ok (.bipush 20, 2) := dk_16 20 (dk_at dksX6_feed_4 15 rfl rfl)
theorem dX6_feed_108 : decode cX6_feed 108 = .ok (.iadd, 1) := dk_96 (dk_at dksX6_feed_4 17 rfl rfl)
theorem dX6_feed_109 : decode cX6_feed 109 = .ok (.putfield 159, 3) := dk_181 0 159 (dk_at dksX6_feed_4 18 rfl rfl)
theorem dX6_feed_112 : decode cX6_feed 112 = .ok (.aload_n 0, 1) := dk_42 (dk_at dksX6_feed_4 21 rfl rfl)
theorem dX6_feed_113 : decode cX6_feed 113 = .ok (.getfield 159, 3) := dk_180 0 159 (dk_at dksX6_feed_5 0 rfl rfl)
theorem dX6_feed_116 : decode cX6_feed 116 = .ok (.ireturn, 1) := dk_172 (dk_at dksX6_feed_5 3 rfl rfl)
abbrev cX6_end : ByteArray := prog_24_method_32_code
def yX6_end : MethodName := ⟨RX6, "end", "(I)I"⟩
def dkwX6_end_0 : List UInt8 := [27, 3, 42, 180, 0, 159, 184, 0, 102, 154, 0, 5, 2, 172, 42, 27, 181, 0, 159, 27, 172]
abbrev dktX6_end_0 : List UInt8 := dkwX6_end_0 ++ []
theorem dksX6_end_0 : cX6_end.data.toList.drop 0 = dktX6_end_0 := by decide +kernel
theorem dX6_end_0 : decode cX6_end 0 = .ok (.iload_n 1, 1) := dk_27 (dk_at dksX6_end_0 0 rfl rfl)
theorem dX6_end_1 : decode cX6_end 1 = .ok (.iconst 0, 1) := dk_3 (dk_at dksX6_end_0 1 rfl rfl)
theorem dX6_end_2 : decode cX6_end 2 = .ok (.aload_n 0, 1) := dk_42 (dk_at dksX6_end_0 2 rfl rfl)
theorem dX6_end_3 : decode cX6_end 3 = .ok (.getfield 159, 3) := dk_180 0 159 (dk_at dksX6_end_0 3 rfl rfl)
theorem dX6_end_6 : decode cX6_end 6 = .ok (.invokestatic 102, 3) := dk_184 0 102 (dk_at dksX6_end_0 6 rfl rfl)
theorem dX6_end_9 : decode cX6_end 9 = .ok (.ifCond .ne 5, 3) := dk_154 0 5 (dk_at dksX6_end_0 9 rfl rfl)
theorem dX6_end_12 : decode cX6_end 12 = .ok (.iconst (-1), 1) := dk_2 (dk_at dksX6_end_0 12 rfl rfl)
theorem dX6_end_13 : decode cX6_end 13 = .ok (.ireturn, 1) := dk_172 (dk_at dksX6_end_0 13 rfl rfl)
theorem dX6_end_14 : decode cX6_end 14 = .ok (.aload_n 0, 1) := dk_42 (dk_at dksX6_end_0 14 rfl rfl)
theorem dX6_end_15 : decode cX6_end 15 = .ok (.iload_n 1, 1) := dk_27 (dk_at dksX6_end_0 15 rfl rfl)
theorem dX6_end_16 : decode cX6_end 16 = .ok (.putfield 159, 3) := dk_181 0 159 (dk_at dksX6_end_0 16 rfl rfl)
theorem dX6_end_19 : decode cX6_end 19 = .ok (.iload_n 1, 1) := dk_27 (dk_at dksX6_end_0 19 rfl rfl)
theorem dX6_end_20 : decode cX6_end 20 = .ok (.ireturn, 1) := dk_172 (dk_at dksX6_end_0 20 rfl rfl)
abbrev cX6_law : ByteArray := prog_24_method_56_code
def yX6_law : MethodName := ⟨RX6, "law", "()I"⟩
def dkwX6_law_3 : List UInt8 := [182, 0, 14, 172]
abbrev dktX6_law_3 : List UInt8 := dkwX6_law_3 ++ []
def dkwX6_law_2 : List UInt8 := [182, 1, 3, 42, 180, 0, 24, 16, 51, 92, 46, 4, 96, 79, 42, 42, 180, 0, 24, 16, 51, 46, 4, 100]
abbrev dktX6_law_2 : List UInt8 := dkwX6_law_2 ++ dktX6_law_3
def dkwX6_law_1 : List UInt8 := [42, 3, 182, 0, 255, 154, 0, 10, 42, 16, 250, 182, 0, 106, 172, 42, 42, 180, 0, 24, 16, 51, 46]
abbrev dktX6_law_1 : List UInt8 := dkwX6_law_1 ++ dktX6_law_2
def dkwX6_law_0 : List UInt8 := [42, 180, 0, 24, 16, 51, 46, 16, 6, 160, 0, 15, 42, 3, 181, 0, 159, 42, 16, 251, 182, 0, 106, 172]
abbrev dktX6_law_0 : List UInt8 := dkwX6_law_0 ++ dktX6_law_1
theorem dksX6_law_0 : cX6_law.data.toList.drop 0 = dktX6_law_0 := by decide +kernel
theorem dksX6_law_1 : cX6_law.data.toList.drop 24 = dktX6_law_1 := dk_seg dksX6_law_0 24 rfl rfl
theorem dksX6_law_2 : cX6_law.data.toList.drop 47 = dktX6_law_2 := dk_seg dksX6_law_1 23 rfl rfl
theorem dksX6_law_3 : cX6_law.data.toList.drop 71 = dktX6_law_3 := dk_seg dksX6_law_2 24 rfl rfl
theorem dX6_law_0 : decode cX6_law 0 = .ok (.aload_n 0, 1) := dk_42 (dk_at dksX6_law_0 0 rfl rfl)
theorem dX6_law_1 : decode cX6_law 1 = .ok (.getfield 24, 3) := dk_180 0 24 (dk_at dksX6_law_0 1 rfl rfl)
theorem dX6_law_4 : decode cX6_law 4 = .ok (.bipush 51, 2) := dk_16 51 (dk_at dksX6_law_0 4 rfl rfl)
theorem dX6_law_6 : decode cX6_law 6 = .ok (.iaload, 1) := dk_46 (dk_at dksX6_law_0 6 rfl rfl)
theorem dX6_law_7 : decode cX6_law 7 = .ok (.bipush 6, 2) := dk_16 6 (dk_at dksX6_law_0 7 rfl rfl)
theorem dX6_law_9 : decode cX6_law 9 = .ok (.if_icmp .ne 15, 3) := dk_160 0 15 (dk_at dksX6_law_0 9 rfl rfl)
theorem dX6_law_12 : decode cX6_law 12 = .ok (.aload_n 0, 1) := dk_42 (dk_at dksX6_law_0 12 rfl rfl)
theorem dX6_law_13 : decode cX6_law 13 = .ok (.iconst 0, 1) := dk_3 (dk_at dksX6_law_0 13 rfl rfl)
theorem dX6_law_14 : decode cX6_law 14 = .ok (.putfield 159, 3) := dk_181 0 159 (dk_at dksX6_law_0 14 rfl rfl)
theorem dX6_law_17 : decode cX6_law 17 = .ok (.aload_n 0, 1) := dk_42 (dk_at dksX6_law_0 17 rfl rfl)
theorem dX6_law_18 : decode cX6_law 18 = .ok (.bipush (-5), 2) := dk_16 251 (dk_at dksX6_law_0 18 rfl rfl)
theorem dX6_law_20 : decode cX6_law 20 = .ok (.invokevirtual 106, 3) := dk_182 0 106 (dk_at dksX6_law_0 20 rfl rfl)
theorem dX6_law_23 : decode cX6_law 23 = .ok (.ireturn, 1) := dk_172 (dk_at dksX6_law_0 23 rfl rfl)
theorem dX6_law_24 : decode cX6_law 24 = .ok (.aload_n 0, 1) := dk_42 (dk_at dksX6_law_1 0 rfl rfl)
theorem dX6_law_25 : decode cX6_law 25 = .ok (.iconst 0, 1) := dk_3 (dk_at dksX6_law_1 1 rfl rfl)
theorem dX6_law_26 : decode cX6_law 26 = .ok (.invokevirtual 255, 3) := dk_182 0 255 (dk_at dksX6_law_1 2 rfl rfl)
theorem dX6_law_29 : decode cX6_law 29 = .ok (.ifCond .ne 10, 3) := dk_154 0 10 (dk_at dksX6_law_1 5 rfl rfl)
theorem dX6_law_32 : decode cX6_law 32 = .ok (.aload_n 0, 1) := dk_42 (dk_at dksX6_law_1 8 rfl rfl)
theorem dX6_law_33 : decode cX6_law 33 = .ok (.bipush (-6), 2) := dk_16 250 (dk_at dksX6_law_1 9 rfl rfl)
theorem dX6_law_35 : decode cX6_law 35 = .ok (.invokevirtual 106, 3) := dk_182 0 106 (dk_at dksX6_law_1 11 rfl rfl)
theorem dX6_law_38 : decode cX6_law 38 = .ok (.ireturn, 1) := dk_172 (dk_at dksX6_law_1 14 rfl rfl)
theorem dX6_law_39 : decode cX6_law 39 = .ok (.aload_n 0, 1) := dk_42 (dk_at dksX6_law_1 15 rfl rfl)
theorem dX6_law_40 : decode cX6_law 40 = .ok (.aload_n 0, 1) := dk_42 (dk_at dksX6_law_1 16 rfl rfl)
theorem dX6_law_41 : decode cX6_law 41 = .ok (.getfield 24, 3) := dk_180 0 24 (dk_at dksX6_law_1 17 rfl rfl)
theorem dX6_law_44 : decode cX6_law 44 = .ok (.bipush 51, 2) := dk_16 51 (dk_at dksX6_law_1 20 rfl rfl)
theorem dX6_law_46 : decode cX6_law 46 = .ok (.iaload, 1) := dk_46 (dk_at dksX6_law_1 22 rfl rfl)
theorem dX6_law_47 : decode cX6_law 47 = .ok (.invokevirtual 259, 3) := dk_182 1 3 (dk_at dksX6_law_2 0 rfl rfl)
theorem dX6_law_50 : decode cX6_law 50 = .ok (.aload_n 0, 1) := dk_42 (dk_at dksX6_law_2 3 rfl rfl)
theorem dX6_law_51 : decode cX6_law 51 = .ok (.getfield 24, 3) := dk_180 0 24 (dk_at dksX6_law_2 4 rfl rfl)
theorem dX6_law_54 : decode cX6_law 54 = .ok (.bipush 51, 2) := dk_16 51 (dk_at dksX6_law_2 7 rfl rfl)
theorem dX6_law_56 : decode cX6_law 56 = .ok (.dup2, 1) := dk_92 (dk_at dksX6_law_2 9 rfl rfl)
theorem dX6_law_57 : decode cX6_law 57 = .ok (.iaload, 1) := dk_46 (dk_at dksX6_law_2 10 rfl rfl)
theorem dX6_law_58 : decode cX6_law 58 = .ok (.iconst 1, 1) := dk_4 (dk_at dksX6_law_2 11 rfl rfl)
theorem dX6_law_59 : decode cX6_law 59 = .ok (.iadd, 1) := dk_96 (dk_at dksX6_law_2 12 rfl rfl)
theorem dX6_law_60 : decode cX6_law 60 = .ok (.iastore, 1) := dk_79 (dk_at dksX6_law_2 13 rfl rfl)
theorem dX6_law_61 : decode cX6_law 61 = .ok (.aload_n 0, 1) := dk_42 (dk_at dksX6_law_2 14 rfl rfl)
theorem dX6_law_62 : decode cX6_law 62 = .ok (.aload_n 0, 1) := dk_42 (dk_at dksX6_law_2 15 rfl rfl)
theorem dX6_law_63 : decode cX6_law 63 = .ok (.getfield 24, 3) := dk_180 0 24 (dk_at dksX6_law_2 16 rfl rfl)
theorem dX6_law_66 : decode cX6_law 66 = .ok (.bipush 51, 2) := dk_16 51 (dk_at dksX6_law_2 19 rfl rfl)
theorem dX6_law_68 : decode cX6_law 68 = .ok (.iaload, 1) := dk_46 (dk_at dksX6_law_2 21 rfl rfl)
theorem dX6_law_69 : decode cX6_law 69 = .ok (.iconst 1, 1) := dk_4 (dk_at dksX6_law_2 22 rfl rfl)
theorem dX6_law_70 : decode cX6_law 70 = .ok (.isub, 1) := dk_100 (dk_at dksX6_law_2 23 rfl rfl)
theorem dX6_law_71 : decode cX6_law 71 = .ok (.invokevirtual 14, 3) := dk_182 0 14 (dk_at dksX6_law_3 0 rfl rfl)
theorem dX6_law_74 : decode cX6_law 74 = .ok (.ireturn, 1) := dk_172 (dk_at dksX6_law_3 3 rfl rfl)
abbrev cX6_readsAs : ByteArray := prog_24_method_54_code
def yX6_readsAs : MethodName := ⟨RX6, "readsAs", "(Z)Z"⟩
def dkwX6_readsAs_1 : List UInt8 := [153, 0, 8, 16, 20, 167, 0, 5, 16, 16, 181, 0, 240, 42, 182, 0, 252, 172]
abbrev dktX6_readsAs_1 : List UInt8 := dkwX6_readsAs_1 ++ []
def dkwX6_readsAs_0 : List UInt8 := [42, 27, 181, 0, 211, 42, 27, 153, 0, 8, 16, 14, 167, 0, 5, 16, 8, 181, 0, 237, 42, 27]
abbrev dktX6_readsAs_0 : List UInt8 := dkwX6_readsAs_0 ++ dktX6_readsAs_1
theorem dksX6_readsAs_0 : cX6_readsAs.data.toList.drop 0 = dktX6_readsAs_0 := by decide +kernel
theorem dksX6_readsAs_1 : cX6_readsAs.data.toList.drop 22 = dktX6_readsAs_1 := dk_seg dksX6_readsAs_0 22 rfl rfl
theorem dX6_readsAs_0 : decode cX6_readsAs 0 = .ok (.aload_n 0, 1) := dk_42 (dk_at dksX6_readsAs_0 0 rfl rfl)
theorem dX6_readsAs_1 : decode cX6_readsAs 1 = .ok (.iload_n 1, 1) := dk_27 (dk_at dksX6_readsAs_0 1 rfl rfl)
theorem dX6_readsAs_2 : decode cX6_readsAs 2 = .ok (.putfield 211, 3) := dk_181 0 211 (dk_at dksX6_readsAs_0 2 rfl rfl)
theorem dX6_readsAs_5 : decode cX6_readsAs 5 = .ok (.aload_n 0, 1) := dk_42 (dk_at dksX6_readsAs_0 5 rfl rfl)
theorem dX6_readsAs_6 : decode cX6_readsAs 6 = .ok (.iload_n 1, 1) := dk_27 (dk_at dksX6_readsAs_0 6 rfl rfl)
theorem dX6_readsAs_7 : decode cX6_readsAs 7 = .ok (.ifCond .eq 8, 3) := dk_153 0 8 (dk_at dksX6_readsAs_0 7 rfl rfl)
theorem dX6_readsAs_10 : decode cX6_readsAs 10 = .ok (.bipush 14, 2) := dk_16 14 (dk_at dksX6_readsAs_0 10 rfl rfl)
theorem dX6_readsAs_12 : decode cX6_readsAs 12 = .ok (.goto 5, 3) := dk_167 0 5 (dk_at dksX6_readsAs_0 12 rfl rfl)
theorem dX6_readsAs_15 : decode cX6_readsAs 15 = .ok (.bipush 8, 2) := dk_16 8 (dk_at dksX6_readsAs_0 15 rfl rfl)
theorem dX6_readsAs_17 : decode cX6_readsAs 17 = .ok (.putfield 237, 3) := dk_181 0 237 (dk_at dksX6_readsAs_0 17 rfl rfl)
theorem dX6_readsAs_20 : decode cX6_readsAs 20 = .ok (.aload_n 0, 1) := dk_42 (dk_at dksX6_readsAs_0 20 rfl rfl)
theorem dX6_readsAs_21 : decode cX6_readsAs 21 = .ok (.iload_n 1, 1) := dk_27 (dk_at dksX6_readsAs_0 21 rfl rfl)
theorem dX6_readsAs_22 : decode cX6_readsAs 22 = .ok (.ifCond .eq 8, 3) := dk_153 0 8 (dk_at dksX6_readsAs_1 0 rfl rfl)
theorem dX6_readsAs_25 : decode cX6_readsAs 25 = .ok (.bipush 20, 2) := dk_16 20 (dk_at dksX6_readsAs_1 3 rfl rfl)
theorem dX6_readsAs_27 : decode cX6_readsAs 27 = .ok (.goto 5, 3) := dk_167 0 5 (dk_at dksX6_readsAs_1 5 rfl rfl)
theorem dX6_readsAs_30 : decode cX6_readsAs 30 = .ok (.bipush 16, 2) := dk_16 16 (dk_at dksX6_readsAs_1 8 rfl rfl)
theorem dX6_readsAs_32 : decode cX6_readsAs 32 = .ok (.putfield 240, 3) := dk_181 0 240 (dk_at dksX6_readsAs_1 10 rfl rfl)
theorem dX6_readsAs_35 : decode cX6_readsAs 35 = .ok (.aload_n 0, 1) := dk_42 (dk_at dksX6_readsAs_1 13 rfl rfl)
theorem dX6_readsAs_36 : decode cX6_readsAs 36 = .ok (.invokevirtual 252, 3) := dk_182 0 252 (dk_at dksX6_readsAs_1 14 rfl rfl)
theorem dX6_readsAs_39 : decode cX6_readsAs 39 = .ok (.ireturn, 1) := dk_172 (dk_at dksX6_readsAs_1 17 rfl rfl)
abbrev cX6_reads : ByteArray := prog_24_method_53_code
def yX6_reads : MethodName := ⟨RX6, "reads", "()Z"⟩
def dkwX6_reads_4 : List UInt8 := [182, 0, 191, 42, 42, 180, 0, 178, 181, 0, 47, 42, 182, 0, 181, 172]
abbrev dktX6_reads_4 : List UInt8 := dkwX6_reads_4 ++ []
def dkwX6_reads_3 : List UInt8 := [167, 255, 220, 42, 182, 0, 181, 153, 0, 18, 42, 180, 0, 185, 42, 180, 0, 165, 162, 0, 7, 42]
abbrev dktX6_reads_3 : List UInt8 := dkwX6_reads_3 ++ dktX6_reads_4
def dkwX6_reads_2 : List UInt8 := [16, 12, 160, 0, 7, 42, 182, 0, 191, 42, 182, 0, 181, 153, 0, 7, 42, 182, 0, 249, 132, 1, 1]
abbrev dktX6_reads_2 : List UInt8 := dkwX6_reads_2 ++ dktX6_reads_3
def dkwX6_reads_1 : List UInt8 := [2, 181, 0, 178, 42, 182, 0, 249, 4, 60, 42, 16, 59, 184, 0, 227, 182, 0, 188, 153, 0, 30, 27]
abbrev dktX6_reads_1 : List UInt8 := dkwX6_reads_1 ++ dktX6_reads_2
def dkwX6_reads_0 : List UInt8 := [42, 42, 180, 0, 159, 182, 0, 246, 42, 3, 181, 0, 159, 42, 3, 181, 0, 185, 42, 3, 181, 0, 194, 42]
abbrev dktX6_reads_0 : List UInt8 := dkwX6_reads_0 ++ dktX6_reads_1
theorem dksX6_reads_0 : cX6_reads.data.toList.drop 0 = dktX6_reads_0 := by decide +kernel
theorem dksX6_reads_1 : cX6_reads.data.toList.drop 24 = dktX6_reads_1 := dk_seg dksX6_reads_0 24 rfl rfl
theorem dksX6_reads_2 : cX6_reads.data.toList.drop 47 = dktX6_reads_2 := dk_seg dksX6_reads_1 23 rfl rfl
theorem dksX6_reads_3 : cX6_reads.data.toList.drop 70 = dktX6_reads_3 := dk_seg dksX6_reads_2 23 rfl rfl
theorem dksX6_reads_4 : cX6_reads.data.toList.drop 92 = dktX6_reads_4 := dk_seg dksX6_reads_3 22 rfl rfl
theorem dX6_reads_0 : decode cX6_reads 0 = .ok (.aload_n 0, 1) := dk_42 (dk_at dksX6_reads_0 0 rfl rfl)
theorem dX6_reads_1 : decode cX6_reads 1 = .ok (.aload_n 0, 1) := dk_42 (dk_at dksX6_reads_0 1 rfl rfl)
theorem dX6_reads_2 : decode cX6_reads 2 = .ok (.getfield 159, 3) := dk_180 0 159 (dk_at dksX6_reads_0 2 rfl rfl)
theorem dX6_reads_5 : decode cX6_reads 5 = .ok (.invokevirtual 246, 3) := dk_182 0 246 (dk_at dksX6_reads_0 5 rfl rfl)
theorem dX6_reads_8 : decode cX6_reads 8 = .ok (.aload_n 0, 1) := dk_42 (dk_at dksX6_reads_0 8 rfl rfl)
theorem dX6_reads_9 : decode cX6_reads 9 = .ok (.iconst 0, 1) := dk_3 (dk_at dksX6_reads_0 9 rfl rfl)
theorem dX6_reads_10 : decode cX6_reads 10 = .ok (.putfield 159, 3) := dk_181 0 159 (dk_at dksX6_reads_0 10 rfl rfl)
theorem dX6_reads_13 : decode cX6_reads 13 = .ok (.aload_n 0, 1) := dk_42 (dk_at dksX6_reads_0 13 rfl rfl)
theorem dX6_reads_14 : decode cX6_reads 14 = .ok (.iconst 0, 1) := dk_3 (dk_at dksX6_reads_0 14 rfl rfl)
theorem dX6_reads_15 : decode cX6_reads 15 = .ok (.putfield 185, 3) := dk_181 0 185 (dk_at dksX6_reads_0 15 rfl rfl)
theorem dX6_reads_18 : decode cX6_reads 18 = .ok (.aload_n 0, 1) := dk_42 (dk_at dksX6_reads_0 18 rfl rfl)
theorem dX6_reads_19 : decode cX6_reads 19 = .ok (.iconst 0, 1) := dk_3 (dk_at dksX6_reads_0 19 rfl rfl)
theorem dX6_reads_20 : decode cX6_reads 20 = .ok (.putfield 194, 3) := dk_181 0 194 (dk_at dksX6_reads_0 20 rfl rfl)
theorem dX6_reads_23 : decode cX6_reads 23 = .ok (.aload_n 0, 1) := dk_42 (dk_at dksX6_reads_0 23 rfl rfl)
theorem dX6_reads_24 : decode cX6_reads 24 = .ok (.iconst (-1), 1) := dk_2 (dk_at dksX6_reads_1 0 rfl rfl)
theorem dX6_reads_25 : decode cX6_reads 25 = .ok (.putfield 178, 3) := dk_181 0 178 (dk_at dksX6_reads_1 1 rfl rfl)
theorem dX6_reads_28 : decode cX6_reads 28 = .ok (.aload_n 0, 1) := dk_42 (dk_at dksX6_reads_1 4 rfl rfl)
theorem dX6_reads_29 : decode cX6_reads 29 = .ok (.invokevirtual 249, 3) := dk_182 0 249 (dk_at dksX6_reads_1 5 rfl rfl)
theorem dX6_reads_32 : decode cX6_reads 32 = .ok (.iconst 1, 1) := dk_4 (dk_at dksX6_reads_1 8 rfl rfl)
theorem dX6_reads_33 : decode cX6_reads 33 = .ok (.istore_n 1, 1) := dk_60 (dk_at dksX6_reads_1 9 rfl rfl)
theorem dX6_reads_34 : decode cX6_reads 34 = .ok (.aload_n 0, 1) := dk_42 (dk_at dksX6_reads_1 10 rfl rfl)
theorem dX6_reads_35 : decode cX6_reads 35 = .ok (.bipush 59, 2) := dk_16 59 (dk_at dksX6_reads_1 11 rfl rfl)
theorem dX6_reads_37 : decode cX6_reads 37 = .ok (.invokestatic 227, 3) := dk_184 0 227 (dk_at dksX6_reads_1 13 rfl rfl)
theorem dX6_reads_40 : decode cX6_reads 40 = .ok (.invokevirtual 188, 3) := dk_182 0 188 (dk_at dksX6_reads_1 16 rfl rfl)
theorem dX6_reads_43 : decode cX6_reads 43 = .ok (.ifCond .eq 30, 3) := dk_153 0 30 (dk_at dksX6_reads_1 19 rfl rfl)
theorem dX6_reads_46 : decode cX6_reads 46 = .ok (.iload_n 1, 1) := dk_27 (dk_at dksX6_reads_1 22 rfl rfl)
theorem dX6_reads_47 : decode cX6_reads 47 = .ok (.bipush 12, 2) := dk_16 12 (dk_at dksX6_reads_2 0 rfl rfl)
theorem dX6_reads_49 : decode cX6_reads 49 = .ok (.if_icmp .ne 7, 3) := dk_160 0 7 (dk_at dksX6_reads_2 2 rfl rfl)
theorem dX6_reads_52 : decode cX6_reads 52 = .ok (.aload_n 0, 1) := dk_42 (dk_at dksX6_reads_2 5 rfl rfl)
theorem dX6_reads_53 : decode cX6_reads 53 = .ok (.invokevirtual 191, 3) := dk_182 0 191 (dk_at dksX6_reads_2 6 rfl rfl)
theorem dX6_reads_56 : decode cX6_reads 56 = .ok (.aload_n 0, 1) := dk_42 (dk_at dksX6_reads_2 9 rfl rfl)
theorem dX6_reads_57 : decode cX6_reads 57 = .ok (.invokevirtual 181, 3) := dk_182 0 181 (dk_at dksX6_reads_2 10 rfl rfl)
theorem dX6_reads_60 : decode cX6_reads 60 = .ok (.ifCond .eq 7, 3) := dk_153 0 7 (dk_at dksX6_reads_2 13 rfl rfl)
theorem dX6_reads_63 : decode cX6_reads 63 = .ok (.aload_n 0, 1) := dk_42 (dk_at dksX6_reads_2 16 rfl rfl)
theorem dX6_reads_64 : decode cX6_reads 64 = .ok (.invokevirtual 249, 3) := dk_182 0 249 (dk_at dksX6_reads_2 17 rfl rfl)
theorem dX6_reads_67 : decode cX6_reads 67 = .ok (.iinc 1 1, 3) := dk_132 1 1 (dk_at dksX6_reads_2 20 rfl rfl)
theorem dX6_reads_70 : decode cX6_reads 70 = .ok (.goto (-36), 3) := dk_167 255 220 (dk_at dksX6_reads_3 0 rfl rfl)
theorem dX6_reads_73 : decode cX6_reads 73 = .ok (.aload_n 0, 1) := dk_42 (dk_at dksX6_reads_3 3 rfl rfl)
theorem dX6_reads_74 : decode cX6_reads 74 = .ok (.invokevirtual 181, 3) := dk_182 0 181 (dk_at dksX6_reads_3 4 rfl rfl)
theorem dX6_reads_77 : decode cX6_reads 77 = .ok (.ifCond .eq 18, 3) := dk_153 0 18 (dk_at dksX6_reads_3 7 rfl rfl)
theorem dX6_reads_80 : decode cX6_reads 80 = .ok (.aload_n 0, 1) := dk_42 (dk_at dksX6_reads_3 10 rfl rfl)
theorem dX6_reads_81 : decode cX6_reads 81 = .ok (.getfield 185, 3) := dk_180 0 185 (dk_at dksX6_reads_3 11 rfl rfl)
theorem dX6_reads_84 : decode cX6_reads 84 = .ok (.aload_n 0, 1) := dk_42 (dk_at dksX6_reads_3 14 rfl rfl)
theorem dX6_reads_85 : decode cX6_reads 85 = .ok (.getfield 165, 3) := dk_180 0 165 (dk_at dksX6_reads_3 15 rfl rfl)
theorem dX6_reads_88 : decode cX6_reads 88 = .ok (.if_icmp .ge 7, 3) := dk_162 0 7 (dk_at dksX6_reads_3 18 rfl rfl)
theorem dX6_reads_91 : decode cX6_reads 91 = .ok (.aload_n 0, 1) := dk_42 (dk_at dksX6_reads_3 21 rfl rfl)
theorem dX6_reads_92 : decode cX6_reads 92 = .ok (.invokevirtual 191, 3) := dk_182 0 191 (dk_at dksX6_reads_4 0 rfl rfl)
theorem dX6_reads_95 : decode cX6_reads 95 = .ok (.aload_n 0, 1) := dk_42 (dk_at dksX6_reads_4 3 rfl rfl)
theorem dX6_reads_96 : decode cX6_reads 96 = .ok (.aload_n 0, 1) := dk_42 (dk_at dksX6_reads_4 4 rfl rfl)
theorem dX6_reads_97 : decode cX6_reads 97 = .ok (.getfield 178, 3) := dk_180 0 178 (dk_at dksX6_reads_4 5 rfl rfl)
theorem dX6_reads_100 : decode cX6_reads 100 = .ok (.putfield 47, 3) := dk_181 0 47 (dk_at dksX6_reads_4 8 rfl rfl)
theorem dX6_reads_103 : decode cX6_reads 103 = .ok (.aload_n 0, 1) := dk_42 (dk_at dksX6_reads_4 11 rfl rfl)
theorem dX6_reads_104 : decode cX6_reads 104 = .ok (.invokevirtual 181, 3) := dk_182 0 181 (dk_at dksX6_reads_4 12 rfl rfl)
theorem dX6_reads_107 : decode cX6_reads 107 = .ok (.ireturn, 1) := dk_172 (dk_at dksX6_reads_4 15 rfl rfl)
abbrev cX6_splits : ByteArray := prog_24_method_36_code
def yX6_splits : MethodName := ⟨RX6, "splits", "(I)V"⟩
def dkwX6_splits_12 : List UInt8 := [3, 79, 42, 180, 0, 53, 42, 180, 0, 165, 3, 79, 177]
abbrev dktX6_splits_12 : List UInt8 := dkwX6_splits_12 ++ []
def dkwX6_splits_11 : List UInt8 := [21, 4, 61, 167, 255, 3, 42, 180, 0, 56, 42, 180, 0, 165, 27, 79, 42, 180, 0, 50, 42, 180, 0, 165]
abbrev dktX6_splits_11 : List UInt8 := dkwX6_splits_11 ++ dktX6_splits_12
def dkwX6_splits_10 : List UInt8 := [21, 5, 51, 96, 16, 48, 100, 79, 132, 5, 1, 167, 255, 181, 42, 89, 180, 0, 165, 4, 96, 181, 0, 165]
abbrev dktX6_splits_10 : List UInt8 := dkwX6_splits_10 ++ dktX6_splits_11
def dkwX6_splits_9 : List UInt8 := [180, 0, 165, 46, 167, 0, 26, 16, 10, 42, 180, 0, 53, 42, 180, 0, 165, 46, 104, 42, 180, 0, 41]
abbrev dktX6_splits_9 : List UInt8 := dkwX6_splits_9 ++ dktX6_splits_10
def dkwX6_splits_8 : List UInt8 := [42, 180, 0, 165, 42, 180, 0, 53, 42, 180, 0, 165, 46, 18, 177, 164, 0, 15, 42, 180, 0, 53, 42]
abbrev dktX6_splits_8 : List UInt8 := dkwX6_splits_8 ++ dktX6_splits_9
def dkwX6_splits_7 : List UInt8 := [126, 96, 79, 28, 54, 5, 21, 5, 21, 4, 162, 0, 74, 29, 184, 0, 171, 153, 0, 67, 42, 180, 0, 53]
abbrev dktX6_splits_7 : List UInt8 := dkwX6_splits_7 ++ dktX6_splits_8
def dkwX6_splits_6 : List UInt8 := [182, 0, 174, 167, 0, 23, 29, 184, 0, 171, 153, 0, 8, 16, 50, 167, 0, 11, 16, 100, 29, 17, 0, 255]
abbrev dktX6_splits_6 : List UInt8 := dkwX6_splits_6 ++ dktX6_splits_7
def dkwX6_splits_5 : List UInt8 := [180, 0, 165, 3, 79, 42, 180, 0, 50, 42, 180, 0, 165, 29, 184, 0, 168, 153, 0, 13, 42, 28, 21, 4]
abbrev dktX6_splits_5 : List UInt8 := dkwX6_splits_5 ++ dktX6_splits_6
def dkwX6_splits_4 : List UInt8 := [153, 0, 9, 132, 4, 1, 167, 255, 234, 42, 180, 0, 56, 42, 180, 0, 165, 28, 79, 42, 180, 0, 53, 42]
abbrev dktX6_splits_4 : List UInt8 := dkwX6_splits_4 ++ dktX6_splits_5
def dkwX6_splits_3 : List UInt8 := [184, 0, 171, 153, 0, 28, 21, 4, 27, 162, 0, 22, 42, 180, 0, 41, 21, 4, 51, 184, 0, 171]
abbrev dktX6_splits_3 : List UInt8 := dkwX6_splits_3 ++ dktX6_splits_4
def dkwX6_splits_2 : List UInt8 := [162, 0, 22, 42, 180, 0, 41, 21, 4, 51, 184, 0, 168, 153, 0, 9, 132, 4, 1, 167, 255, 234, 29]
abbrev dktX6_splits_2 : List UInt8 := dkwX6_splits_2 ++ dktX6_splits_3
def dkwX6_splits_1 : List UInt8 := [160, 0, 9, 132, 2, 1, 167, 255, 235, 28, 4, 96, 54, 4, 29, 184, 0, 168, 153, 0, 28, 21, 4, 27]
abbrev dktX6_splits_1 : List UInt8 := dkwX6_splits_1 ++ dktX6_splits_2
def dkwX6_splits_0 : List UInt8 := [42, 3, 181, 0, 165, 3, 61, 28, 27, 162, 0, 254, 42, 180, 0, 41, 28, 51, 62, 29, 16, 32]
abbrev dktX6_splits_0 : List UInt8 := dkwX6_splits_0 ++ dktX6_splits_1
theorem dksX6_splits_0 : cX6_splits.data.toList.drop 0 = dktX6_splits_0 := by decide +kernel
theorem dksX6_splits_1 : cX6_splits.data.toList.drop 22 = dktX6_splits_1 := dk_seg dksX6_splits_0 22 rfl rfl
theorem dksX6_splits_2 : cX6_splits.data.toList.drop 46 = dktX6_splits_2 := dk_seg dksX6_splits_1 24 rfl rfl
theorem dksX6_splits_3 : cX6_splits.data.toList.drop 69 = dktX6_splits_3 := dk_seg dksX6_splits_2 23 rfl rfl
theorem dksX6_splits_4 : cX6_splits.data.toList.drop 91 = dktX6_splits_4 := dk_seg dksX6_splits_3 22 rfl rfl
theorem dksX6_splits_5 : cX6_splits.data.toList.drop 115 = dktX6_splits_5 := dk_seg dksX6_splits_4 24 rfl rfl
theorem dksX6_splits_6 : cX6_splits.data.toList.drop 139 = dktX6_splits_6 := dk_seg dksX6_splits_5 24 rfl rfl
theorem dksX6_splits_7 : cX6_splits.data.toList.drop 163 = dktX6_splits_7 := dk_seg dksX6_splits_6 24 rfl rfl
theorem dksX6_splits_8 : cX6_splits.data.toList.drop 187 = dktX6_splits_8 := dk_seg dksX6_splits_7 24 rfl rfl
theorem dksX6_splits_9 : cX6_splits.data.toList.drop 210 = dktX6_splits_9 := dk_seg dksX6_splits_8 23 rfl rfl
theorem dksX6_splits_10 : cX6_splits.data.toList.drop 233 = dktX6_splits_10 := dk_seg dksX6_splits_9 23 rfl rfl
theorem dksX6_splits_11 : cX6_splits.data.toList.drop 257 = dktX6_splits_11 := dk_seg dksX6_splits_10 24 rfl rfl
theorem dksX6_splits_12 : cX6_splits.data.toList.drop 281 = dktX6_splits_12 := dk_seg dksX6_splits_11 24 rfl rfl
theorem dX6_splits_0 : decode cX6_splits 0 = .ok (.aload_n 0, 1) := dk_42 (dk_at dksX6_splits_0 0 rfl rfl)
theorem dX6_splits_1 : decode cX6_splits 1 = .ok (.iconst 0, 1) := dk_3 (dk_at dksX6_splits_0 1 rfl rfl)
theorem dX6_splits_2 : decode cX6_splits 2 = .ok (.putfield 165, 3) := dk_181 0 165 (dk_at dksX6_splits_0 2 rfl rfl)
theorem dX6_splits_5 : decode cX6_splits 5 = .ok (.iconst 0, 1) := dk_3 (dk_at dksX6_splits_0 5 rfl rfl)
theorem dX6_splits_6 : decode cX6_splits 6 = .ok (.istore_n 2, 1) := dk_61 (dk_at dksX6_splits_0 6 rfl rfl)
theorem dX6_splits_7 : decode cX6_splits 7 = .ok (.iload_n 2, 1) := dk_28 (dk_at dksX6_splits_0 7 rfl rfl)
theorem dX6_splits_8 : decode cX6_splits 8 = .ok (.iload_n 1, 1) := dk_27 (dk_at dksX6_splits_0 8 rfl rfl)
theorem dX6_splits_9 : decode cX6_splits 9 = .ok (.if_icmp .ge 254, 3) := dk_162 0 254 (dk_at dksX6_splits_0 9 rfl rfl)
theorem dX6_splits_12 : decode cX6_splits 12 = .ok (.aload_n 0, 1) := dk_42 (dk_at dksX6_splits_0 12 rfl rfl)
theorem dX6_splits_13 : decode cX6_splits 13 = .ok (.getfield 41, 3) := dk_180 0 41 (dk_at dksX6_splits_0 13 rfl rfl)
theorem dX6_splits_16 : decode cX6_splits 16 = .ok (.iload_n 2, 1) := dk_28 (dk_at dksX6_splits_0 16 rfl rfl)
theorem dX6_splits_17 : decode cX6_splits 17 = .ok (.baload, 1) := dk_51 (dk_at dksX6_splits_0 17 rfl rfl)
theorem dX6_splits_18 : decode cX6_splits 18 = .ok (.istore_n 3, 1) := dk_62 (dk_at dksX6_splits_0 18 rfl rfl)
theorem dX6_splits_19 : decode cX6_splits 19 = .ok (.iload_n 3, 1) := dk_29 (dk_at dksX6_splits_0 19 rfl rfl)
theorem dX6_splits_20 : decode cX6_splits 20 = .ok (.bipush 32, 2) := dk_16 32 (dk_at dksX6_splits_0 20 rfl rfl)
theorem dX6_splits_22 : decode cX6_splits 22 = .ok (.if_icmp .ne 9, 3) := dk_160 0 9 (dk_at dksX6_splits_1 0 rfl rfl)
theorem dX6_splits_25 : decode cX6_splits 25 = .ok (.iinc 2 1, 3) := dk_132 2 1 (dk_at dksX6_splits_1 3 rfl rfl)
theorem dX6_splits_28 : decode cX6_splits 28 = .ok (.goto (-21), 3) := dk_167 255 235 (dk_at dksX6_splits_1 6 rfl rfl)
theorem dX6_splits_31 : decode cX6_splits 31 = .ok (.iload_n 2, 1) := dk_28 (dk_at dksX6_splits_1 9 rfl rfl)
theorem dX6_splits_32 : decode cX6_splits 32 = .ok (.iconst 1, 1) := dk_4 (dk_at dksX6_splits_1 10 rfl rfl)
theorem dX6_splits_33 : decode cX6_splits 33 = .ok (.iadd, 1) := dk_96 (dk_at dksX6_splits_1 11 rfl rfl)
theorem dX6_splits_34 : decode cX6_splits 34 = .ok (.istore 4, 2) := dk_54 4 (dk_at dksX6_splits_1 12 rfl rfl)
theorem dX6_splits_36 : decode cX6_splits 36 = .ok (.iload_n 3, 1) := dk_29 (dk_at dksX6_splits_1 14 rfl rfl)
theorem dX6_splits_37 : decode cX6_splits 37 = .ok (.invokestatic 168, 3) := dk_184 0 168 (dk_at dksX6_splits_1 15 rfl rfl)
theorem dX6_splits_40 : decode cX6_splits 40 = .ok (.ifCond .eq 28, 3) := dk_153 0 28 (dk_at dksX6_splits_1 18 rfl rfl)
theorem dX6_splits_43 : decode cX6_splits 43 = .ok (.iload 4, 2) := dk_21 4 (dk_at dksX6_splits_1 21 rfl rfl)
theorem dX6_splits_45 : decode cX6_splits 45 = .ok (.iload_n 1, 1) := dk_27 (dk_at dksX6_splits_1 23 rfl rfl)
theorem dX6_splits_46 : decode cX6_splits 46 = .ok (.if_icmp .ge 22, 3) := dk_162 0 22 (dk_at dksX6_splits_2 0 rfl rfl)
theorem dX6_splits_49 : decode cX6_splits 49 = .ok (.aload_n 0, 1) := dk_42 (dk_at dksX6_splits_2 3 rfl rfl)
theorem dX6_splits_50 : decode cX6_splits 50 = .ok (.getfield 41, 3) := dk_180 0 41 (dk_at dksX6_splits_2 4 rfl rfl)
theorem dX6_splits_53 : decode cX6_splits 53 = .ok (.iload 4, 2) := dk_21 4 (dk_at dksX6_splits_2 7 rfl rfl)
theorem dX6_splits_55 : decode cX6_splits 55 = .ok (.baload, 1) := dk_51 (dk_at dksX6_splits_2 9 rfl rfl)
theorem dX6_splits_56 : decode cX6_splits 56 = .ok (.invokestatic 168, 3) := dk_184 0 168 (dk_at dksX6_splits_2 10 rfl rfl)
theorem dX6_splits_59 : decode cX6_splits 59 = .ok (.ifCond .eq 9, 3) := dk_153 0 9 (dk_at dksX6_splits_2 13 rfl rfl)
theorem dX6_splits_62 : decode cX6_splits 62 = .ok (.iinc 4 1, 3) := dk_132 4 1 (dk_at dksX6_splits_2 16 rfl rfl)
theorem dX6_splits_65 : decode cX6_splits 65 = .ok (.goto (-22), 3) := dk_167 255 234 (dk_at dksX6_splits_2 19 rfl rfl)
theorem dX6_splits_68 : decode cX6_splits 68 = .ok (.iload_n 3, 1) := dk_29 (dk_at dksX6_splits_2 22 rfl rfl)
theorem dX6_splits_69 : decode cX6_splits 69 = .ok (.invokestatic 171, 3) := dk_184 0 171 (dk_at dksX6_splits_3 0 rfl rfl)
theorem dX6_splits_72 : decode cX6_splits 72 = .ok (.ifCond .eq 28, 3) := dk_153 0 28 (dk_at dksX6_splits_3 3 rfl rfl)
theorem dX6_splits_75 : decode cX6_splits 75 = .ok (.iload 4, 2) := dk_21 4 (dk_at dksX6_splits_3 6 rfl rfl)
theorem dX6_splits_77 : decode cX6_splits 77 = .ok (.iload_n 1, 1) := dk_27 (dk_at dksX6_splits_3 8 rfl rfl)
theorem dX6_splits_78 : decode cX6_splits 78 = .ok (.if_icmp .ge 22, 3) := dk_162 0 22 (dk_at dksX6_splits_3 9 rfl rfl)
theorem dX6_splits_81 : decode cX6_splits 81 = .ok (.aload_n 0, 1) := dk_42 (dk_at dksX6_splits_3 12 rfl rfl)
theorem dX6_splits_82 : decode cX6_splits 82 = .ok (.getfield 41, 3) := dk_180 0 41 (dk_at dksX6_splits_3 13 rfl rfl)
theorem dX6_splits_85 : decode cX6_splits 85 = .ok (.iload 4, 2) := dk_21 4 (dk_at dksX6_splits_3 16 rfl rfl)
theorem dX6_splits_87 : decode cX6_splits 87 = .ok (.baload, 1) := dk_51 (dk_at dksX6_splits_3 18 rfl rfl)
theorem dX6_splits_88 : decode cX6_splits 88 = .ok (.invokestatic 171, 3) := dk_184 0 171 (dk_at dksX6_splits_3 19 rfl rfl)
theorem dX6_splits_91 : decode cX6_splits 91 = .ok (.ifCond .eq 9, 3) := dk_153 0 9 (dk_at dksX6_splits_4 0 rfl rfl)
theorem dX6_splits_94 : decode cX6_splits 94 = .ok (.iinc 4 1, 3) := dk_132 4 1 (dk_at dksX6_splits_4 3 rfl rfl)
theorem dX6_splits_97 : decode cX6_splits 97 = .ok (.goto (-22), 3) := dk_167 255 234 (dk_at dksX6_splits_4 6 rfl rfl)
theorem dX6_splits_100 : decode cX6_splits 100 = .ok (.aload_n 0, 1) := dk_42 (dk_at dksX6_splits_4 9 rfl rfl)
theorem dX6_splits_101 : decode cX6_splits 101 = .ok (.getfield 56, 3) := dk_180 0 56 (dk_at dksX6_splits_4 10 rfl rfl)
theorem dX6_splits_104 : decode cX6_splits 104 = .ok (.aload_n 0, 1) := dk_42 (dk_at dksX6_splits_4 13 rfl rfl)
theorem dX6_splits_105 : decode cX6_splits 105 = .ok (.getfield 165, 3) := dk_180 0 165 (dk_at dksX6_splits_4 14 rfl rfl)
theorem dX6_splits_108 : decode cX6_splits 108 = .ok (.iload_n 2, 1) := dk_28 (dk_at dksX6_splits_4 17 rfl rfl)
theorem dX6_splits_109 : decode cX6_splits 109 = .ok (.iastore, 1) := dk_79 (dk_at dksX6_splits_4 18 rfl rfl)
theorem dX6_splits_110 : decode cX6_splits 110 = .ok (.aload_n 0, 1) := dk_42 (dk_at dksX6_splits_4 19 rfl rfl)
theorem dX6_splits_111 : decode cX6_splits 111 = .ok (.getfield 53, 3) := dk_180 0 53 (dk_at dksX6_splits_4 20 rfl rfl)
theorem dX6_splits_114 : decode cX6_splits 114 = .ok (.aload_n 0, 1) := dk_42 (dk_at dksX6_splits_4 23 rfl rfl)
theorem dX6_splits_115 : decode cX6_splits 115 = .ok (.getfield 165, 3) := dk_180 0 165 (dk_at dksX6_splits_5 0 rfl rfl)
theorem dX6_splits_118 : decode cX6_splits 118 = .ok (.iconst 0, 1) := dk_3 (dk_at dksX6_splits_5 3 rfl rfl)
theorem dX6_splits_119 : decode cX6_splits 119 = .ok (.iastore, 1) := dk_79 (dk_at dksX6_splits_5 4 rfl rfl)
theorem dX6_splits_120 : decode cX6_splits 120 = .ok (.aload_n 0, 1) := dk_42 (dk_at dksX6_splits_5 5 rfl rfl)
theorem dX6_splits_121 : decode cX6_splits 121 = .ok (.getfield 50, 3) := dk_180 0 50 (dk_at dksX6_splits_5 6 rfl rfl)
theorem dX6_splits_124 : decode cX6_splits 124 = .ok (.aload_n 0, 1) := dk_42 (dk_at dksX6_splits_5 9 rfl rfl)
theorem dX6_splits_125 : decode cX6_splits 125 = .ok (.getfield 165, 3) := dk_180 0 165 (dk_at dksX6_splits_5 10 rfl rfl)
theorem dX6_splits_128 : decode cX6_splits 128 = .ok (.iload_n 3, 1) := dk_29 (dk_at dksX6_splits_5 13 rfl rfl)
theorem dX6_splits_129 : decode cX6_splits 129 = .ok (.invokestatic 168, 3) := dk_184 0 168 (dk_at dksX6_splits_5 14 rfl rfl)
theorem dX6_splits_132 : decode cX6_splits 132 = .ok (.ifCond .eq 13, 3) := dk_153 0 13 (dk_at dksX6_splits_5 17 rfl rfl)
theorem dX6_splits_135 : decode cX6_splits 135 = .ok (.aload_n 0, 1) := dk_42 (dk_at dksX6_splits_5 20 rfl rfl)
theorem dX6_splits_136 : decode cX6_splits 136 = .ok (.iload_n 2, 1) := dk_28 (dk_at dksX6_splits_5 21 rfl rfl)
theorem dX6_splits_137 : decode cX6_splits 137 = .ok (.iload 4, 2) := dk_21 4 (dk_at dksX6_splits_5 22 rfl rfl)
theorem dX6_splits_139 : decode cX6_splits 139 = .ok (.invokevirtual 174, 3) := dk_182 0 174 (dk_at dksX6_splits_6 0 rfl rfl)
theorem dX6_splits_142 : decode cX6_splits 142 = .ok (.goto 23, 3) := dk_167 0 23 (dk_at dksX6_splits_6 3 rfl rfl)
theorem dX6_splits_145 : decode cX6_splits 145 = .ok (.iload_n 3, 1) := dk_29 (dk_at dksX6_splits_6 6 rfl rfl)
theorem dX6_splits_146 : decode cX6_splits 146 = .ok (.invokestatic 171, 3) := dk_184 0 171 (dk_at dksX6_splits_6 7 rfl rfl)
theorem dX6_splits_149 : decode cX6_splits 149 = .ok (.ifCond .eq 8, 3) := dk_153 0 8 (dk_at dksX6_splits_6 10 rfl rfl)
theorem dX6_splits_152 : decode cX6_splits 152 = .ok (.bipush 50, 2) := dk_16 50 (dk_at dksX6_splits_6 13 rfl rfl)
theorem dX6_splits_154 : decode cX6_splits 154 = .ok (.goto 11, 3) := dk_167 0 11 (dk_at dksX6_splits_6 15 rfl rfl)
theorem dX6_splits_157 : decode cX6_splits 157 = .ok (.bipush 100, 2) := dk_16 100 (dk_at dksX6_splits_6 18 rfl rfl)
theorem dX6_splits_159 : decode cX6_splits 159 = .ok (.iload_n 3, 1) := dk_29 (dk_at dksX6_splits_6 20 rfl rfl)
theorem dX6_splits_160 : decode cX6_splits 160 = .ok (.sipush 255, 3) := dk_17 0 255 (dk_at dksX6_splits_6 21 rfl rfl)
theorem dX6_splits_163 : decode cX6_splits 163 = .ok (.iand, 1) := dk_126 (dk_at dksX6_splits_7 0 rfl rfl)
theorem dX6_splits_164 : decode cX6_splits 164 = .ok (.iadd, 1) := dk_96 (dk_at dksX6_splits_7 1 rfl rfl)
theorem dX6_splits_165 : decode cX6_splits 165 = .ok (.iastore, 1) := dk_79 (dk_at dksX6_splits_7 2 rfl rfl)
theorem dX6_splits_166 : decode cX6_splits 166 = .ok (.iload_n 2, 1) := dk_28 (dk_at dksX6_splits_7 3 rfl rfl)
theorem dX6_splits_167 : decode cX6_splits 167 = .ok (.istore 5, 2) := dk_54 5 (dk_at dksX6_splits_7 4 rfl rfl)
theorem dX6_splits_169 : decode cX6_splits 169 = .ok (.iload 5, 2) := dk_21 5 (dk_at dksX6_splits_7 6 rfl rfl)
theorem dX6_splits_171 : decode cX6_splits 171 = .ok (.iload 4, 2) := dk_21 4 (dk_at dksX6_splits_7 8 rfl rfl)
theorem dX6_splits_173 : decode cX6_splits 173 = .ok (.if_icmp .ge 74, 3) := dk_162 0 74 (dk_at dksX6_splits_7 10 rfl rfl)
theorem dX6_splits_176 : decode cX6_splits 176 = .ok (.iload_n 3, 1) := dk_29 (dk_at dksX6_splits_7 13 rfl rfl)
theorem dX6_splits_177 : decode cX6_splits 177 = .ok (.invokestatic 171, 3) := dk_184 0 171 (dk_at dksX6_splits_7 14 rfl rfl)
theorem dX6_splits_180 : decode cX6_splits 180 = .ok (.ifCond .eq 67, 3) := dk_153 0 67 (dk_at dksX6_splits_7 17 rfl rfl)
theorem dX6_splits_183 : decode cX6_splits 183 = .ok (.aload_n 0, 1) := dk_42 (dk_at dksX6_splits_7 20 rfl rfl)
theorem dX6_splits_184 : decode cX6_splits 184 = .ok (.getfield 53, 3) := dk_180 0 53 (dk_at dksX6_splits_7 21 rfl rfl)
theorem dX6_splits_187 : decode cX6_splits 187 = .ok (.aload_n 0, 1) := dk_42 (dk_at dksX6_splits_8 0 rfl rfl)
theorem dX6_splits_188 : decode cX6_splits 188 = .ok (.getfield 165, 3) := dk_180 0 165 (dk_at dksX6_splits_8 1 rfl rfl)
theorem dX6_splits_191 : decode cX6_splits 191 = .ok (.aload_n 0, 1) := dk_42 (dk_at dksX6_splits_8 4 rfl rfl)
theorem dX6_splits_192 : decode cX6_splits 192 = .ok (.getfield 53, 3) := dk_180 0 53 (dk_at dksX6_splits_8 5 rfl rfl)
theorem dX6_splits_195 : decode cX6_splits 195 = .ok (.aload_n 0, 1) := dk_42 (dk_at dksX6_splits_8 8 rfl rfl)
theorem dX6_splits_196 : decode cX6_splits 196 = .ok (.getfield 165, 3) := dk_180 0 165 (dk_at dksX6_splits_8 9 rfl rfl)
theorem dX6_splits_199 : decode cX6_splits 199 = .ok (.iaload, 1) := dk_46 (dk_at dksX6_splits_8 12 rfl rfl)
theorem dX6_splits_200 : decode cX6_splits 200 = .ok (.ldc 177, 2) := dk_18 177 (dk_at dksX6_splits_8 13 rfl rfl)
theorem dX6_splits_202 : decode cX6_splits 202 = .ok (.if_icmp .le 15, 3) := dk_164 0 15 (dk_at dksX6_splits_8 15 rfl rfl)
theorem dX6_splits_205 : decode cX6_splits 205 = .ok (.aload_n 0, 1) := dk_42 (dk_at dksX6_splits_8 18 rfl rfl)
theorem dX6_splits_206 : decode cX6_splits 206 = .ok (.getfield 53, 3) := dk_180 0 53 (dk_at dksX6_splits_8 19 rfl rfl)
theorem dX6_splits_209 : decode cX6_splits 209 = .ok (.aload_n 0, 1) := dk_42 (dk_at dksX6_splits_8 22 rfl rfl)
theorem dX6_splits_210 : decode cX6_splits 210 = .ok (.getfield 165, 3) := dk_180 0 165 (dk_at dksX6_splits_9 0 rfl rfl)
theorem dX6_splits_213 : decode cX6_splits 213 = .ok (.iaload, 1) := dk_46 (dk_at dksX6_splits_9 3 rfl rfl)
theorem dX6_splits_214 : decode cX6_splits 214 = .ok (.goto 26, 3) := dk_167 0 26 (dk_at dksX6_splits_9 4 rfl rfl)
theorem dX6_splits_217 : decode cX6_splits 217 = .ok (.bipush 10, 2) := dk_16 10 (dk_at dksX6_splits_9 7 rfl rfl)
theorem dX6_splits_219 : decode cX6_splits 219 = .ok (.aload_n 0, 1) := dk_42 (dk_at dksX6_splits_9 9 rfl rfl)
theorem dX6_splits_220 : decode cX6_splits 220 = .ok (.getfield 53, 3) := dk_180 0 53 (dk_at dksX6_splits_9 10 rfl rfl)
theorem dX6_splits_223 : decode cX6_splits 223 = .ok (.aload_n 0, 1) := dk_42 (dk_at dksX6_splits_9 13 rfl rfl)
theorem dX6_splits_224 : decode cX6_splits 224 = .ok (.getfield 165, 3) := dk_180 0 165 (dk_at dksX6_splits_9 14 rfl rfl)
theorem dX6_splits_227 : decode cX6_splits 227 = .ok (.iaload, 1) := dk_46 (dk_at dksX6_splits_9 17 rfl rfl)
theorem dX6_splits_228 : decode cX6_splits 228 = .ok (.imul, 1) := dk_104 (dk_at dksX6_splits_9 18 rfl rfl)
theorem dX6_splits_229 : decode cX6_splits 229 = .ok (.aload_n 0, 1) := dk_42 (dk_at dksX6_splits_9 19 rfl rfl)
theorem dX6_splits_230 : decode cX6_splits 230 = .ok (.getfield 41, 3) := dk_180 0 41 (dk_at dksX6_splits_9 20 rfl rfl)
theorem dX6_splits_233 : decode cX6_splits 233 = .ok (.iload 5, 2) := dk_21 5 (dk_at dksX6_splits_10 0 rfl rfl)
theorem dX6_splits_235 : decode cX6_splits 235 = .ok (.baload, 1) := dk_51 (dk_at dksX6_splits_10 2 rfl rfl)
theorem dX6_splits_236 : decode cX6_splits 236 = .ok (.iadd, 1) := dk_96 (dk_at dksX6_splits_10 3 rfl rfl)
theorem dX6_splits_237 : decode cX6_splits 237 = .ok (.bipush 48, 2) := dk_16 48 (dk_at dksX6_splits_10 4 rfl rfl)
theorem dX6_splits_239 : decode cX6_splits 239 = .ok (.isub, 1) := dk_100 (dk_at dksX6_splits_10 6 rfl rfl)
theorem dX6_splits_240 : decode cX6_splits 240 = .ok (.iastore, 1) := dk_79 (dk_at dksX6_splits_10 7 rfl rfl)
theorem dX6_splits_241 : decode cX6_splits 241 = .ok (.iinc 5 1, 3) := dk_132 5 1 (dk_at dksX6_splits_10 8 rfl rfl)
theorem dX6_splits_244 : decode cX6_splits 244 = .ok (.goto (-75), 3) := dk_167 255 181 (dk_at dksX6_splits_10 11 rfl rfl)
theorem dX6_splits_247 : decode cX6_splits 247 = .ok (.aload_n 0, 1) := dk_42 (dk_at dksX6_splits_10 14 rfl rfl)
theorem dX6_splits_248 : decode cX6_splits 248 = .ok (.dup, 1) := dk_89 (dk_at dksX6_splits_10 15 rfl rfl)
theorem dX6_splits_249 : decode cX6_splits 249 = .ok (.getfield 165, 3) := dk_180 0 165 (dk_at dksX6_splits_10 16 rfl rfl)
theorem dX6_splits_252 : decode cX6_splits 252 = .ok (.iconst 1, 1) := dk_4 (dk_at dksX6_splits_10 19 rfl rfl)
theorem dX6_splits_253 : decode cX6_splits 253 = .ok (.iadd, 1) := dk_96 (dk_at dksX6_splits_10 20 rfl rfl)
theorem dX6_splits_254 : decode cX6_splits 254 = .ok (.putfield 165, 3) := dk_181 0 165 (dk_at dksX6_splits_10 21 rfl rfl)
theorem dX6_splits_257 : decode cX6_splits 257 = .ok (.iload 4, 2) := dk_21 4 (dk_at dksX6_splits_11 0 rfl rfl)
theorem dX6_splits_259 : decode cX6_splits 259 = .ok (.istore_n 2, 1) := dk_61 (dk_at dksX6_splits_11 2 rfl rfl)
theorem dX6_splits_260 : decode cX6_splits 260 = .ok (.goto (-253), 3) := dk_167 255 3 (dk_at dksX6_splits_11 3 rfl rfl)
theorem dX6_splits_263 : decode cX6_splits 263 = .ok (.aload_n 0, 1) := dk_42 (dk_at dksX6_splits_11 6 rfl rfl)
theorem dX6_splits_264 : decode cX6_splits 264 = .ok (.getfield 56, 3) := dk_180 0 56 (dk_at dksX6_splits_11 7 rfl rfl)
theorem dX6_splits_267 : decode cX6_splits 267 = .ok (.aload_n 0, 1) := dk_42 (dk_at dksX6_splits_11 10 rfl rfl)
theorem dX6_splits_268 : decode cX6_splits 268 = .ok (.getfield 165, 3) := dk_180 0 165 (dk_at dksX6_splits_11 11 rfl rfl)
theorem dX6_splits_271 : decode cX6_splits 271 = .ok (.iload_n 1, 1) := dk_27 (dk_at dksX6_splits_11 14 rfl rfl)
theorem dX6_splits_272 : decode cX6_splits 272 = .ok (.iastore, 1) := dk_79 (dk_at dksX6_splits_11 15 rfl rfl)
theorem dX6_splits_273 : decode cX6_splits 273 = .ok (.aload_n 0, 1) := dk_42 (dk_at dksX6_splits_11 16 rfl rfl)
theorem dX6_splits_274 : decode cX6_splits 274 = .ok (.getfield 50, 3) := dk_180 0 50 (dk_at dksX6_splits_11 17 rfl rfl)
theorem dX6_splits_277 : decode cX6_splits 277 = .ok (.aload_n 0, 1) := dk_42 (dk_at dksX6_splits_11 20 rfl rfl)
theorem dX6_splits_278 : decode cX6_splits 278 = .ok (.getfield 165, 3) := dk_180 0 165 (dk_at dksX6_splits_11 21 rfl rfl)
theorem dX6_splits_281 : decode cX6_splits 281 = .ok (.iconst 0, 1) := dk_3 (dk_at dksX6_splits_12 0 rfl rfl)
theorem dX6_splits_282 : decode cX6_splits 282 = .ok (.iastore, 1) := dk_79 (dk_at dksX6_splits_12 1 rfl rfl)
theorem dX6_splits_283 : decode cX6_splits 283 = .ok (.aload_n 0, 1) := dk_42 (dk_at dksX6_splits_12 2 rfl rfl)
theorem dX6_splits_284 : decode cX6_splits 284 = .ok (.getfield 53, 3) := dk_180 0 53 (dk_at dksX6_splits_12 3 rfl rfl)
theorem dX6_splits_287 : decode cX6_splits 287 = .ok (.aload_n 0, 1) := dk_42 (dk_at dksX6_splits_12 6 rfl rfl)
theorem dX6_splits_288 : decode cX6_splits 288 = .ok (.getfield 165, 3) := dk_180 0 165 (dk_at dksX6_splits_12 7 rfl rfl)
theorem dX6_splits_291 : decode cX6_splits 291 = .ok (.iconst 0, 1) := dk_3 (dk_at dksX6_splits_12 10 rfl rfl)
theorem dX6_splits_292 : decode cX6_splits 292 = .ok (.iastore, 1) := dk_79 (dk_at dksX6_splits_12 11 rfl rfl)
theorem dX6_splits_293 : decode cX6_splits 293 = .ok (.return_, 1) := dk_177 (dk_at dksX6_splits_12 12 rfl rfl)
abbrev cX6_isSmall : ByteArray := prog_24_method_33_code
def yX6_isSmall : MethodName := ⟨RX6, "isSmall", "(I)Z"⟩
def dkwX6_isSmall_0 : List UInt8 := [26, 16, 97, 161, 0, 13, 26, 16, 122, 163, 0, 7, 4, 167, 0, 4, 3, 172]
abbrev dktX6_isSmall_0 : List UInt8 := dkwX6_isSmall_0 ++ []
theorem dksX6_isSmall_0 : cX6_isSmall.data.toList.drop 0 = dktX6_isSmall_0 := by decide +kernel
theorem dX6_isSmall_0 : decode cX6_isSmall 0 = .ok (.iload_n 0, 1) := dk_26 (dk_at dksX6_isSmall_0 0 rfl rfl)
theorem dX6_isSmall_1 : decode cX6_isSmall 1 = .ok (.bipush 97, 2) := dk_16 97 (dk_at dksX6_isSmall_0 1 rfl rfl)
theorem dX6_isSmall_3 : decode cX6_isSmall 3 = .ok (.if_icmp .lt 13, 3) := dk_161 0 13 (dk_at dksX6_isSmall_0 3 rfl rfl)
theorem dX6_isSmall_6 : decode cX6_isSmall 6 = .ok (.iload_n 0, 1) := dk_26 (dk_at dksX6_isSmall_0 6 rfl rfl)
theorem dX6_isSmall_7 : decode cX6_isSmall 7 = .ok (.bipush 122, 2) := dk_16 122 (dk_at dksX6_isSmall_0 7 rfl rfl)
theorem dX6_isSmall_9 : decode cX6_isSmall 9 = .ok (.if_icmp .gt 7, 3) := dk_163 0 7 (dk_at dksX6_isSmall_0 9 rfl rfl)
theorem dX6_isSmall_12 : decode cX6_isSmall 12 = .ok (.iconst 1, 1) := dk_4 (dk_at dksX6_isSmall_0 12 rfl rfl)
theorem dX6_isSmall_13 : decode cX6_isSmall 13 = .ok (.goto 4, 3) := dk_167 0 4 (dk_at dksX6_isSmall_0 13 rfl rfl)
theorem dX6_isSmall_16 : decode cX6_isSmall 16 = .ok (.iconst 0, 1) := dk_3 (dk_at dksX6_isSmall_0 16 rfl rfl)
theorem dX6_isSmall_17 : decode cX6_isSmall 17 = .ok (.ireturn, 1) := dk_172 (dk_at dksX6_isSmall_0 17 rfl rfl)
abbrev cX6_isDigit : ByteArray := prog_24_method_34_code
def yX6_isDigit : MethodName := ⟨RX6, "isDigit", "(I)Z"⟩
def dkwX6_isDigit_0 : List UInt8 := [26, 16, 48, 161, 0, 13, 26, 16, 57, 163, 0, 7, 4, 167, 0, 4, 3, 172]
abbrev dktX6_isDigit_0 : List UInt8 := dkwX6_isDigit_0 ++ []
theorem dksX6_isDigit_0 : cX6_isDigit.data.toList.drop 0 = dktX6_isDigit_0 := by decide +kernel
theorem dX6_isDigit_0 : decode cX6_isDigit 0 = .ok (.iload_n 0, 1) := dk_26 (dk_at dksX6_isDigit_0 0 rfl rfl)
theorem dX6_isDigit_1 : decode cX6_isDigit 1 = .ok (.bipush 48, 2) := dk_16 48 (dk_at dksX6_isDigit_0 1 rfl rfl)
theorem dX6_isDigit_3 : decode cX6_isDigit 3 = .ok (.if_icmp .lt 13, 3) := dk_161 0 13 (dk_at dksX6_isDigit_0 3 rfl rfl)
theorem dX6_isDigit_6 : decode cX6_isDigit 6 = .ok (.iload_n 0, 1) := dk_26 (dk_at dksX6_isDigit_0 6 rfl rfl)
theorem dX6_isDigit_7 : decode cX6_isDigit 7 = .ok (.bipush 57, 2) := dk_16 57 (dk_at dksX6_isDigit_0 7 rfl rfl)
theorem dX6_isDigit_9 : decode cX6_isDigit 9 = .ok (.if_icmp .gt 7, 3) := dk_163 0 7 (dk_at dksX6_isDigit_0 9 rfl rfl)
theorem dX6_isDigit_12 : decode cX6_isDigit 12 = .ok (.iconst 1, 1) := dk_4 (dk_at dksX6_isDigit_0 12 rfl rfl)
theorem dX6_isDigit_13 : decode cX6_isDigit 13 = .ok (.goto 4, 3) := dk_167 0 4 (dk_at dksX6_isDigit_0 13 rfl rfl)
theorem dX6_isDigit_16 : decode cX6_isDigit 16 = .ok (.iconst 0, 1) := dk_3 (dk_at dksX6_isDigit_0 16 rfl rfl)
theorem dX6_isDigit_17 : decode cX6_isDigit 17 = .ok (.ireturn, 1) := dk_172 (dk_at dksX6_isDigit_0 17 rfl rfl)
abbrev cX6_wordOf : ByteArray := prog_24_method_35_code
def yX6_wordOf : MethodName := ⟨RX6, "wordOf", "(II)I"⟩
def dkwX6_wordOf_5 : List UInt8 := [96, 96, 54, 4, 132, 3, 1, 167, 255, 138, 3, 172]
abbrev dktX6_wordOf_5 : List UInt8 := dkwX6_wordOf_5 ++ []
def dkwX6_wordOf_4 : List UInt8 := [167, 0, 4, 3, 54, 6, 132, 7, 1, 167, 255, 212, 21, 6, 153, 0, 5, 29, 172, 21, 4, 21, 5, 4]
abbrev dktX6_wordOf_4 : List UInt8 := dkwX6_wordOf_4 ++ dktX6_wordOf_5
def dkwX6_wordOf_3 : List UInt8 := [180, 0, 37, 21, 4, 21, 7, 96, 51, 42, 180, 0, 41, 27, 21, 7, 96, 51, 160, 0, 7, 4]
abbrev dktX6_wordOf_3 : List UInt8 := dkwX6_wordOf_3 ++ dktX6_wordOf_4
def dkwX6_wordOf_2 : List UInt8 := [167, 0, 4, 3, 54, 6, 3, 54, 7, 21, 7, 21, 5, 162, 0, 43, 21, 6, 153, 0, 38, 42]
abbrev dktX6_wordOf_2 : List UInt8 := dkwX6_wordOf_2 ++ dktX6_wordOf_3
def dkwX6_wordOf_1 : List UInt8 := [21, 5, 96, 51, 16, 32, 159, 0, 9, 132, 5, 1, 167, 255, 238, 21, 5, 28, 27, 100, 160, 0, 7, 4]
abbrev dktX6_wordOf_1 : List UInt8 := dkwX6_wordOf_1 ++ dktX6_wordOf_2
def dkwX6_wordOf_0 : List UInt8 := [4, 62, 3, 54, 4, 21, 4, 42, 180, 0, 37, 190, 162, 0, 114, 3, 54, 5, 42, 180, 0, 37, 21, 4]
abbrev dktX6_wordOf_0 : List UInt8 := dkwX6_wordOf_0 ++ dktX6_wordOf_1
theorem dksX6_wordOf_0 : cX6_wordOf.data.toList.drop 0 = dktX6_wordOf_0 := by decide +kernel
theorem dksX6_wordOf_1 : cX6_wordOf.data.toList.drop 24 = dktX6_wordOf_1 := dk_seg dksX6_wordOf_0 24 rfl rfl
theorem dksX6_wordOf_2 : cX6_wordOf.data.toList.drop 48 = dktX6_wordOf_2 := dk_seg dksX6_wordOf_1 24 rfl rfl
theorem dksX6_wordOf_3 : cX6_wordOf.data.toList.drop 70 = dktX6_wordOf_3 := dk_seg dksX6_wordOf_2 22 rfl rfl
theorem dksX6_wordOf_4 : cX6_wordOf.data.toList.drop 92 = dktX6_wordOf_4 := dk_seg dksX6_wordOf_3 22 rfl rfl
theorem dksX6_wordOf_5 : cX6_wordOf.data.toList.drop 116 = dktX6_wordOf_5 := dk_seg dksX6_wordOf_4 24 rfl rfl
theorem dX6_wordOf_0 : decode cX6_wordOf 0 = .ok (.iconst 1, 1) := dk_4 (dk_at dksX6_wordOf_0 0 rfl rfl)
theorem dX6_wordOf_1 : decode cX6_wordOf 1 = .ok (.istore_n 3, 1) := dk_62 (dk_at dksX6_wordOf_0 1 rfl rfl)
theorem dX6_wordOf_2 : decode cX6_wordOf 2 = .ok (.iconst 0, 1) := dk_3 (dk_at dksX6_wordOf_0 2 rfl rfl)
theorem dX6_wordOf_3 : decode cX6_wordOf 3 = .ok (.istore 4, 2) := dk_54 4 (dk_at dksX6_wordOf_0 3 rfl rfl)
theorem dX6_wordOf_5 : decode cX6_wordOf 5 = .ok (.iload 4, 2) := dk_21 4 (dk_at dksX6_wordOf_0 5 rfl rfl)
theorem dX6_wordOf_7 : decode cX6_wordOf 7 = .ok (.aload_n 0, 1) := dk_42 (dk_at dksX6_wordOf_0 7 rfl rfl)
theorem dX6_wordOf_8 : decode cX6_wordOf 8 = .ok (.getfield 37, 3) := dk_180 0 37 (dk_at dksX6_wordOf_0 8 rfl rfl)
theorem dX6_wordOf_11 : decode cX6_wordOf 11 = .ok (.arraylength, 1) := dk_190 (dk_at dksX6_wordOf_0 11 rfl rfl)
theorem dX6_wordOf_12 : decode cX6_wordOf 12 = .ok (.if_icmp .ge 114, 3) := dk_162 0 114 (dk_at dksX6_wordOf_0 12 rfl rfl)
theorem dX6_wordOf_15 : decode cX6_wordOf 15 = .ok (.iconst 0, 1) := dk_3 (dk_at dksX6_wordOf_0 15 rfl rfl)
theorem dX6_wordOf_16 : decode cX6_wordOf 16 = .ok (.istore 5, 2) := dk_54 5 (dk_at dksX6_wordOf_0 16 rfl rfl)
theorem dX6_wordOf_18 : decode cX6_wordOf 18 = .ok (.aload_n 0, 1) := dk_42 (dk_at dksX6_wordOf_0 18 rfl rfl)
theorem dX6_wordOf_19 : decode cX6_wordOf 19 = .ok (.getfield 37, 3) := dk_180 0 37 (dk_at dksX6_wordOf_0 19 rfl rfl)
theorem dX6_wordOf_22 : decode cX6_wordOf 22 = .ok (.iload 4, 2) := dk_21 4 (dk_at dksX6_wordOf_0 22 rfl rfl)
theorem dX6_wordOf_24 : decode cX6_wordOf 24 = .ok (.iload 5, 2) := dk_21 5 (dk_at dksX6_wordOf_1 0 rfl rfl)
theorem dX6_wordOf_26 : decode cX6_wordOf 26 = .ok (.iadd, 1) := dk_96 (dk_at dksX6_wordOf_1 2 rfl rfl)
theorem dX6_wordOf_27 : decode cX6_wordOf 27 = .ok (.baload, 1) := dk_51 (dk_at dksX6_wordOf_1 3 rfl rfl)
theorem dX6_wordOf_28 : decode cX6_wordOf 28 = .ok (.bipush 32, 2) := dk_16 32 (dk_at dksX6_wordOf_1 4 rfl rfl)
theorem dX6_wordOf_30 : decode cX6_wordOf 30 = .ok (.if_icmp .eq 9, 3) := dk_159 0 9 (dk_at dksX6_wordOf_1 6 rfl rfl)
theorem dX6_wordOf_33 : decode cX6_wordOf 33 = .ok (.iinc 5 1, 3) := dk_132 5 1 (dk_at dksX6_wordOf_1 9 rfl rfl)
theorem dX6_wordOf_36 : decode cX6_wordOf 36 = .ok (.goto (-18), 3) := dk_167 255 238 (dk_at dksX6_wordOf_1 12 rfl rfl)
theorem dX6_wordOf_39 : decode cX6_wordOf 39 = .ok (.iload 5, 2) := dk_21 5 (dk_at dksX6_wordOf_1 15 rfl rfl)
theorem dX6_wordOf_41 : decode cX6_wordOf 41 = .ok (.iload_n 2, 1) := dk_28 (dk_at dksX6_wordOf_1 17 rfl rfl)
theorem dX6_wordOf_42 : decode cX6_wordOf 42 = .ok (.iload_n 1, 1) := dk_27 (dk_at dksX6_wordOf_1 18 rfl rfl)
theorem dX6_wordOf_43 : decode cX6_wordOf 43 = .ok (.isub, 1) := dk_100 (dk_at dksX6_wordOf_1 19 rfl rfl)
theorem dX6_wordOf_44 : decode cX6_wordOf 44 = .ok (.if_icmp .ne 7, 3) := dk_160 0 7 (dk_at dksX6_wordOf_1 20 rfl rfl)
theorem dX6_wordOf_47 : decode cX6_wordOf 47 = .ok (.iconst 1, 1) := dk_4 (dk_at dksX6_wordOf_1 23 rfl rfl)
theorem dX6_wordOf_48 : decode cX6_wordOf 48 = .ok (.goto 4, 3) := dk_167 0 4 (dk_at dksX6_wordOf_2 0 rfl rfl)
theorem dX6_wordOf_51 : decode cX6_wordOf 51 = .ok (.iconst 0, 1) := dk_3 (dk_at dksX6_wordOf_2 3 rfl rfl)
theorem dX6_wordOf_52 : decode cX6_wordOf 52 = .ok (.istore 6, 2) := dk_54 6 (dk_at dksX6_wordOf_2 4 rfl rfl)
theorem dX6_wordOf_54 : decode cX6_wordOf 54 = .ok (.iconst 0, 1) := dk_3 (dk_at dksX6_wordOf_2 6 rfl rfl)
theorem dX6_wordOf_55 : decode cX6_wordOf 55 = .ok (.istore 7, 2) := dk_54 7 (dk_at dksX6_wordOf_2 7 rfl rfl)
theorem dX6_wordOf_57 : decode cX6_wordOf 57 = .ok (.iload 7, 2) := dk_21 7 (dk_at dksX6_wordOf_2 9 rfl rfl)
theorem dX6_wordOf_59 : decode cX6_wordOf 59 = .ok (.iload 5, 2) := dk_21 5 (dk_at dksX6_wordOf_2 11 rfl rfl)
theorem dX6_wordOf_61 : decode cX6_wordOf 61 = .ok (.if_icmp .ge 43, 3) := dk_162 0 43 (dk_at dksX6_wordOf_2 13 rfl rfl)
theorem dX6_wordOf_64 : decode cX6_wordOf 64 = .ok (.iload 6, 2) := dk_21 6 (dk_at dksX6_wordOf_2 16 rfl rfl)
theorem dX6_wordOf_66 : decode cX6_wordOf 66 = .ok (.ifCond .eq 38, 3) := dk_153 0 38 (dk_at dksX6_wordOf_2 18 rfl rfl)
theorem dX6_wordOf_69 : decode cX6_wordOf 69 = .ok (.aload_n 0, 1) := dk_42 (dk_at dksX6_wordOf_2 21 rfl rfl)
theorem dX6_wordOf_70 : decode cX6_wordOf 70 = .ok (.getfield 37, 3) := dk_180 0 37 (dk_at dksX6_wordOf_3 0 rfl rfl)
theorem dX6_wordOf_73 : decode cX6_wordOf 73 = .ok (.iload 4, 2) := dk_21 4 (dk_at dksX6_wordOf_3 3 rfl rfl)
theorem dX6_wordOf_75 : decode cX6_wordOf 75 = .ok (.iload 7, 2) := dk_21 7 (dk_at dksX6_wordOf_3 5 rfl rfl)
theorem dX6_wordOf_77 : decode cX6_wordOf 77 = .ok (.iadd, 1) := dk_96 (dk_at dksX6_wordOf_3 7 rfl rfl)
theorem dX6_wordOf_78 : decode cX6_wordOf 78 = .ok (.baload, 1) := dk_51 (dk_at dksX6_wordOf_3 8 rfl rfl)
theorem dX6_wordOf_79 : decode cX6_wordOf 79 = .ok (.aload_n 0, 1) := dk_42 (dk_at dksX6_wordOf_3 9 rfl rfl)
theorem dX6_wordOf_80 : decode cX6_wordOf 80 = .ok (.getfield 41, 3) := dk_180 0 41 (dk_at dksX6_wordOf_3 10 rfl rfl)
theorem dX6_wordOf_83 : decode cX6_wordOf 83 = .ok (.iload_n 1, 1) := dk_27 (dk_at dksX6_wordOf_3 13 rfl rfl)
theorem dX6_wordOf_84 : decode cX6_wordOf 84 = .ok (.iload 7, 2) := dk_21 7 (dk_at dksX6_wordOf_3 14 rfl rfl)
theorem dX6_wordOf_86 : decode cX6_wordOf 86 = .ok (.iadd, 1) := dk_96 (dk_at dksX6_wordOf_3 16 rfl rfl)
theorem dX6_wordOf_87 : decode cX6_wordOf 87 = .ok (.baload, 1) := dk_51 (dk_at dksX6_wordOf_3 17 rfl rfl)
theorem dX6_wordOf_88 : decode cX6_wordOf 88 = .ok (.if_icmp .ne 7, 3) := dk_160 0 7 (dk_at dksX6_wordOf_3 18 rfl rfl)
theorem dX6_wordOf_91 : decode cX6_wordOf 91 = .ok (.iconst 1, 1) := dk_4 (dk_at dksX6_wordOf_3 21 rfl rfl)
theorem dX6_wordOf_92 : decode cX6_wordOf 92 = .ok (.goto 4, 3) := dk_167 0 4 (dk_at dksX6_wordOf_4 0 rfl rfl)
theorem dX6_wordOf_95 : decode cX6_wordOf 95 = .ok (.iconst 0, 1) := dk_3 (dk_at dksX6_wordOf_4 3 rfl rfl)
theorem dX6_wordOf_96 : decode cX6_wordOf 96 = .ok (.istore 6, 2) := dk_54 6 (dk_at dksX6_wordOf_4 4 rfl rfl)
theorem dX6_wordOf_98 : decode cX6_wordOf 98 = .ok (.iinc 7 1, 3) := dk_132 7 1 (dk_at dksX6_wordOf_4 6 rfl rfl)
theorem dX6_wordOf_101 : decode cX6_wordOf 101 = .ok (.goto (-44), 3) := dk_167 255 212 (dk_at dksX6_wordOf_4 9 rfl rfl)
theorem dX6_wordOf_104 : decode cX6_wordOf 104 = .ok (.iload 6, 2) := dk_21 6 (dk_at dksX6_wordOf_4 12 rfl rfl)
theorem dX6_wordOf_106 : decode cX6_wordOf 106 = .ok (.ifCond .eq 5, 3) := dk_153 0 5 (dk_at dksX6_wordOf_4 14 rfl rfl)
theorem dX6_wordOf_109 : decode cX6_wordOf 109 = .ok (.iload_n 3, 1) := dk_29 (dk_at dksX6_wordOf_4 17 rfl rfl)
theorem dX6_wordOf_110 : decode cX6_wordOf 110 = .ok (.ireturn, 1) := dk_172 (dk_at dksX6_wordOf_4 18 rfl rfl)
theorem dX6_wordOf_111 : decode cX6_wordOf 111 = .ok (.iload 4, 2) := dk_21 4 (dk_at dksX6_wordOf_4 19 rfl rfl)
theorem dX6_wordOf_113 : decode cX6_wordOf 113 = .ok (.iload 5, 2) := dk_21 5 (dk_at dksX6_wordOf_4 21 rfl rfl)
theorem dX6_wordOf_115 : decode cX6_wordOf 115 = .ok (.iconst 1, 1) := dk_4 (dk_at dksX6_wordOf_4 23 rfl rfl)
theorem dX6_wordOf_116 : decode cX6_wordOf 116 = .ok (.iadd, 1) := dk_96 (dk_at dksX6_wordOf_5 0 rfl rfl)
theorem dX6_wordOf_117 : decode cX6_wordOf 117 = .ok (.iadd, 1) := dk_96 (dk_at dksX6_wordOf_5 1 rfl rfl)
theorem dX6_wordOf_118 : decode cX6_wordOf 118 = .ok (.istore 4, 2) := dk_54 4 (dk_at dksX6_wordOf_5 2 rfl rfl)
theorem dX6_wordOf_120 : decode cX6_wordOf 120 = .ok (.iinc 3 1, 3) := dk_132 3 1 (dk_at dksX6_wordOf_5 4 rfl rfl)
theorem dX6_wordOf_123 : decode cX6_wordOf 123 = .ok (.goto (-118), 3) := dk_167 255 138 (dk_at dksX6_wordOf_5 7 rfl rfl)
theorem dX6_wordOf_126 : decode cX6_wordOf 126 = .ok (.iconst 0, 1) := dk_3 (dk_at dksX6_wordOf_5 10 rfl rfl)
theorem dX6_wordOf_127 : decode cX6_wordOf 127 = .ok (.ireturn, 1) := dk_172 (dk_at dksX6_wordOf_5 11 rfl rfl)
abbrev cX6_readOne : ByteArray := prog_24_method_46_code
def yX6_readOne : MethodName := ⟨RX6, "readOne", "()V"⟩
def dkwX6_readOne_0 : List UInt8 := [42, 180, 0, 211, 153, 0, 10, 42, 182, 0, 215, 167, 0, 7, 42, 182, 0, 218, 177]
abbrev dktX6_readOne_0 : List UInt8 := dkwX6_readOne_0 ++ []
theorem dksX6_readOne_0 : cX6_readOne.data.toList.drop 0 = dktX6_readOne_0 := by decide +kernel
theorem dX6_readOne_0 : decode cX6_readOne 0 = .ok (.aload_n 0, 1) := dk_42 (dk_at dksX6_readOne_0 0 rfl rfl)
theorem dX6_readOne_1 : decode cX6_readOne 1 = .ok (.getfield 211, 3) := dk_180 0 211 (dk_at dksX6_readOne_0 1 rfl rfl)
theorem dX6_readOne_4 : decode cX6_readOne 4 = .ok (.ifCond .eq 10, 3) := dk_153 0 10 (dk_at dksX6_readOne_0 4 rfl rfl)
theorem dX6_readOne_7 : decode cX6_readOne 7 = .ok (.aload_n 0, 1) := dk_42 (dk_at dksX6_readOne_0 7 rfl rfl)
theorem dX6_readOne_8 : decode cX6_readOne 8 = .ok (.invokevirtual 215, 3) := dk_182 0 215 (dk_at dksX6_readOne_0 8 rfl rfl)
theorem dX6_readOne_11 : decode cX6_readOne 11 = .ok (.goto 7, 3) := dk_167 0 7 (dk_at dksX6_readOne_0 11 rfl rfl)
theorem dX6_readOne_14 : decode cX6_readOne 14 = .ok (.aload_n 0, 1) := dk_42 (dk_at dksX6_readOne_0 14 rfl rfl)
theorem dX6_readOne_15 : decode cX6_readOne 15 = .ok (.invokevirtual 218, 3) := dk_182 0 218 (dk_at dksX6_readOne_0 15 rfl rfl)
theorem dX6_readOne_18 : decode cX6_readOne 18 = .ok (.return_, 1) := dk_177 (dk_at dksX6_readOne_0 18 rfl rfl)
abbrev cX6_readOrder : ByteArray := prog_24_method_45_code
def yX6_readOrder : MethodName := ⟨RX6, "readOrder", "()V"⟩
def dkwX6_readOrder_2 : List UInt8 := [153, 0, 10, 42, 4, 16, 20, 182, 0, 207, 42, 7, 182, 0, 188, 153, 0, 8, 42, 3, 182, 0, 204, 177]
abbrev dktX6_readOrder_2 : List UInt8 := dkwX6_readOrder_2 ++ []
def dkwX6_readOrder_1 : List UInt8 := [153, 0, 11, 42, 3, 182, 0, 197, 167, 0, 9, 42, 16, 24, 182, 0, 201, 42, 16, 25, 182, 0, 188]
abbrev dktX6_readOrder_1 : List UInt8 := dkwX6_readOrder_1 ++ dktX6_readOrder_2
def dkwX6_readOrder_0 : List UInt8 := [42, 16, 21, 182, 0, 188, 154, 0, 21, 42, 16, 22, 182, 0, 188, 154, 0, 12, 42, 16, 23, 182, 0, 188]
abbrev dktX6_readOrder_0 : List UInt8 := dkwX6_readOrder_0 ++ dktX6_readOrder_1
theorem dksX6_readOrder_0 : cX6_readOrder.data.toList.drop 0 = dktX6_readOrder_0 := by decide +kernel
theorem dksX6_readOrder_1 : cX6_readOrder.data.toList.drop 24 = dktX6_readOrder_1 := dk_seg dksX6_readOrder_0 24 rfl rfl
theorem dksX6_readOrder_2 : cX6_readOrder.data.toList.drop 47 = dktX6_readOrder_2 := dk_seg dksX6_readOrder_1 23 rfl rfl
theorem dX6_readOrder_0 : decode cX6_readOrder 0 = .ok (.aload_n 0, 1) := dk_42 (dk_at dksX6_readOrder_0 0 rfl rfl)
theorem dX6_readOrder_1 : decode cX6_readOrder 1 = .ok (.bipush 21, 2) := dk_16 21 (dk_at dksX6_readOrder_0 1 rfl rfl)
theorem dX6_readOrder_3 : decode cX6_readOrder 3 = .ok (.invokevirtual 188, 3) := dk_182 0 188 (dk_at dksX6_readOrder_0 3 rfl rfl)
theorem dX6_readOrder_6 : decode cX6_readOrder 6 = .ok (.ifCond .ne 21, 3) := dk_154 0 21 (dk_at dksX6_readOrder_0 6 rfl rfl)
theorem dX6_readOrder_9 : decode cX6_readOrder 9 = .ok (.aload_n 0, 1) := dk_42 (dk_at dksX6_readOrder_0 9 rfl rfl)
theorem dX6_readOrder_10 : decode cX6_readOrder 10 = .ok (.bipush 22, 2) := dk_16 22 (dk_at dksX6_readOrder_0 10 rfl rfl)
theorem dX6_readOrder_12 : decode cX6_readOrder 12 = .ok (.invokevirtual 188, 3) := dk_182 0 188 (dk_at dksX6_readOrder_0 12 rfl rfl)
theorem dX6_readOrder_15 : decode cX6_readOrder 15 = .ok (.ifCond .ne 12, 3) := dk_154 0 12 (dk_at dksX6_readOrder_0 15 rfl rfl)
theorem dX6_readOrder_18 : decode cX6_readOrder 18 = .ok (.aload_n 0, 1) := dk_42 (dk_at dksX6_readOrder_0 18 rfl rfl)
theorem dX6_readOrder_19 : decode cX6_readOrder 19 = .ok (.bipush 23, 2) := dk_16 23 (dk_at dksX6_readOrder_0 19 rfl rfl)
theorem dX6_readOrder_21 : decode cX6_readOrder 21 = .ok (.invokevirtual 188, 3) := dk_182 0 188 (dk_at dksX6_readOrder_0 21 rfl rfl)
theorem dX6_readOrder_24 : decode cX6_readOrder 24 = .ok (.ifCond .eq 11, 3) := dk_153 0 11 (dk_at dksX6_readOrder_1 0 rfl rfl)
theorem dX6_readOrder_27 : decode cX6_readOrder 27 = .ok (.aload_n 0, 1) := dk_42 (dk_at dksX6_readOrder_1 3 rfl rfl)
theorem dX6_readOrder_28 : decode cX6_readOrder 28 = .ok (.iconst 0, 1) := dk_3 (dk_at dksX6_readOrder_1 4 rfl rfl)
theorem dX6_readOrder_29 : decode cX6_readOrder 29 = .ok (.invokevirtual 197, 3) := dk_182 0 197 (dk_at dksX6_readOrder_1 5 rfl rfl)
theorem dX6_readOrder_32 : decode cX6_readOrder 32 = .ok (.goto 9, 3) := dk_167 0 9 (dk_at dksX6_readOrder_1 8 rfl rfl)
theorem dX6_readOrder_35 : decode cX6_readOrder 35 = .ok (.aload_n 0, 1) := dk_42 (dk_at dksX6_readOrder_1 11 rfl rfl)
theorem dX6_readOrder_36 : decode cX6_readOrder 36 = .ok (.bipush 24, 2) := dk_16 24 (dk_at dksX6_readOrder_1 12 rfl rfl)
theorem dX6_readOrder_38 : decode cX6_readOrder 38 = .ok (.invokevirtual 201, 3) := dk_182 0 201 (dk_at dksX6_readOrder_1 14 rfl rfl)
theorem dX6_readOrder_41 : decode cX6_readOrder 41 = .ok (.aload_n 0, 1) := dk_42 (dk_at dksX6_readOrder_1 17 rfl rfl)
theorem dX6_readOrder_42 : decode cX6_readOrder 42 = .ok (.bipush 25, 2) := dk_16 25 (dk_at dksX6_readOrder_1 18 rfl rfl)
theorem dX6_readOrder_44 : decode cX6_readOrder 44 = .ok (.invokevirtual 188, 3) := dk_182 0 188 (dk_at dksX6_readOrder_1 20 rfl rfl)
theorem dX6_readOrder_47 : decode cX6_readOrder 47 = .ok (.ifCond .eq 10, 3) := dk_153 0 10 (dk_at dksX6_readOrder_2 0 rfl rfl)
theorem dX6_readOrder_50 : decode cX6_readOrder 50 = .ok (.aload_n 0, 1) := dk_42 (dk_at dksX6_readOrder_2 3 rfl rfl)
theorem dX6_readOrder_51 : decode cX6_readOrder 51 = .ok (.iconst 1, 1) := dk_4 (dk_at dksX6_readOrder_2 4 rfl rfl)
theorem dX6_readOrder_52 : decode cX6_readOrder 52 = .ok (.bipush 20, 2) := dk_16 20 (dk_at dksX6_readOrder_2 5 rfl rfl)
theorem dX6_readOrder_54 : decode cX6_readOrder 54 = .ok (.invokevirtual 207, 3) := dk_182 0 207 (dk_at dksX6_readOrder_2 7 rfl rfl)
theorem dX6_readOrder_57 : decode cX6_readOrder 57 = .ok (.aload_n 0, 1) := dk_42 (dk_at dksX6_readOrder_2 10 rfl rfl)
theorem dX6_readOrder_58 : decode cX6_readOrder 58 = .ok (.iconst 4, 1) := dk_7 (dk_at dksX6_readOrder_2 11 rfl rfl)
theorem dX6_readOrder_59 : decode cX6_readOrder 59 = .ok (.invokevirtual 188, 3) := dk_182 0 188 (dk_at dksX6_readOrder_2 12 rfl rfl)
theorem dX6_readOrder_62 : decode cX6_readOrder 62 = .ok (.ifCond .eq 8, 3) := dk_153 0 8 (dk_at dksX6_readOrder_2 15 rfl rfl)
theorem dX6_readOrder_65 : decode cX6_readOrder 65 = .ok (.aload_n 0, 1) := dk_42 (dk_at dksX6_readOrder_2 18 rfl rfl)
theorem dX6_readOrder_66 : decode cX6_readOrder 66 = .ok (.iconst 0, 1) := dk_3 (dk_at dksX6_readOrder_2 19 rfl rfl)
theorem dX6_readOrder_67 : decode cX6_readOrder 67 = .ok (.invokevirtual 204, 3) := dk_182 0 204 (dk_at dksX6_readOrder_2 20 rfl rfl)
theorem dX6_readOrder_70 : decode cX6_readOrder 70 = .ok (.return_, 1) := dk_177 (dk_at dksX6_readOrder_2 23 rfl rfl)
abbrev cX6_takes0 : ByteArray := prog_24_method_39_code
def yX6_takes0 : MethodName := ⟨RX6, "takes0", "(I)Z"⟩
def dkwX6_takes0_1 : List UInt8 := [3, 61, 28, 153, 0, 13, 42, 89, 180, 0, 185, 4, 96, 181, 0, 185, 28, 172]
abbrev dktX6_takes0_1 : List UInt8 := dkwX6_takes0_1 ++ []
def dkwX6_takes0_0 : List UInt8 := [42, 182, 0, 181, 153, 0, 20, 42, 180, 0, 50, 42, 180, 0, 185, 46, 27, 160, 0, 7, 4, 167, 0, 4]
abbrev dktX6_takes0_0 : List UInt8 := dkwX6_takes0_0 ++ dktX6_takes0_1
theorem dksX6_takes0_0 : cX6_takes0.data.toList.drop 0 = dktX6_takes0_0 := by decide +kernel
theorem dksX6_takes0_1 : cX6_takes0.data.toList.drop 24 = dktX6_takes0_1 := dk_seg dksX6_takes0_0 24 rfl rfl
theorem dX6_takes0_0 : decode cX6_takes0 0 = .ok (.aload_n 0, 1) := dk_42 (dk_at dksX6_takes0_0 0 rfl rfl)
theorem dX6_takes0_1 : decode cX6_takes0 1 = .ok (.invokevirtual 181, 3) := dk_182 0 181 (dk_at dksX6_takes0_0 1 rfl rfl)
theorem dX6_takes0_4 : decode cX6_takes0 4 = .ok (.ifCond .eq 20, 3) := dk_153 0 20 (dk_at dksX6_takes0_0 4 rfl rfl)
theorem dX6_takes0_7 : decode cX6_takes0 7 = .ok (.aload_n 0, 1) := dk_42 (dk_at dksX6_takes0_0 7 rfl rfl)
theorem dX6_takes0_8 : decode cX6_takes0 8 = .ok (.getfield 50, 3) := dk_180 0 50 (dk_at dksX6_takes0_0 8 rfl rfl)
theorem dX6_takes0_11 : decode cX6_takes0 11 = .ok (.aload_n 0, 1) := dk_42 (dk_at dksX6_takes0_0 11 rfl rfl)
theorem dX6_takes0_12 : decode cX6_takes0 12 = .ok (.getfield 185, 3) := dk_180 0 185 (dk_at dksX6_takes0_0 12 rfl rfl)
theorem dX6_takes0_15 : decode cX6_takes0 15 = .ok (.iaload, 1) := dk_46 (dk_at dksX6_takes0_0 15 rfl rfl)
theorem dX6_takes0_16 : decode cX6_takes0 16 = .ok (.iload_n 1, 1) := dk_27 (dk_at dksX6_takes0_0 16 rfl rfl)
theorem dX6_takes0_17 : decode cX6_takes0 17 = .ok (.if_icmp .ne 7, 3) := dk_160 0 7 (dk_at dksX6_takes0_0 17 rfl rfl)
theorem dX6_takes0_20 : decode cX6_takes0 20 = .ok (.iconst 1, 1) := dk_4 (dk_at dksX6_takes0_0 20 rfl rfl)
theorem dX6_takes0_21 : decode cX6_takes0 21 = .ok (.goto 4, 3) := dk_167 0 4 (dk_at dksX6_takes0_0 21 rfl rfl)
theorem dX6_takes0_24 : decode cX6_takes0 24 = .ok (.iconst 0, 1) := dk_3 (dk_at dksX6_takes0_1 0 rfl rfl)
theorem dX6_takes0_25 : decode cX6_takes0 25 = .ok (.istore_n 2, 1) := dk_61 (dk_at dksX6_takes0_1 1 rfl rfl)
theorem dX6_takes0_26 : decode cX6_takes0 26 = .ok (.iload_n 2, 1) := dk_28 (dk_at dksX6_takes0_1 2 rfl rfl)
theorem dX6_takes0_27 : decode cX6_takes0 27 = .ok (.ifCond .eq 13, 3) := dk_153 0 13 (dk_at dksX6_takes0_1 3 rfl rfl)
theorem dX6_takes0_30 : decode cX6_takes0 30 = .ok (.aload_n 0, 1) := dk_42 (dk_at dksX6_takes0_1 6 rfl rfl)
theorem dX6_takes0_31 : decode cX6_takes0 31 = .ok (.dup, 1) := dk_89 (dk_at dksX6_takes0_1 7 rfl rfl)
theorem dX6_takes0_32 : decode cX6_takes0 32 = .ok (.getfield 185, 3) := dk_180 0 185 (dk_at dksX6_takes0_1 8 rfl rfl)
theorem dX6_takes0_35 : decode cX6_takes0 35 = .ok (.iconst 1, 1) := dk_4 (dk_at dksX6_takes0_1 11 rfl rfl)
theorem dX6_takes0_36 : decode cX6_takes0 36 = .ok (.iadd, 1) := dk_96 (dk_at dksX6_takes0_1 12 rfl rfl)
theorem dX6_takes0_37 : decode cX6_takes0 37 = .ok (.putfield 185, 3) := dk_181 0 185 (dk_at dksX6_takes0_1 13 rfl rfl)
theorem dX6_takes0_40 : decode cX6_takes0 40 = .ok (.iload_n 2, 1) := dk_28 (dk_at dksX6_takes0_1 16 rfl rfl)
theorem dX6_takes0_41 : decode cX6_takes0 41 = .ok (.ireturn, 1) := dk_172 (dk_at dksX6_takes0_1 17 rfl rfl)
abbrev cX6_fine : ByteArray := prog_24_method_37_code
def yX6_fine : MethodName := ⟨RX6, "fine", "()Z"⟩
def dkwX6_fine_0 : List UInt8 := [42, 180, 0, 178, 2, 160, 0, 7, 4, 167, 0, 4, 3, 172]
abbrev dktX6_fine_0 : List UInt8 := dkwX6_fine_0 ++ []
theorem dksX6_fine_0 : cX6_fine.data.toList.drop 0 = dktX6_fine_0 := by decide +kernel
theorem dX6_fine_0 : decode cX6_fine 0 = .ok (.aload_n 0, 1) := dk_42 (dk_at dksX6_fine_0 0 rfl rfl)
theorem dX6_fine_1 : decode cX6_fine 1 = .ok (.getfield 178, 3) := dk_180 0 178 (dk_at dksX6_fine_0 1 rfl rfl)
theorem dX6_fine_4 : decode cX6_fine 4 = .ok (.iconst (-1), 1) := dk_2 (dk_at dksX6_fine_0 4 rfl rfl)
theorem dX6_fine_5 : decode cX6_fine 5 = .ok (.if_icmp .ne 7, 3) := dk_160 0 7 (dk_at dksX6_fine_0 5 rfl rfl)
theorem dX6_fine_8 : decode cX6_fine 8 = .ok (.iconst 1, 1) := dk_4 (dk_at dksX6_fine_0 8 rfl rfl)
theorem dX6_fine_9 : decode cX6_fine 9 = .ok (.goto 4, 3) := dk_167 0 4 (dk_at dksX6_fine_0 9 rfl rfl)
theorem dX6_fine_12 : decode cX6_fine 12 = .ok (.iconst 0, 1) := dk_3 (dk_at dksX6_fine_0 12 rfl rfl)
theorem dX6_fine_13 : decode cX6_fine 13 = .ok (.ireturn, 1) := dk_172 (dk_at dksX6_fine_0 13 rfl rfl)
abbrev cX6_readSum : ByteArray := prog_24_method_50_code
def yX6_readSum : MethodName := ⟨RX6, "readSum", "(I)V"⟩
def dkwX6_readSum_1 : List UInt8 := [182, 0, 188, 153, 0, 11, 42, 27, 182, 0, 231, 167, 255, 227, 177]
abbrev dktX6_readSum_1 : List UInt8 := dkwX6_readSum_1 ++ []
def dkwX6_readSum_0 : List UInt8 := [42, 27, 182, 0, 231, 42, 16, 43, 184, 0, 227, 182, 0, 188, 154, 0, 15, 42, 16, 45, 184, 0, 227]
abbrev dktX6_readSum_0 : List UInt8 := dkwX6_readSum_0 ++ dktX6_readSum_1
theorem dksX6_readSum_0 : cX6_readSum.data.toList.drop 0 = dktX6_readSum_0 := by decide +kernel
theorem dksX6_readSum_1 : cX6_readSum.data.toList.drop 23 = dktX6_readSum_1 := dk_seg dksX6_readSum_0 23 rfl rfl
theorem dX6_readSum_0 : decode cX6_readSum 0 = .ok (.aload_n 0, 1) := dk_42 (dk_at dksX6_readSum_0 0 rfl rfl)
theorem dX6_readSum_1 : decode cX6_readSum 1 = .ok (.iload_n 1, 1) := dk_27 (dk_at dksX6_readSum_0 1 rfl rfl)
theorem dX6_readSum_2 : decode cX6_readSum 2 = .ok (.invokevirtual 231, 3) := dk_182 0 231 (dk_at dksX6_readSum_0 2 rfl rfl)
theorem dX6_readSum_5 : decode cX6_readSum 5 = .ok (.aload_n 0, 1) := dk_42 (dk_at dksX6_readSum_0 5 rfl rfl)
theorem dX6_readSum_6 : decode cX6_readSum 6 = .ok (.bipush 43, 2) := dk_16 43 (dk_at dksX6_readSum_0 6 rfl rfl)
theorem dX6_readSum_8 : decode cX6_readSum 8 = .ok (.invokestatic 227, 3) := dk_184 0 227 (dk_at dksX6_readSum_0 8 rfl rfl)
theorem dX6_readSum_11 : decode cX6_readSum 11 = .ok (.invokevirtual 188, 3) := dk_182 0 188 (dk_at dksX6_readSum_0 11 rfl rfl)
theorem dX6_readSum_14 : decode cX6_readSum 14 = .ok (.ifCond .ne 15, 3) := dk_154 0 15 (dk_at dksX6_readSum_0 14 rfl rfl)
theorem dX6_readSum_17 : decode cX6_readSum 17 = .ok (.aload_n 0, 1) := dk_42 (dk_at dksX6_readSum_0 17 rfl rfl)
theorem dX6_readSum_18 : decode cX6_readSum 18 = .ok (.bipush 45, 2) := dk_16 45 (dk_at dksX6_readSum_0 18 rfl rfl)
theorem dX6_readSum_20 : decode cX6_readSum 20 = .ok (.invokestatic 227, 3) := dk_184 0 227 (dk_at dksX6_readSum_0 20 rfl rfl)
theorem dX6_readSum_23 : decode cX6_readSum 23 = .ok (.invokevirtual 188, 3) := dk_182 0 188 (dk_at dksX6_readSum_1 0 rfl rfl)
theorem dX6_readSum_26 : decode cX6_readSum 26 = .ok (.ifCond .eq 11, 3) := dk_153 0 11 (dk_at dksX6_readSum_1 3 rfl rfl)
theorem dX6_readSum_29 : decode cX6_readSum 29 = .ok (.aload_n 0, 1) := dk_42 (dk_at dksX6_readSum_1 6 rfl rfl)
theorem dX6_readSum_30 : decode cX6_readSum 30 = .ok (.iload_n 1, 1) := dk_27 (dk_at dksX6_readSum_1 7 rfl rfl)
theorem dX6_readSum_31 : decode cX6_readSum 31 = .ok (.invokevirtual 231, 3) := dk_182 0 231 (dk_at dksX6_readSum_1 8 rfl rfl)
theorem dX6_readSum_34 : decode cX6_readSum 34 = .ok (.goto (-29), 3) := dk_167 255 227 (dk_at dksX6_readSum_1 11 rfl rfl)
theorem dX6_readSum_37 : decode cX6_readSum 37 = .ok (.return_, 1) := dk_177 (dk_at dksX6_readSum_1 14 rfl rfl)
abbrev cX6_readTerm : ByteArray := prog_24_method_51_code
def yX6_readTerm : MethodName := ⟨RX6, "readTerm", "(I)V"⟩
def dkwX6_readTerm_2 : List UInt8 := [167, 255, 215, 177]
abbrev dktX6_readTerm_2 : List UInt8 := dkwX6_readTerm_2 ++ []
def dkwX6_readTerm_1 : List UInt8 := [182, 0, 188, 154, 0, 15, 42, 16, 37, 184, 0, 227, 182, 0, 188, 153, 0, 11, 42, 27, 182, 0, 234]
abbrev dktX6_readTerm_1 : List UInt8 := dkwX6_readTerm_1 ++ dktX6_readTerm_2
def dkwX6_readTerm_0 : List UInt8 := [42, 27, 182, 0, 234, 42, 16, 42, 184, 0, 227, 182, 0, 188, 154, 0, 27, 42, 16, 47, 184, 0, 227]
abbrev dktX6_readTerm_0 : List UInt8 := dkwX6_readTerm_0 ++ dktX6_readTerm_1
theorem dksX6_readTerm_0 : cX6_readTerm.data.toList.drop 0 = dktX6_readTerm_0 := by decide +kernel
theorem dksX6_readTerm_1 : cX6_readTerm.data.toList.drop 23 = dktX6_readTerm_1 := dk_seg dksX6_readTerm_0 23 rfl rfl
theorem dksX6_readTerm_2 : cX6_readTerm.data.toList.drop 46 = dktX6_readTerm_2 := dk_seg dksX6_readTerm_1 23 rfl rfl
theorem dX6_readTerm_0 : decode cX6_readTerm 0 = .ok (.aload_n 0, 1) := dk_42 (dk_at dksX6_readTerm_0 0 rfl rfl)
theorem dX6_readTerm_1 : decode cX6_readTerm 1 = .ok (.iload_n 1, 1) := dk_27 (dk_at dksX6_readTerm_0 1 rfl rfl)
theorem dX6_readTerm_2 : decode cX6_readTerm 2 = .ok (.invokevirtual 234, 3) := dk_182 0 234 (dk_at dksX6_readTerm_0 2 rfl rfl)
theorem dX6_readTerm_5 : decode cX6_readTerm 5 = .ok (.aload_n 0, 1) := dk_42 (dk_at dksX6_readTerm_0 5 rfl rfl)
theorem dX6_readTerm_6 : decode cX6_readTerm 6 = .ok (.bipush 42, 2) := dk_16 42 (dk_at dksX6_readTerm_0 6 rfl rfl)
theorem dX6_readTerm_8 : decode cX6_readTerm 8 = .ok (.invokestatic 227, 3) := dk_184 0 227 (dk_at dksX6_readTerm_0 8 rfl rfl)
theorem dX6_readTerm_11 : decode cX6_readTerm 11 = .ok (.invokevirtual 188, 3) := dk_182 0 188 (dk_at dksX6_readTerm_0 11 rfl rfl)
theorem dX6_readTerm_14 : decode cX6_readTerm 14 = .ok (.ifCond .ne 27, 3) := dk_154 0 27 (dk_at dksX6_readTerm_0 14 rfl rfl)
theorem dX6_readTerm_17 : decode cX6_readTerm 17 = .ok (.aload_n 0, 1) := dk_42 (dk_at dksX6_readTerm_0 17 rfl rfl)
theorem dX6_readTerm_18 : decode cX6_readTerm 18 = .ok (.bipush 47, 2) := dk_16 47 (dk_at dksX6_readTerm_0 18 rfl rfl)
theorem dX6_readTerm_20 : decode cX6_readTerm 20 = .ok (.invokestatic 227, 3) := dk_184 0 227 (dk_at dksX6_readTerm_0 20 rfl rfl)
theorem dX6_readTerm_23 : decode cX6_readTerm 23 = .ok (.invokevirtual 188, 3) := dk_182 0 188 (dk_at dksX6_readTerm_1 0 rfl rfl)
theorem dX6_readTerm_26 : decode cX6_readTerm 26 = .ok (.ifCond .ne 15, 3) := dk_154 0 15 (dk_at dksX6_readTerm_1 3 rfl rfl)
theorem dX6_readTerm_29 : decode cX6_readTerm 29 = .ok (.aload_n 0, 1) := dk_42 (dk_at dksX6_readTerm_1 6 rfl rfl)
theorem dX6_readTerm_30 : decode cX6_readTerm 30 = .ok (.bipush 37, 2) := dk_16 37 (dk_at dksX6_readTerm_1 7 rfl rfl)
theorem dX6_readTerm_32 : decode cX6_readTerm 32 = .ok (.invokestatic 227, 3) := dk_184 0 227 (dk_at dksX6_readTerm_1 9 rfl rfl)
theorem dX6_readTerm_35 : decode cX6_readTerm 35 = .ok (.invokevirtual 188, 3) := dk_182 0 188 (dk_at dksX6_readTerm_1 12 rfl rfl)
theorem dX6_readTerm_38 : decode cX6_readTerm 38 = .ok (.ifCond .eq 11, 3) := dk_153 0 11 (dk_at dksX6_readTerm_1 15 rfl rfl)
theorem dX6_readTerm_41 : decode cX6_readTerm 41 = .ok (.aload_n 0, 1) := dk_42 (dk_at dksX6_readTerm_1 18 rfl rfl)
theorem dX6_readTerm_42 : decode cX6_readTerm 42 = .ok (.iload_n 1, 1) := dk_27 (dk_at dksX6_readTerm_1 19 rfl rfl)
theorem dX6_readTerm_43 : decode cX6_readTerm 43 = .ok (.invokevirtual 234, 3) := dk_182 0 234 (dk_at dksX6_readTerm_1 20 rfl rfl)
theorem dX6_readTerm_46 : decode cX6_readTerm 46 = .ok (.goto (-41), 3) := dk_167 255 215 (dk_at dksX6_readTerm_2 0 rfl rfl)
theorem dX6_readTerm_49 : decode cX6_readTerm 49 = .ok (.return_, 1) := dk_177 (dk_at dksX6_readTerm_2 3 rfl rfl)
abbrev cX6_readPart : ByteArray := prog_24_method_52_code
def yX6_readPart : MethodName := ⟨RX6, "readPart", "(I)V"⟩
def dkwX6_readPart_6 : List UInt8 := [16, 20, 160, 0, 17, 42, 3, 16, 7, 182, 0, 207, 167, 0, 7, 42, 182, 0, 191, 177]
abbrev dktX6_readPart_6 : List UInt8 := dkwX6_readPart_6 ++ []
def dkwX6_readPart_5 : List UInt8 := [153, 0, 15, 28, 16, 14, 160, 0, 9, 42, 3, 6, 182, 0, 207, 42, 180, 0, 211, 153, 0, 23, 28]
abbrev dktX6_readPart_5 : List UInt8 := dkwX6_readPart_5 ++ dktX6_readPart_6
def dkwX6_readPart_4 : List UInt8 := [28, 42, 180, 0, 237, 161, 0, 57, 28, 42, 180, 0, 240, 163, 0, 49, 42, 182, 0, 243, 42, 180, 0, 211]
abbrev dktX6_readPart_4 : List UInt8 := dkwX6_readPart_4 ++ dktX6_readPart_5
def dkwX6_readPart_3 : List UInt8 := [167, 0, 90, 28, 16, 50, 160, 0, 18, 42, 180, 0, 53, 42, 180, 0, 185, 46, 17, 3, 232, 164, 0, 19]
abbrev dktX6_readPart_3 : List UInt8 := dkwX6_readPart_3 ++ dktX6_readPart_4
def dkwX6_readPart_2 : List UInt8 := [180, 0, 185, 4, 96, 181, 0, 185, 42, 27, 4, 96, 182, 0, 197, 42, 16, 93, 184, 0, 227, 182, 0, 201]
abbrev dktX6_readPart_2 : List UInt8 := dkwX6_readPart_2 ++ dktX6_readPart_3
def dkwX6_readPart_1 : List UInt8 := [160, 0, 50, 27, 16, 8, 160, 0, 7, 42, 182, 0, 191, 42, 182, 0, 181, 154, 0, 4, 177, 42, 89]
abbrev dktX6_readPart_1 : List UInt8 := dkwX6_readPart_1 ++ dktX6_readPart_2
def dkwX6_readPart_0 : List UInt8 := [42, 182, 0, 181, 154, 0, 4, 177, 42, 180, 0, 50, 42, 180, 0, 185, 46, 61, 28, 16, 91, 184, 0, 227]
abbrev dktX6_readPart_0 : List UInt8 := dkwX6_readPart_0 ++ dktX6_readPart_1
theorem dksX6_readPart_0 : cX6_readPart.data.toList.drop 0 = dktX6_readPart_0 := by decide +kernel
theorem dksX6_readPart_1 : cX6_readPart.data.toList.drop 24 = dktX6_readPart_1 := dk_seg dksX6_readPart_0 24 rfl rfl
theorem dksX6_readPart_2 : cX6_readPart.data.toList.drop 47 = dktX6_readPart_2 := dk_seg dksX6_readPart_1 23 rfl rfl
theorem dksX6_readPart_3 : cX6_readPart.data.toList.drop 71 = dktX6_readPart_3 := dk_seg dksX6_readPart_2 24 rfl rfl
theorem dksX6_readPart_4 : cX6_readPart.data.toList.drop 95 = dktX6_readPart_4 := dk_seg dksX6_readPart_3 24 rfl rfl
theorem dksX6_readPart_5 : cX6_readPart.data.toList.drop 119 = dktX6_readPart_5 := dk_seg dksX6_readPart_4 24 rfl rfl
theorem dksX6_readPart_6 : cX6_readPart.data.toList.drop 142 = dktX6_readPart_6 := dk_seg dksX6_readPart_5 23 rfl rfl
theorem dX6_readPart_0 : decode cX6_readPart 0 = .ok (.aload_n 0, 1) := dk_42 (dk_at dksX6_readPart_0 0 rfl rfl)
theorem dX6_readPart_1 : decode cX6_readPart 1 = .ok (.invokevirtual 181, 3) := dk_182 0 181 (dk_at dksX6_readPart_0 1 rfl rfl)
theorem dX6_readPart_4 : decode cX6_readPart 4 = .ok (.ifCond .ne 4, 3) := dk_154 0 4 (dk_at dksX6_readPart_0 4 rfl rfl)
theorem dX6_readPart_7 : decode cX6_readPart 7 = .ok (.return_, 1) := dk_177 (dk_at dksX6_readPart_0 7 rfl rfl)
theorem dX6_readPart_8 : decode cX6_readPart 8 = .ok (.aload_n 0, 1) := dk_42 (dk_at dksX6_readPart_0 8 rfl rfl)
theorem dX6_readPart_9 : decode cX6_readPart 9 = .ok (.getfield 50, 3) := dk_180 0 50 (dk_at dksX6_readPart_0 9 rfl rfl)
theorem dX6_readPart_12 : decode cX6_readPart 12 = .ok (.aload_n 0, 1) := dk_42 (dk_at dksX6_readPart_0 12 rfl rfl)
theorem dX6_readPart_13 : decode cX6_readPart 13 = .ok (.getfield 185, 3) := dk_180 0 185 (dk_at dksX6_readPart_0 13 rfl rfl)
theorem dX6_readPart_16 : decode cX6_readPart 16 = .ok (.iaload, 1) := dk_46 (dk_at dksX6_readPart_0 16 rfl rfl)
theorem dX6_readPart_17 : decode cX6_readPart 17 = .ok (.istore_n 2, 1) := dk_61 (dk_at dksX6_readPart_0 17 rfl rfl)
theorem dX6_readPart_18 : decode cX6_readPart 18 = .ok (.iload_n 2, 1) := dk_28 (dk_at dksX6_readPart_0 18 rfl rfl)
theorem dX6_readPart_19 : decode cX6_readPart 19 = .ok (.bipush 91, 2) := dk_16 91 (dk_at dksX6_readPart_0 19 rfl rfl)
theorem dX6_readPart_21 : decode cX6_readPart 21 = .ok (.invokestatic 227, 3) := dk_184 0 227 (dk_at dksX6_readPart_0 21 rfl rfl)
theorem dX6_readPart_24 : decode cX6_readPart 24 = .ok (.if_icmp .ne 50, 3) := dk_160 0 50 (dk_at dksX6_readPart_1 0 rfl rfl)
theorem dX6_readPart_27 : decode cX6_readPart 27 = .ok (.iload_n 1, 1) := dk_27 (dk_at dksX6_readPart_1 3 rfl rfl)
theorem dX6_readPart_28 : decode cX6_readPart 28 = .ok (.bipush 8, 2) := dk_16 8 (dk_at dksX6_readPart_1 4 rfl rfl)
theorem dX6_readPart_30 : decode cX6_readPart 30 = .ok (.if_icmp .ne 7, 3) := dk_160 0 7 (dk_at dksX6_readPart_1 6 rfl rfl)
theorem dX6_readPart_33 : decode cX6_readPart 33 = .ok (.aload_n 0, 1) := dk_42 (dk_at dksX6_readPart_1 9 rfl rfl)
theorem dX6_readPart_34 : decode cX6_readPart 34 = .ok (.invokevirtual 191, 3) := dk_182 0 191 (dk_at dksX6_readPart_1 10 rfl rfl)
theorem dX6_readPart_37 : decode cX6_readPart 37 = .ok (.aload_n 0, 1) := dk_42 (dk_at dksX6_readPart_1 13 rfl rfl)
theorem dX6_readPart_38 : decode cX6_readPart 38 = .ok (.invokevirtual 181, 3) := dk_182 0 181 (dk_at dksX6_readPart_1 14 rfl rfl)
theorem dX6_readPart_41 : decode cX6_readPart 41 = .ok (.ifCond .ne 4, 3) := dk_154 0 4 (dk_at dksX6_readPart_1 17 rfl rfl)
theorem dX6_readPart_44 : decode cX6_readPart 44 = .ok (.return_, 1) := dk_177 (dk_at dksX6_readPart_1 20 rfl rfl)
theorem dX6_readPart_45 : decode cX6_readPart 45 = .ok (.aload_n 0, 1) := dk_42 (dk_at dksX6_readPart_1 21 rfl rfl)
theorem dX6_readPart_46 : decode cX6_readPart 46 = .ok (.dup, 1) := dk_89 (dk_at dksX6_readPart_1 22 rfl rfl)
theorem dX6_readPart_47 : decode cX6_readPart 47 = .ok (.getfield 185, 3) := dk_180 0 185 (dk_at dksX6_readPart_2 0 rfl rfl)
theorem dX6_readPart_50 : decode cX6_readPart 50 = .ok (.iconst 1, 1) := dk_4 (dk_at dksX6_readPart_2 3 rfl rfl)
theorem dX6_readPart_51 : decode cX6_readPart 51 = .ok (.iadd, 1) := dk_96 (dk_at dksX6_readPart_2 4 rfl rfl)
theorem dX6_readPart_52 : decode cX6_readPart 52 = .ok (.putfield 185, 3) := dk_181 0 185 (dk_at dksX6_readPart_2 5 rfl rfl)
theorem dX6_readPart_55 : decode cX6_readPart 55 = .ok (.aload_n 0, 1) := dk_42 (dk_at dksX6_readPart_2 8 rfl rfl)
theorem dX6_readPart_56 : decode cX6_readPart 56 = .ok (.iload_n 1, 1) := dk_27 (dk_at dksX6_readPart_2 9 rfl rfl)
theorem dX6_readPart_57 : decode cX6_readPart 57 = .ok (.iconst 1, 1) := dk_4 (dk_at dksX6_readPart_2 10 rfl rfl)
theorem dX6_readPart_58 : decode cX6_readPart 58 = .ok (.iadd, 1) := dk_96 (dk_at dksX6_readPart_2 11 rfl rfl)
theorem dX6_readPart_59 : decode cX6_readPart 59 = .ok (.invokevirtual 197, 3) := dk_182 0 197 (dk_at dksX6_readPart_2 12 rfl rfl)
theorem dX6_readPart_62 : decode cX6_readPart 62 = .ok (.aload_n 0, 1) := dk_42 (dk_at dksX6_readPart_2 15 rfl rfl)
theorem dX6_readPart_63 : decode cX6_readPart 63 = .ok (.bipush 93, 2) := dk_16 93 (dk_at dksX6_readPart_2 16 rfl rfl)
theorem dX6_readPart_65 : decode cX6_readPart 65 = .ok (.invokestatic 227, 3) := dk_184 0 227 (dk_at dksX6_readPart_2 18 rfl rfl)
theorem dX6_readPart_68 : decode cX6_readPart 68 = .ok (.invokevirtual 201, 3) := dk_182 0 201 (dk_at dksX6_readPart_2 21 rfl rfl)
theorem dX6_readPart_71 : decode cX6_readPart 71 = .ok (.goto 90, 3) := dk_167 0 90 (dk_at dksX6_readPart_3 0 rfl rfl)
theorem dX6_readPart_74 : decode cX6_readPart 74 = .ok (.iload_n 2, 1) := dk_28 (dk_at dksX6_readPart_3 3 rfl rfl)
theorem dX6_readPart_75 : decode cX6_readPart 75 = .ok (.bipush 50, 2) := dk_16 50 (dk_at dksX6_readPart_3 4 rfl rfl)
theorem dX6_readPart_77 : decode cX6_readPart 77 = .ok (.if_icmp .ne 18, 3) := dk_160 0 18 (dk_at dksX6_readPart_3 6 rfl rfl)
theorem dX6_readPart_80 : decode cX6_readPart 80 = .ok (.aload_n 0, 1) := dk_42 (dk_at dksX6_readPart_3 9 rfl rfl)
theorem dX6_readPart_81 : decode cX6_readPart 81 = .ok (.getfield 53, 3) := dk_180 0 53 (dk_at dksX6_readPart_3 10 rfl rfl)
theorem dX6_readPart_84 : decode cX6_readPart 84 = .ok (.aload_n 0, 1) := dk_42 (dk_at dksX6_readPart_3 13 rfl rfl)
theorem dX6_readPart_85 : decode cX6_readPart 85 = .ok (.getfield 185, 3) := dk_180 0 185 (dk_at dksX6_readPart_3 14 rfl rfl)
theorem dX6_readPart_88 : decode cX6_readPart 88 = .ok (.iaload, 1) := dk_46 (dk_at dksX6_readPart_3 17 rfl rfl)
theorem dX6_readPart_89 : decode cX6_readPart 89 = .ok (.sipush 1000, 3) := dk_17 3 232 (dk_at dksX6_readPart_3 18 rfl rfl)
theorem dX6_readPart_92 : decode cX6_readPart 92 = .ok (.if_icmp .le 19, 3) := dk_164 0 19 (dk_at dksX6_readPart_3 21 rfl rfl)
theorem dX6_readPart_95 : decode cX6_readPart 95 = .ok (.iload_n 2, 1) := dk_28 (dk_at dksX6_readPart_4 0 rfl rfl)
theorem dX6_readPart_96 : decode cX6_readPart 96 = .ok (.aload_n 0, 1) := dk_42 (dk_at dksX6_readPart_4 1 rfl rfl)
theorem dX6_readPart_97 : decode cX6_readPart 97 = .ok (.getfield 237, 3) := dk_180 0 237 (dk_at dksX6_readPart_4 2 rfl rfl)
theorem dX6_readPart_100 : decode cX6_readPart 100 = .ok (.if_icmp .lt 57, 3) := dk_161 0 57 (dk_at dksX6_readPart_4 5 rfl rfl)
theorem dX6_readPart_103 : decode cX6_readPart 103 = .ok (.iload_n 2, 1) := dk_28 (dk_at dksX6_readPart_4 8 rfl rfl)
theorem dX6_readPart_104 : decode cX6_readPart 104 = .ok (.aload_n 0, 1) := dk_42 (dk_at dksX6_readPart_4 9 rfl rfl)
theorem dX6_readPart_105 : decode cX6_readPart 105 = .ok (.getfield 240, 3) := dk_180 0 240 (dk_at dksX6_readPart_4 10 rfl rfl)
theorem dX6_readPart_108 : decode cX6_readPart 108 = .ok (.if_icmp .gt 49, 3) := dk_163 0 49 (dk_at dksX6_readPart_4 13 rfl rfl)
theorem dX6_readPart_111 : decode cX6_readPart 111 = .ok (.aload_n 0, 1) := dk_42 (dk_at dksX6_readPart_4 16 rfl rfl)
theorem dX6_readPart_112 : decode cX6_readPart 112 = .ok (.invokevirtual 243, 3) := dk_182 0 243 (dk_at dksX6_readPart_4 17 rfl rfl)
theorem dX6_readPart_115 : decode cX6_readPart 115 = .ok (.aload_n 0, 1) := dk_42 (dk_at dksX6_readPart_4 20 rfl rfl)
theorem dX6_readPart_116 : decode cX6_readPart 116 = .ok (.getfield 211, 3) := dk_180 0 211 (dk_at dksX6_readPart_4 21 rfl rfl)
theorem dX6_readPart_119 : decode cX6_readPart 119 = .ok (.ifCond .eq 15, 3) := dk_153 0 15 (dk_at dksX6_readPart_5 0 rfl rfl)
theorem dX6_readPart_122 : decode cX6_readPart 122 = .ok (.iload_n 2, 1) := dk_28 (dk_at dksX6_readPart_5 3 rfl rfl)
theorem dX6_readPart_123 : decode cX6_readPart 123 = .ok (.bipush 14, 2) := dk_16 14 (dk_at dksX6_readPart_5 4 rfl rfl)
theorem dX6_readPart_125 : decode cX6_readPart 125 = .ok (.if_icmp .ne 9, 3) := dk_160 0 9 (dk_at dksX6_readPart_5 6 rfl rfl)
theorem dX6_readPart_128 : decode cX6_readPart 128 = .ok (.aload_n 0, 1) := dk_42 (dk_at dksX6_readPart_5 9 rfl rfl)
theorem dX6_readPart_129 : decode cX6_readPart 129 = .ok (.iconst 0, 1) := dk_3 (dk_at dksX6_readPart_5 10 rfl rfl)
theorem dX6_readPart_130 : decode cX6_readPart 130 = .ok (.iconst 3, 1) := dk_6 (dk_at dksX6_readPart_5 11 rfl rfl)
theorem dX6_readPart_131 : decode cX6_readPart 131 = .ok (.invokevirtual 207, 3) := dk_182 0 207 (dk_at dksX6_readPart_5 12 rfl rfl)
theorem dX6_readPart_134 : decode cX6_readPart 134 = .ok (.aload_n 0, 1) := dk_42 (dk_at dksX6_readPart_5 15 rfl rfl)
theorem dX6_readPart_135 : decode cX6_readPart 135 = .ok (.getfield 211, 3) := dk_180 0 211 (dk_at dksX6_readPart_5 16 rfl rfl)
theorem dX6_readPart_138 : decode cX6_readPart 138 = .ok (.ifCond .eq 23, 3) := dk_153 0 23 (dk_at dksX6_readPart_5 19 rfl rfl)
theorem dX6_readPart_141 : decode cX6_readPart 141 = .ok (.iload_n 2, 1) := dk_28 (dk_at dksX6_readPart_5 22 rfl rfl)
theorem dX6_readPart_142 : decode cX6_readPart 142 = .ok (.bipush 20, 2) := dk_16 20 (dk_at dksX6_readPart_6 0 rfl rfl)
theorem dX6_readPart_144 : decode cX6_readPart 144 = .ok (.if_icmp .ne 17, 3) := dk_160 0 17 (dk_at dksX6_readPart_6 2 rfl rfl)
theorem dX6_readPart_147 : decode cX6_readPart 147 = .ok (.aload_n 0, 1) := dk_42 (dk_at dksX6_readPart_6 5 rfl rfl)
theorem dX6_readPart_148 : decode cX6_readPart 148 = .ok (.iconst 0, 1) := dk_3 (dk_at dksX6_readPart_6 6 rfl rfl)
theorem dX6_readPart_149 : decode cX6_readPart 149 = .ok (.bipush 7, 2) := dk_16 7 (dk_at dksX6_readPart_6 7 rfl rfl)
theorem dX6_readPart_151 : decode cX6_readPart 151 = .ok (.invokevirtual 207, 3) := dk_182 0 207 (dk_at dksX6_readPart_6 9 rfl rfl)
theorem dX6_readPart_154 : decode cX6_readPart 154 = .ok (.goto 7, 3) := dk_167 0 7 (dk_at dksX6_readPart_6 12 rfl rfl)
theorem dX6_readPart_157 : decode cX6_readPart 157 = .ok (.aload_n 0, 1) := dk_42 (dk_at dksX6_readPart_6 15 rfl rfl)
theorem dX6_readPart_158 : decode cX6_readPart 158 = .ok (.invokevirtual 191, 3) := dk_182 0 191 (dk_at dksX6_readPart_6 16 rfl rfl)
theorem dX6_readPart_161 : decode cX6_readPart 161 = .ok (.return_, 1) := dk_177 (dk_at dksX6_readPart_6 19 rfl rfl)
abbrev cX6_faults : ByteArray := prog_24_method_38_code
def yX6_faults : MethodName := ⟨RX6, "faults", "()V"⟩
def dkwX6_faults_0 : List UInt8 := [42, 182, 0, 181, 153, 0, 16, 42, 42, 180, 0, 56, 42, 180, 0, 185, 46, 181, 0, 178, 177]
abbrev dktX6_faults_0 : List UInt8 := dkwX6_faults_0 ++ []
theorem dksX6_faults_0 : cX6_faults.data.toList.drop 0 = dktX6_faults_0 := by decide +kernel
theorem dX6_faults_0 : decode cX6_faults 0 = .ok (.aload_n 0, 1) := dk_42 (dk_at dksX6_faults_0 0 rfl rfl)
theorem dX6_faults_1 : decode cX6_faults 1 = .ok (.invokevirtual 181, 3) := dk_182 0 181 (dk_at dksX6_faults_0 1 rfl rfl)
theorem dX6_faults_4 : decode cX6_faults 4 = .ok (.ifCond .eq 16, 3) := dk_153 0 16 (dk_at dksX6_faults_0 4 rfl rfl)
theorem dX6_faults_7 : decode cX6_faults 7 = .ok (.aload_n 0, 1) := dk_42 (dk_at dksX6_faults_0 7 rfl rfl)
theorem dX6_faults_8 : decode cX6_faults 8 = .ok (.aload_n 0, 1) := dk_42 (dk_at dksX6_faults_0 8 rfl rfl)
theorem dX6_faults_9 : decode cX6_faults 9 = .ok (.getfield 56, 3) := dk_180 0 56 (dk_at dksX6_faults_0 9 rfl rfl)
theorem dX6_faults_12 : decode cX6_faults 12 = .ok (.aload_n 0, 1) := dk_42 (dk_at dksX6_faults_0 12 rfl rfl)
theorem dX6_faults_13 : decode cX6_faults 13 = .ok (.getfield 185, 3) := dk_180 0 185 (dk_at dksX6_faults_0 13 rfl rfl)
theorem dX6_faults_16 : decode cX6_faults 16 = .ok (.iaload, 1) := dk_46 (dk_at dksX6_faults_0 16 rfl rfl)
theorem dX6_faults_17 : decode cX6_faults 17 = .ok (.putfield 178, 3) := dk_181 0 178 (dk_at dksX6_faults_0 17 rfl rfl)
theorem dX6_faults_20 : decode cX6_faults 20 = .ok (.return_, 1) := dk_177 (dk_at dksX6_faults_0 20 rfl rfl)
abbrev cX6_must : ByteArray := prog_24_method_40_code
def yX6_must : MethodName := ⟨RX6, "must", "(I)V"⟩
def dkwX6_must_0 : List UInt8 := [42, 27, 182, 0, 188, 154, 0, 7, 42, 182, 0, 191, 177]
abbrev dktX6_must_0 : List UInt8 := dkwX6_must_0 ++ []
theorem dksX6_must_0 : cX6_must.data.toList.drop 0 = dktX6_must_0 := by decide +kernel
theorem dX6_must_0 : decode cX6_must 0 = .ok (.aload_n 0, 1) := dk_42 (dk_at dksX6_must_0 0 rfl rfl)
theorem dX6_must_1 : decode cX6_must 1 = .ok (.iload_n 1, 1) := dk_27 (dk_at dksX6_must_0 1 rfl rfl)
theorem dX6_must_2 : decode cX6_must 2 = .ok (.invokevirtual 188, 3) := dk_182 0 188 (dk_at dksX6_must_0 2 rfl rfl)
theorem dX6_must_5 : decode cX6_must 5 = .ok (.ifCond .ne 7, 3) := dk_154 0 7 (dk_at dksX6_must_0 5 rfl rfl)
theorem dX6_must_8 : decode cX6_must 8 = .ok (.aload_n 0, 1) := dk_42 (dk_at dksX6_must_0 8 rfl rfl)
theorem dX6_must_9 : decode cX6_must 9 = .ok (.invokevirtual 191, 3) := dk_182 0 191 (dk_at dksX6_must_0 9 rfl rfl)
theorem dX6_must_12 : decode cX6_must 12 = .ok (.return_, 1) := dk_177 (dk_at dksX6_must_0 12 rfl rfl)
abbrev cX6_leaf : ByteArray := prog_24_method_41_code
def yX6_leaf : MethodName := ⟨RX6, "leaf", "()V"⟩
def dkwX6_leaf_1 : List UInt8 := [182, 0, 181, 153, 0, 13, 42, 89, 180, 0, 185, 4, 96, 181, 0, 185, 177]
abbrev dktX6_leaf_1 : List UInt8 := dkwX6_leaf_1 ++ []
def dkwX6_leaf_0 : List UInt8 := [42, 180, 0, 194, 16, 50, 160, 0, 7, 42, 182, 0, 191, 42, 89, 180, 0, 194, 4, 96, 181, 0, 194, 42]
abbrev dktX6_leaf_0 : List UInt8 := dkwX6_leaf_0 ++ dktX6_leaf_1
theorem dksX6_leaf_0 : cX6_leaf.data.toList.drop 0 = dktX6_leaf_0 := by decide +kernel
theorem dksX6_leaf_1 : cX6_leaf.data.toList.drop 24 = dktX6_leaf_1 := dk_seg dksX6_leaf_0 24 rfl rfl
theorem dX6_leaf_0 : decode cX6_leaf 0 = .ok (.aload_n 0, 1) := dk_42 (dk_at dksX6_leaf_0 0 rfl rfl)
theorem dX6_leaf_1 : decode cX6_leaf 1 = .ok (.getfield 194, 3) := dk_180 0 194 (dk_at dksX6_leaf_0 1 rfl rfl)
theorem dX6_leaf_4 : decode cX6_leaf 4 = .ok (.bipush 50, 2) := dk_16 50 (dk_at dksX6_leaf_0 4 rfl rfl)
theorem dX6_leaf_6 : decode cX6_leaf 6 = .ok (.if_icmp .ne 7, 3) := dk_160 0 7 (dk_at dksX6_leaf_0 6 rfl rfl)
theorem dX6_leaf_9 : decode cX6_leaf 9 = .ok (.aload_n 0, 1) := dk_42 (dk_at dksX6_leaf_0 9 rfl rfl)
theorem dX6_leaf_10 : decode cX6_leaf 10 = .ok (.invokevirtual 191, 3) := dk_182 0 191 (dk_at dksX6_leaf_0 10 rfl rfl)
theorem dX6_leaf_13 : decode cX6_leaf 13 = .ok (.aload_n 0, 1) := dk_42 (dk_at dksX6_leaf_0 13 rfl rfl)
theorem dX6_leaf_14 : decode cX6_leaf 14 = .ok (.dup, 1) := dk_89 (dk_at dksX6_leaf_0 14 rfl rfl)
theorem dX6_leaf_15 : decode cX6_leaf 15 = .ok (.getfield 194, 3) := dk_180 0 194 (dk_at dksX6_leaf_0 15 rfl rfl)
theorem dX6_leaf_18 : decode cX6_leaf 18 = .ok (.iconst 1, 1) := dk_4 (dk_at dksX6_leaf_0 18 rfl rfl)
theorem dX6_leaf_19 : decode cX6_leaf 19 = .ok (.iadd, 1) := dk_96 (dk_at dksX6_leaf_0 19 rfl rfl)
theorem dX6_leaf_20 : decode cX6_leaf 20 = .ok (.putfield 194, 3) := dk_181 0 194 (dk_at dksX6_leaf_0 20 rfl rfl)
theorem dX6_leaf_23 : decode cX6_leaf 23 = .ok (.aload_n 0, 1) := dk_42 (dk_at dksX6_leaf_0 23 rfl rfl)
theorem dX6_leaf_24 : decode cX6_leaf 24 = .ok (.invokevirtual 181, 3) := dk_182 0 181 (dk_at dksX6_leaf_1 0 rfl rfl)
theorem dX6_leaf_27 : decode cX6_leaf 27 = .ok (.ifCond .eq 13, 3) := dk_153 0 13 (dk_at dksX6_leaf_1 3 rfl rfl)
theorem dX6_leaf_30 : decode cX6_leaf 30 = .ok (.aload_n 0, 1) := dk_42 (dk_at dksX6_leaf_1 6 rfl rfl)
theorem dX6_leaf_31 : decode cX6_leaf 31 = .ok (.dup, 1) := dk_89 (dk_at dksX6_leaf_1 7 rfl rfl)
theorem dX6_leaf_32 : decode cX6_leaf 32 = .ok (.getfield 185, 3) := dk_180 0 185 (dk_at dksX6_leaf_1 8 rfl rfl)
theorem dX6_leaf_35 : decode cX6_leaf 35 = .ok (.iconst 1, 1) := dk_4 (dk_at dksX6_leaf_1 11 rfl rfl)
theorem dX6_leaf_36 : decode cX6_leaf 36 = .ok (.iadd, 1) := dk_96 (dk_at dksX6_leaf_1 12 rfl rfl)
theorem dX6_leaf_37 : decode cX6_leaf 37 = .ok (.putfield 185, 3) := dk_181 0 185 (dk_at dksX6_leaf_1 13 rfl rfl)
theorem dX6_leaf_40 : decode cX6_leaf 40 = .ok (.return_, 1) := dk_177 (dk_at dksX6_leaf_1 16 rfl rfl)
abbrev cX6_mustNumber : ByteArray := prog_24_method_43_code
def yX6_mustNumber : MethodName := ⟨RX6, "mustNumber", "(II)V"⟩
def dkwX6_mustNumber_2 : List UInt8 := [153, 0, 13, 42, 89, 180, 0, 185, 4, 96, 181, 0, 185, 177]
abbrev dktX6_mustNumber_2 : List UInt8 := dkwX6_mustNumber_2 ++ []
def dkwX6_mustNumber_1 : List UInt8 := [180, 0, 53, 42, 180, 0, 185, 46, 27, 28, 184, 0, 102, 154, 0, 7, 42, 182, 0, 191, 42, 182, 0, 181]
abbrev dktX6_mustNumber_1 : List UInt8 := dkwX6_mustNumber_1 ++ dktX6_mustNumber_2
def dkwX6_mustNumber_0 : List UInt8 := [42, 182, 0, 181, 153, 0, 38, 42, 180, 0, 50, 42, 180, 0, 185, 46, 16, 50, 160, 0, 20, 42]
abbrev dktX6_mustNumber_0 : List UInt8 := dkwX6_mustNumber_0 ++ dktX6_mustNumber_1
theorem dksX6_mustNumber_0 : cX6_mustNumber.data.toList.drop 0 = dktX6_mustNumber_0 := by decide +kernel
theorem dksX6_mustNumber_1 : cX6_mustNumber.data.toList.drop 22 = dktX6_mustNumber_1 := dk_seg dksX6_mustNumber_0 22 rfl rfl
theorem dksX6_mustNumber_2 : cX6_mustNumber.data.toList.drop 46 = dktX6_mustNumber_2 := dk_seg dksX6_mustNumber_1 24 rfl rfl
theorem dX6_mustNumber_0 : decode cX6_mustNumber 0 = .ok (.aload_n 0, 1) := dk_42 (dk_at dksX6_mustNumber_0 0 rfl rfl)
theorem dX6_mustNumber_1 : decode cX6_mustNumber 1 = .ok (.invokevirtual 181, 3) := dk_182 0 181 (dk_at dksX6_mustNumber_0 1 rfl rfl)
theorem dX6_mustNumber_4 : decode cX6_mustNumber 4 = .ok (.ifCond .eq 38, 3) := dk_153 0 38 (dk_at dksX6_mustNumber_0 4 rfl rfl)
theorem dX6_mustNumber_7 : decode cX6_mustNumber 7 = .ok (.aload_n 0, 1) := dk_42 (dk_at dksX6_mustNumber_0 7 rfl rfl)
theorem dX6_mustNumber_8 : decode cX6_mustNumber 8 = .ok (.getfield 50, 3) := dk_180 0 50 (dk_at dksX6_mustNumber_0 8 rfl rfl)
theorem dX6_mustNumber_11 : decode cX6_mustNumber 11 = .ok (.aload_n 0, 1) := dk_42 (dk_at dksX6_mustNumber_0 11 rfl rfl)
theorem dX6_mustNumber_12 : decode cX6_mustNumber 12 = .ok (.getfield 185, 3) := dk_180 0 185 (dk_at dksX6_mustNumber_0 12 rfl rfl)
theorem dX6_mustNumber_15 : decode cX6_mustNumber 15 = .ok (.iaload, 1) := dk_46 (dk_at dksX6_mustNumber_0 15 rfl rfl)
theorem dX6_mustNumber_16 : decode cX6_mustNumber 16 = .ok (.bipush 50, 2) := dk_16 50 (dk_at dksX6_mustNumber_0 16 rfl rfl)
theorem dX6_mustNumber_18 : decode cX6_mustNumber 18 = .ok (.if_icmp .ne 20, 3) := dk_160 0 20 (dk_at dksX6_mustNumber_0 18 rfl rfl)
theorem dX6_mustNumber_21 : decode cX6_mustNumber 21 = .ok (.aload_n 0, 1) := dk_42 (dk_at dksX6_mustNumber_0 21 rfl rfl)
theorem dX6_mustNumber_22 : decode cX6_mustNumber 22 = .ok (.getfield 53, 3) := dk_180 0 53 (dk_at dksX6_mustNumber_1 0 rfl rfl)
theorem dX6_mustNumber_25 : decode cX6_mustNumber 25 = .ok (.aload_n 0, 1) := dk_42 (dk_at dksX6_mustNumber_1 3 rfl rfl)
theorem dX6_mustNumber_26 : decode cX6_mustNumber 26 = .ok (.getfield 185, 3) := dk_180 0 185 (dk_at dksX6_mustNumber_1 4 rfl rfl)
theorem dX6_mustNumber_29 : decode cX6_mustNumber 29 = .ok (.iaload, 1) := dk_46 (dk_at dksX6_mustNumber_1 7 rfl rfl)
theorem dX6_mustNumber_30 : decode cX6_mustNumber 30 = .ok (.iload_n 1, 1) := dk_27 (dk_at dksX6_mustNumber_1 8 rfl rfl)
theorem dX6_mustNumber_31 : decode cX6_mustNumber 31 = .ok (.iload_n 2, 1) := dk_28 (dk_at dksX6_mustNumber_1 9 rfl rfl)
theorem dX6_mustNumber_32 : decode cX6_mustNumber 32 = .ok (.invokestatic 102, 3) := dk_184 0 102 (dk_at dksX6_mustNumber_1 10 rfl rfl)
theorem dX6_mustNumber_35 : decode cX6_mustNumber 35 = .ok (.ifCond .ne 7, 3) := dk_154 0 7 (dk_at dksX6_mustNumber_1 13 rfl rfl)
theorem dX6_mustNumber_38 : decode cX6_mustNumber 38 = .ok (.aload_n 0, 1) := dk_42 (dk_at dksX6_mustNumber_1 16 rfl rfl)
theorem dX6_mustNumber_39 : decode cX6_mustNumber 39 = .ok (.invokevirtual 191, 3) := dk_182 0 191 (dk_at dksX6_mustNumber_1 17 rfl rfl)
theorem dX6_mustNumber_42 : decode cX6_mustNumber 42 = .ok (.aload_n 0, 1) := dk_42 (dk_at dksX6_mustNumber_1 20 rfl rfl)
theorem dX6_mustNumber_43 : decode cX6_mustNumber 43 = .ok (.invokevirtual 181, 3) := dk_182 0 181 (dk_at dksX6_mustNumber_1 21 rfl rfl)
theorem dX6_mustNumber_46 : decode cX6_mustNumber 46 = .ok (.ifCond .eq 13, 3) := dk_153 0 13 (dk_at dksX6_mustNumber_2 0 rfl rfl)
theorem dX6_mustNumber_49 : decode cX6_mustNumber 49 = .ok (.aload_n 0, 1) := dk_42 (dk_at dksX6_mustNumber_2 3 rfl rfl)
theorem dX6_mustNumber_50 : decode cX6_mustNumber 50 = .ok (.dup, 1) := dk_89 (dk_at dksX6_mustNumber_2 4 rfl rfl)
theorem dX6_mustNumber_51 : decode cX6_mustNumber 51 = .ok (.getfield 185, 3) := dk_180 0 185 (dk_at dksX6_mustNumber_2 5 rfl rfl)
theorem dX6_mustNumber_54 : decode cX6_mustNumber 54 = .ok (.iconst 1, 1) := dk_4 (dk_at dksX6_mustNumber_2 8 rfl rfl)
theorem dX6_mustNumber_55 : decode cX6_mustNumber 55 = .ok (.iadd, 1) := dk_96 (dk_at dksX6_mustNumber_2 9 rfl rfl)
theorem dX6_mustNumber_56 : decode cX6_mustNumber 56 = .ok (.putfield 185, 3) := dk_181 0 185 (dk_at dksX6_mustNumber_2 10 rfl rfl)
theorem dX6_mustNumber_59 : decode cX6_mustNumber 59 = .ok (.return_, 1) := dk_177 (dk_at dksX6_mustNumber_2 13 rfl rfl)
abbrev cX6_readTest : ByteArray := prog_24_method_47_code
def yX6_readTest : MethodName := ⟨RX6, "readTest", "(I)V"⟩
def dkwX6_readTest_0 : List UInt8 := [42, 27, 182, 0, 221, 42, 8, 182, 0, 188, 153, 0, 11, 42, 27, 182, 0, 221, 167, 255, 243, 177]
abbrev dktX6_readTest_0 : List UInt8 := dkwX6_readTest_0 ++ []
theorem dksX6_readTest_0 : cX6_readTest.data.toList.drop 0 = dktX6_readTest_0 := by decide +kernel
theorem dX6_readTest_0 : decode cX6_readTest 0 = .ok (.aload_n 0, 1) := dk_42 (dk_at dksX6_readTest_0 0 rfl rfl)
theorem dX6_readTest_1 : decode cX6_readTest 1 = .ok (.iload_n 1, 1) := dk_27 (dk_at dksX6_readTest_0 1 rfl rfl)
theorem dX6_readTest_2 : decode cX6_readTest 2 = .ok (.invokevirtual 221, 3) := dk_182 0 221 (dk_at dksX6_readTest_0 2 rfl rfl)
theorem dX6_readTest_5 : decode cX6_readTest 5 = .ok (.aload_n 0, 1) := dk_42 (dk_at dksX6_readTest_0 5 rfl rfl)
theorem dX6_readTest_6 : decode cX6_readTest 6 = .ok (.iconst 5, 1) := dk_8 (dk_at dksX6_readTest_0 6 rfl rfl)
theorem dX6_readTest_7 : decode cX6_readTest 7 = .ok (.invokevirtual 188, 3) := dk_182 0 188 (dk_at dksX6_readTest_0 7 rfl rfl)
theorem dX6_readTest_10 : decode cX6_readTest 10 = .ok (.ifCond .eq 11, 3) := dk_153 0 11 (dk_at dksX6_readTest_0 10 rfl rfl)
theorem dX6_readTest_13 : decode cX6_readTest 13 = .ok (.aload_n 0, 1) := dk_42 (dk_at dksX6_readTest_0 13 rfl rfl)
theorem dX6_readTest_14 : decode cX6_readTest 14 = .ok (.iload_n 1, 1) := dk_27 (dk_at dksX6_readTest_0 14 rfl rfl)
theorem dX6_readTest_15 : decode cX6_readTest 15 = .ok (.invokevirtual 221, 3) := dk_182 0 221 (dk_at dksX6_readTest_0 15 rfl rfl)
theorem dX6_readTest_18 : decode cX6_readTest 18 = .ok (.goto (-13), 3) := dk_167 255 243 (dk_at dksX6_readTest_0 18 rfl rfl)
theorem dX6_readTest_21 : decode cX6_readTest 21 = .ok (.return_, 1) := dk_177 (dk_at dksX6_readTest_0 21 rfl rfl)
abbrev cX6_readBoth : ByteArray := prog_24_method_48_code
def yX6_readBoth : MethodName := ⟨RX6, "readBoth", "(I)V"⟩
def dkwX6_readBoth_0 : List UInt8 := [42, 27, 182, 0, 224, 42, 16, 6, 182, 0, 188, 153, 0, 11, 42, 27, 182, 0, 224, 167, 255, 242, 177]
abbrev dktX6_readBoth_0 : List UInt8 := dkwX6_readBoth_0 ++ []
theorem dksX6_readBoth_0 : cX6_readBoth.data.toList.drop 0 = dktX6_readBoth_0 := by decide +kernel
theorem dX6_readBoth_0 : decode cX6_readBoth 0 = .ok (.aload_n 0, 1) := dk_42 (dk_at dksX6_readBoth_0 0 rfl rfl)
theorem dX6_readBoth_1 : decode cX6_readBoth 1 = .ok (.iload_n 1, 1) := dk_27 (dk_at dksX6_readBoth_0 1 rfl rfl)
theorem dX6_readBoth_2 : decode cX6_readBoth 2 = .ok (.invokevirtual 224, 3) := dk_182 0 224 (dk_at dksX6_readBoth_0 2 rfl rfl)
theorem dX6_readBoth_5 : decode cX6_readBoth 5 = .ok (.aload_n 0, 1) := dk_42 (dk_at dksX6_readBoth_0 5 rfl rfl)
theorem dX6_readBoth_6 : decode cX6_readBoth 6 = .ok (.bipush 6, 2) := dk_16 6 (dk_at dksX6_readBoth_0 6 rfl rfl)
theorem dX6_readBoth_8 : decode cX6_readBoth 8 = .ok (.invokevirtual 188, 3) := dk_182 0 188 (dk_at dksX6_readBoth_0 8 rfl rfl)
theorem dX6_readBoth_11 : decode cX6_readBoth 11 = .ok (.ifCond .eq 11, 3) := dk_153 0 11 (dk_at dksX6_readBoth_0 11 rfl rfl)
theorem dX6_readBoth_14 : decode cX6_readBoth 14 = .ok (.aload_n 0, 1) := dk_42 (dk_at dksX6_readBoth_0 14 rfl rfl)
theorem dX6_readBoth_15 : decode cX6_readBoth 15 = .ok (.iload_n 1, 1) := dk_27 (dk_at dksX6_readBoth_0 15 rfl rfl)
theorem dX6_readBoth_16 : decode cX6_readBoth 16 = .ok (.invokevirtual 224, 3) := dk_182 0 224 (dk_at dksX6_readBoth_0 16 rfl rfl)
theorem dX6_readBoth_19 : decode cX6_readBoth 19 = .ok (.goto (-14), 3) := dk_167 255 242 (dk_at dksX6_readBoth_0 19 rfl rfl)
theorem dX6_readBoth_22 : decode cX6_readBoth 22 = .ok (.return_, 1) := dk_177 (dk_at dksX6_readBoth_0 22 rfl rfl)
abbrev cX6_readPlain : ByteArray := prog_24_method_49_code
def yX6_readPlain : MethodName := ⟨RX6, "readPlain", "(I)V"⟩
def dkwX6_readPlain_5 : List UInt8 := [154, 0, 12, 42, 16, 61, 184, 0, 227, 182, 0, 201, 42, 27, 182, 0, 197, 177]
abbrev dktX6_readPlain_5 : List UInt8 := dkwX6_readPlain_5 ++ []
def dkwX6_readPlain_4 : List UInt8 := [182, 0, 197, 42, 16, 60, 184, 0, 227, 182, 0, 188, 154, 0, 24, 42, 16, 62, 184, 0, 227, 182, 0, 188]
abbrev dktX6_readPlain_4 : List UInt8 := dkwX6_readPlain_4 ++ dktX6_readPlain_5
def dkwX6_readPlain_3 : List UInt8 := [181, 0, 185, 42, 27, 4, 96, 182, 0, 204, 42, 16, 41, 184, 0, 227, 182, 0, 201, 167, 0, 46, 42, 27]
abbrev dktX6_readPlain_3 : List UInt8 := dkwX6_readPlain_3 ++ dktX6_readPlain_4
def dkwX6_readPlain_2 : List UInt8 := [160, 0, 7, 42, 182, 0, 191, 42, 182, 0, 181, 154, 0, 4, 177, 42, 89, 180, 0, 185, 4, 96]
abbrev dktX6_readPlain_2 : List UInt8 := dkwX6_readPlain_2 ++ dktX6_readPlain_3
def dkwX6_readPlain_1 : List UInt8 := [42, 180, 0, 50, 42, 180, 0, 185, 46, 62, 29, 16, 40, 184, 0, 227, 160, 0, 50, 27, 16, 8]
abbrev dktX6_readPlain_1 : List UInt8 := dkwX6_readPlain_1 ++ dktX6_readPlain_2
def dkwX6_readPlain_0 : List UInt8 := [4, 61, 28, 153, 0, 13, 42, 16, 7, 182, 0, 188, 61, 167, 255, 245, 42, 182, 0, 181, 154, 0, 4, 177]
abbrev dktX6_readPlain_0 : List UInt8 := dkwX6_readPlain_0 ++ dktX6_readPlain_1
theorem dksX6_readPlain_0 : cX6_readPlain.data.toList.drop 0 = dktX6_readPlain_0 := by decide +kernel
theorem dksX6_readPlain_1 : cX6_readPlain.data.toList.drop 24 = dktX6_readPlain_1 := dk_seg dksX6_readPlain_0 24 rfl rfl
theorem dksX6_readPlain_2 : cX6_readPlain.data.toList.drop 46 = dktX6_readPlain_2 := dk_seg dksX6_readPlain_1 22 rfl rfl
theorem dksX6_readPlain_3 : cX6_readPlain.data.toList.drop 68 = dktX6_readPlain_3 := dk_seg dksX6_readPlain_2 22 rfl rfl
theorem dksX6_readPlain_4 : cX6_readPlain.data.toList.drop 92 = dktX6_readPlain_4 := dk_seg dksX6_readPlain_3 24 rfl rfl
theorem dksX6_readPlain_5 : cX6_readPlain.data.toList.drop 116 = dktX6_readPlain_5 := dk_seg dksX6_readPlain_4 24 rfl rfl
theorem dX6_readPlain_0 : decode cX6_readPlain 0 = .ok (.iconst 1, 1) := dk_4 (dk_at dksX6_readPlain_0 0 rfl rfl)
theorem dX6_readPlain_1 : decode cX6_readPlain 1 = .ok (.istore_n 2, 1) := dk_61 (dk_at dksX6_readPlain_0 1 rfl rfl)
theorem dX6_readPlain_2 : decode cX6_readPlain 2 = .ok (.iload_n 2, 1) := dk_28 (dk_at dksX6_readPlain_0 2 rfl rfl)
theorem dX6_readPlain_3 : decode cX6_readPlain 3 = .ok (.ifCond .eq 13, 3) := dk_153 0 13 (dk_at dksX6_readPlain_0 3 rfl rfl)
theorem dX6_readPlain_6 : decode cX6_readPlain 6 = .ok (.aload_n 0, 1) := dk_42 (dk_at dksX6_readPlain_0 6 rfl rfl)
theorem dX6_readPlain_7 : decode cX6_readPlain 7 = .ok (.bipush 7, 2) := dk_16 7 (dk_at dksX6_readPlain_0 7 rfl rfl)
theorem dX6_readPlain_9 : decode cX6_readPlain 9 = .ok (.invokevirtual 188, 3) := dk_182 0 188 (dk_at dksX6_readPlain_0 9 rfl rfl)
theorem dX6_readPlain_12 : decode cX6_readPlain 12 = .ok (.istore_n 2, 1) := dk_61 (dk_at dksX6_readPlain_0 12 rfl rfl)
theorem dX6_readPlain_13 : decode cX6_readPlain 13 = .ok (.goto (-11), 3) := dk_167 255 245 (dk_at dksX6_readPlain_0 13 rfl rfl)
theorem dX6_readPlain_16 : decode cX6_readPlain 16 = .ok (.aload_n 0, 1) := dk_42 (dk_at dksX6_readPlain_0 16 rfl rfl)
theorem dX6_readPlain_17 : decode cX6_readPlain 17 = .ok (.invokevirtual 181, 3) := dk_182 0 181 (dk_at dksX6_readPlain_0 17 rfl rfl)
theorem dX6_readPlain_20 : decode cX6_readPlain 20 = .ok (.ifCond .ne 4, 3) := dk_154 0 4 (dk_at dksX6_readPlain_0 20 rfl rfl)
theorem dX6_readPlain_23 : decode cX6_readPlain 23 = .ok (.return_, 1) := dk_177 (dk_at dksX6_readPlain_0 23 rfl rfl)
theorem dX6_readPlain_24 : decode cX6_readPlain 24 = .ok (.aload_n 0, 1) := dk_42 (dk_at dksX6_readPlain_1 0 rfl rfl)
theorem dX6_readPlain_25 : decode cX6_readPlain 25 = .ok (.getfield 50, 3) := dk_180 0 50 (dk_at dksX6_readPlain_1 1 rfl rfl)
theorem dX6_readPlain_28 : decode cX6_readPlain 28 = .ok (.aload_n 0, 1) := dk_42 (dk_at dksX6_readPlain_1 4 rfl rfl)
theorem dX6_readPlain_29 : decode cX6_readPlain 29 = .ok (.getfield 185, 3) := dk_180 0 185 (dk_at dksX6_readPlain_1 5 rfl rfl)
theorem dX6_readPlain_32 : decode cX6_readPlain 32 = .ok (.iaload, 1) := dk_46 (dk_at dksX6_readPlain_1 8 rfl rfl)
theorem dX6_readPlain_33 : decode cX6_readPlain 33 = .ok (.istore_n 3, 1) := dk_62 (dk_at dksX6_readPlain_1 9 rfl rfl)
theorem dX6_readPlain_34 : decode cX6_readPlain 34 = .ok (.iload_n 3, 1) := dk_29 (dk_at dksX6_readPlain_1 10 rfl rfl)
theorem dX6_readPlain_35 : decode cX6_readPlain 35 = .ok (.bipush 40, 2) := dk_16 40 (dk_at dksX6_readPlain_1 11 rfl rfl)
theorem dX6_readPlain_37 : decode cX6_readPlain 37 = .ok (.invokestatic 227, 3) := dk_184 0 227 (dk_at dksX6_readPlain_1 13 rfl rfl)
theorem dX6_readPlain_40 : decode cX6_readPlain 40 = .ok (.if_icmp .ne 50, 3) := dk_160 0 50 (dk_at dksX6_readPlain_1 16 rfl rfl)
theorem dX6_readPlain_43 : decode cX6_readPlain 43 = .ok (.iload_n 1, 1) := dk_27 (dk_at dksX6_readPlain_1 19 rfl rfl)
theorem dX6_readPlain_44 : decode cX6_readPlain 44 = .ok (.bipush 8, 2) := dk_16 8 (dk_at dksX6_readPlain_1 20 rfl rfl)
theorem dX6_readPlain_46 : decode cX6_readPlain 46 = .ok (.if_icmp .ne 7, 3) := dk_160 0 7 (dk_at dksX6_readPlain_2 0 rfl rfl)
theorem dX6_readPlain_49 : decode cX6_readPlain 49 = .ok (.aload_n 0, 1) := dk_42 (dk_at dksX6_readPlain_2 3 rfl rfl)
theorem dX6_readPlain_50 : decode cX6_readPlain 50 = .ok (.invokevirtual 191, 3) := dk_182 0 191 (dk_at dksX6_readPlain_2 4 rfl rfl)
theorem dX6_readPlain_53 : decode cX6_readPlain 53 = .ok (.aload_n 0, 1) := dk_42 (dk_at dksX6_readPlain_2 7 rfl rfl)
theorem dX6_readPlain_54 : decode cX6_readPlain 54 = .ok (.invokevirtual 181, 3) := dk_182 0 181 (dk_at dksX6_readPlain_2 8 rfl rfl)
theorem dX6_readPlain_57 : decode cX6_readPlain 57 = .ok (.ifCond .ne 4, 3) := dk_154 0 4 (dk_at dksX6_readPlain_2 11 rfl rfl)
theorem dX6_readPlain_60 : decode cX6_readPlain 60 = .ok (.return_, 1) := dk_177 (dk_at dksX6_readPlain_2 14 rfl rfl)
theorem dX6_readPlain_61 : decode cX6_readPlain 61 = .ok (.aload_n 0, 1) := dk_42 (dk_at dksX6_readPlain_2 15 rfl rfl)
theorem dX6_readPlain_62 : decode cX6_readPlain 62 = .ok (.dup, 1) := dk_89 (dk_at dksX6_readPlain_2 16 rfl rfl)
theorem dX6_readPlain_63 : decode cX6_readPlain 63 = .ok (.getfield 185, 3) := dk_180 0 185 (dk_at dksX6_readPlain_2 17 rfl rfl)
theorem dX6_readPlain_66 : decode cX6_readPlain 66 = .ok (.iconst 1, 1) := dk_4 (dk_at dksX6_readPlain_2 20 rfl rfl)
theorem dX6_readPlain_67 : decode cX6_readPlain 67 = .ok (.iadd, 1) := dk_96 (dk_at dksX6_readPlain_2 21 rfl rfl)
theorem dX6_readPlain_68 : decode cX6_readPlain 68 = .ok (.putfield 185, 3) := dk_181 0 185 (dk_at dksX6_readPlain_3 0 rfl rfl)
theorem dX6_readPlain_71 : decode cX6_readPlain 71 = .ok (.aload_n 0, 1) := dk_42 (dk_at dksX6_readPlain_3 3 rfl rfl)
theorem dX6_readPlain_72 : decode cX6_readPlain 72 = .ok (.iload_n 1, 1) := dk_27 (dk_at dksX6_readPlain_3 4 rfl rfl)
theorem dX6_readPlain_73 : decode cX6_readPlain 73 = .ok (.iconst 1, 1) := dk_4 (dk_at dksX6_readPlain_3 5 rfl rfl)
theorem dX6_readPlain_74 : decode cX6_readPlain 74 = .ok (.iadd, 1) := dk_96 (dk_at dksX6_readPlain_3 6 rfl rfl)
theorem dX6_readPlain_75 : decode cX6_readPlain 75 = .ok (.invokevirtual 204, 3) := dk_182 0 204 (dk_at dksX6_readPlain_3 7 rfl rfl)
theorem dX6_readPlain_78 : decode cX6_readPlain 78 = .ok (.aload_n 0, 1) := dk_42 (dk_at dksX6_readPlain_3 10 rfl rfl)
theorem dX6_readPlain_79 : decode cX6_readPlain 79 = .ok (.bipush 41, 2) := dk_16 41 (dk_at dksX6_readPlain_3 11 rfl rfl)
theorem dX6_readPlain_81 : decode cX6_readPlain 81 = .ok (.invokestatic 227, 3) := dk_184 0 227 (dk_at dksX6_readPlain_3 13 rfl rfl)
theorem dX6_readPlain_84 : decode cX6_readPlain 84 = .ok (.invokevirtual 201, 3) := dk_182 0 201 (dk_at dksX6_readPlain_3 16 rfl rfl)
theorem dX6_readPlain_87 : decode cX6_readPlain 87 = .ok (.goto 46, 3) := dk_167 0 46 (dk_at dksX6_readPlain_3 19 rfl rfl)
theorem dX6_readPlain_90 : decode cX6_readPlain 90 = .ok (.aload_n 0, 1) := dk_42 (dk_at dksX6_readPlain_3 22 rfl rfl)
theorem dX6_readPlain_91 : decode cX6_readPlain 91 = .ok (.iload_n 1, 1) := dk_27 (dk_at dksX6_readPlain_3 23 rfl rfl)
theorem dX6_readPlain_92 : decode cX6_readPlain 92 = .ok (.invokevirtual 197, 3) := dk_182 0 197 (dk_at dksX6_readPlain_4 0 rfl rfl)
theorem dX6_readPlain_95 : decode cX6_readPlain 95 = .ok (.aload_n 0, 1) := dk_42 (dk_at dksX6_readPlain_4 3 rfl rfl)
theorem dX6_readPlain_96 : decode cX6_readPlain 96 = .ok (.bipush 60, 2) := dk_16 60 (dk_at dksX6_readPlain_4 4 rfl rfl)
theorem dX6_readPlain_98 : decode cX6_readPlain 98 = .ok (.invokestatic 227, 3) := dk_184 0 227 (dk_at dksX6_readPlain_4 6 rfl rfl)
theorem dX6_readPlain_101 : decode cX6_readPlain 101 = .ok (.invokevirtual 188, 3) := dk_182 0 188 (dk_at dksX6_readPlain_4 9 rfl rfl)
theorem dX6_readPlain_104 : decode cX6_readPlain 104 = .ok (.ifCond .ne 24, 3) := dk_154 0 24 (dk_at dksX6_readPlain_4 12 rfl rfl)
theorem dX6_readPlain_107 : decode cX6_readPlain 107 = .ok (.aload_n 0, 1) := dk_42 (dk_at dksX6_readPlain_4 15 rfl rfl)
theorem dX6_readPlain_108 : decode cX6_readPlain 108 = .ok (.bipush 62, 2) := dk_16 62 (dk_at dksX6_readPlain_4 16 rfl rfl)
theorem dX6_readPlain_110 : decode cX6_readPlain 110 = .ok (.invokestatic 227, 3) := dk_184 0 227 (dk_at dksX6_readPlain_4 18 rfl rfl)
theorem dX6_readPlain_113 : decode cX6_readPlain 113 = .ok (.invokevirtual 188, 3) := dk_182 0 188 (dk_at dksX6_readPlain_4 21 rfl rfl)
theorem dX6_readPlain_116 : decode cX6_readPlain 116 = .ok (.ifCond .ne 12, 3) := dk_154 0 12 (dk_at dksX6_readPlain_5 0 rfl rfl)
theorem dX6_readPlain_119 : decode cX6_readPlain 119 = .ok (.aload_n 0, 1) := dk_42 (dk_at dksX6_readPlain_5 3 rfl rfl)
theorem dX6_readPlain_120 : decode cX6_readPlain 120 = .ok (.bipush 61, 2) := dk_16 61 (dk_at dksX6_readPlain_5 4 rfl rfl)
theorem dX6_readPlain_122 : decode cX6_readPlain 122 = .ok (.invokestatic 227, 3) := dk_184 0 227 (dk_at dksX6_readPlain_5 6 rfl rfl)
theorem dX6_readPlain_125 : decode cX6_readPlain 125 = .ok (.invokevirtual 201, 3) := dk_182 0 201 (dk_at dksX6_readPlain_5 9 rfl rfl)
theorem dX6_readPlain_128 : decode cX6_readPlain 128 = .ok (.aload_n 0, 1) := dk_42 (dk_at dksX6_readPlain_5 12 rfl rfl)
theorem dX6_readPlain_129 : decode cX6_readPlain 129 = .ok (.iload_n 1, 1) := dk_27 (dk_at dksX6_readPlain_5 13 rfl rfl)
theorem dX6_readPlain_130 : decode cX6_readPlain 130 = .ok (.invokevirtual 197, 3) := dk_182 0 197 (dk_at dksX6_readPlain_5 14 rfl rfl)
theorem dX6_readPlain_133 : decode cX6_readPlain 133 = .ok (.return_, 1) := dk_177 (dk_at dksX6_readPlain_5 17 rfl rfl)
abbrev cX6_readClause : ByteArray := prog_24_method_44_code
def yX6_readClause : MethodName := ⟨RX6, "readClause", "()V"⟩
def dkwX6_readClause_1 : List UInt8 := [42, 6, 182, 0, 201, 42, 7, 182, 0, 188, 153, 0, 8, 42, 3, 182, 0, 204, 177]
abbrev dktX6_readClause_1 : List UInt8 := dkwX6_readClause_1 ++ []
def dkwX6_readClause_0 : List UInt8 := [42, 4, 182, 0, 188, 154, 0, 11, 42, 5, 182, 0, 188, 153, 0, 11, 42, 3, 182, 0, 197, 167, 0, 8]
abbrev dktX6_readClause_0 : List UInt8 := dkwX6_readClause_0 ++ dktX6_readClause_1
theorem dksX6_readClause_0 : cX6_readClause.data.toList.drop 0 = dktX6_readClause_0 := by decide +kernel
theorem dksX6_readClause_1 : cX6_readClause.data.toList.drop 24 = dktX6_readClause_1 := dk_seg dksX6_readClause_0 24 rfl rfl
theorem dX6_readClause_0 : decode cX6_readClause 0 = .ok (.aload_n 0, 1) := dk_42 (dk_at dksX6_readClause_0 0 rfl rfl)
theorem dX6_readClause_1 : decode cX6_readClause 1 = .ok (.iconst 1, 1) := dk_4 (dk_at dksX6_readClause_0 1 rfl rfl)
theorem dX6_readClause_2 : decode cX6_readClause 2 = .ok (.invokevirtual 188, 3) := dk_182 0 188 (dk_at dksX6_readClause_0 2 rfl rfl)
theorem dX6_readClause_5 : decode cX6_readClause 5 = .ok (.ifCond .ne 11, 3) := dk_154 0 11 (dk_at dksX6_readClause_0 5 rfl rfl)
theorem dX6_readClause_8 : decode cX6_readClause 8 = .ok (.aload_n 0, 1) := dk_42 (dk_at dksX6_readClause_0 8 rfl rfl)
theorem dX6_readClause_9 : decode cX6_readClause 9 = .ok (.iconst 2, 1) := dk_5 (dk_at dksX6_readClause_0 9 rfl rfl)
theorem dX6_readClause_10 : decode cX6_readClause 10 = .ok (.invokevirtual 188, 3) := dk_182 0 188 (dk_at dksX6_readClause_0 10 rfl rfl)
theorem dX6_readClause_13 : decode cX6_readClause 13 = .ok (.ifCond .eq 11, 3) := dk_153 0 11 (dk_at dksX6_readClause_0 13 rfl rfl)
theorem dX6_readClause_16 : decode cX6_readClause 16 = .ok (.aload_n 0, 1) := dk_42 (dk_at dksX6_readClause_0 16 rfl rfl)
theorem dX6_readClause_17 : decode cX6_readClause 17 = .ok (.iconst 0, 1) := dk_3 (dk_at dksX6_readClause_0 17 rfl rfl)
theorem dX6_readClause_18 : decode cX6_readClause 18 = .ok (.invokevirtual 197, 3) := dk_182 0 197 (dk_at dksX6_readClause_0 18 rfl rfl)
theorem dX6_readClause_21 : decode cX6_readClause 21 = .ok (.goto 8, 3) := dk_167 0 8 (dk_at dksX6_readClause_0 21 rfl rfl)
theorem dX6_readClause_24 : decode cX6_readClause 24 = .ok (.aload_n 0, 1) := dk_42 (dk_at dksX6_readClause_1 0 rfl rfl)
theorem dX6_readClause_25 : decode cX6_readClause 25 = .ok (.iconst 3, 1) := dk_6 (dk_at dksX6_readClause_1 1 rfl rfl)
theorem dX6_readClause_26 : decode cX6_readClause 26 = .ok (.invokevirtual 201, 3) := dk_182 0 201 (dk_at dksX6_readClause_1 2 rfl rfl)
theorem dX6_readClause_29 : decode cX6_readClause 29 = .ok (.aload_n 0, 1) := dk_42 (dk_at dksX6_readClause_1 5 rfl rfl)
theorem dX6_readClause_30 : decode cX6_readClause 30 = .ok (.iconst 4, 1) := dk_7 (dk_at dksX6_readClause_1 6 rfl rfl)
theorem dX6_readClause_31 : decode cX6_readClause 31 = .ok (.invokevirtual 188, 3) := dk_182 0 188 (dk_at dksX6_readClause_1 7 rfl rfl)
theorem dX6_readClause_34 : decode cX6_readClause 34 = .ok (.ifCond .eq 8, 3) := dk_153 0 8 (dk_at dksX6_readClause_1 10 rfl rfl)
theorem dX6_readClause_37 : decode cX6_readClause 37 = .ok (.aload_n 0, 1) := dk_42 (dk_at dksX6_readClause_1 13 rfl rfl)
theorem dX6_readClause_38 : decode cX6_readClause 38 = .ok (.iconst 0, 1) := dk_3 (dk_at dksX6_readClause_1 14 rfl rfl)
theorem dX6_readClause_39 : decode cX6_readClause 39 = .ok (.invokevirtual 204, 3) := dk_182 0 204 (dk_at dksX6_readClause_1 15 rfl rfl)
theorem dX6_readClause_42 : decode cX6_readClause 42 = .ok (.return_, 1) := dk_177 (dk_at dksX6_readClause_1 18 rfl rfl)
abbrev cX6_lays : ByteArray := prog_24_method_55_code
def yX6_lays : MethodName := ⟨RX6, "lays", "(I)V"⟩
def dkwX6_lays_3 : List UInt8 := [177]
abbrev dktX6_lays_3 : List UInt8 := dkwX6_lays_3 ++ []
def dkwX6_lays_2 : List UInt8 := [17, 11, 44, 17, 1, 144, 27, 104, 96, 28, 96, 42, 180, 0, 53, 28, 46, 79, 132, 2, 1, 167, 255, 202]
abbrev dktX6_lays_2 : List UInt8 := dkwX6_lays_2 ++ dktX6_lays_3
def dkwX6_lays_1 : List UInt8 := [180, 0, 24, 16, 60, 17, 1, 144, 27, 104, 96, 28, 96, 42, 180, 0, 50, 28, 46, 79, 42, 180, 0, 24]
abbrev dktX6_lays_1 : List UInt8 := dkwX6_lays_1 ++ dktX6_lays_2
def dkwX6_lays_0 : List UInt8 := [42, 180, 0, 24, 16, 53, 27, 96, 42, 180, 0, 165, 79, 3, 61, 28, 42, 180, 0, 165, 162, 0, 52, 42]
abbrev dktX6_lays_0 : List UInt8 := dkwX6_lays_0 ++ dktX6_lays_1
theorem dksX6_lays_0 : cX6_lays.data.toList.drop 0 = dktX6_lays_0 := by decide +kernel
theorem dksX6_lays_1 : cX6_lays.data.toList.drop 24 = dktX6_lays_1 := dk_seg dksX6_lays_0 24 rfl rfl
theorem dksX6_lays_2 : cX6_lays.data.toList.drop 48 = dktX6_lays_2 := dk_seg dksX6_lays_1 24 rfl rfl
theorem dksX6_lays_3 : cX6_lays.data.toList.drop 72 = dktX6_lays_3 := dk_seg dksX6_lays_2 24 rfl rfl
theorem dX6_lays_0 : decode cX6_lays 0 = .ok (.aload_n 0, 1) := dk_42 (dk_at dksX6_lays_0 0 rfl rfl)
theorem dX6_lays_1 : decode cX6_lays 1 = .ok (.getfield 24, 3) := dk_180 0 24 (dk_at dksX6_lays_0 1 rfl rfl)
theorem dX6_lays_4 : decode cX6_lays 4 = .ok (.bipush 53, 2) := dk_16 53 (dk_at dksX6_lays_0 4 rfl rfl)
theorem dX6_lays_6 : decode cX6_lays 6 = .ok (.iload_n 1, 1) := dk_27 (dk_at dksX6_lays_0 6 rfl rfl)
theorem dX6_lays_7 : decode cX6_lays 7 = .ok (.iadd, 1) := dk_96 (dk_at dksX6_lays_0 7 rfl rfl)
theorem dX6_lays_8 : decode cX6_lays 8 = .ok (.aload_n 0, 1) := dk_42 (dk_at dksX6_lays_0 8 rfl rfl)
theorem dX6_lays_9 : decode cX6_lays 9 = .ok (.getfield 165, 3) := dk_180 0 165 (dk_at dksX6_lays_0 9 rfl rfl)
theorem dX6_lays_12 : decode cX6_lays 12 = .ok (.iastore, 1) := dk_79 (dk_at dksX6_lays_0 12 rfl rfl)
theorem dX6_lays_13 : decode cX6_lays 13 = .ok (.iconst 0, 1) := dk_3 (dk_at dksX6_lays_0 13 rfl rfl)
theorem dX6_lays_14 : decode cX6_lays 14 = .ok (.istore_n 2, 1) := dk_61 (dk_at dksX6_lays_0 14 rfl rfl)
theorem dX6_lays_15 : decode cX6_lays 15 = .ok (.iload_n 2, 1) := dk_28 (dk_at dksX6_lays_0 15 rfl rfl)
theorem dX6_lays_16 : decode cX6_lays 16 = .ok (.aload_n 0, 1) := dk_42 (dk_at dksX6_lays_0 16 rfl rfl)
theorem dX6_lays_17 : decode cX6_lays 17 = .ok (.getfield 165, 3) := dk_180 0 165 (dk_at dksX6_lays_0 17 rfl rfl)
theorem dX6_lays_20 : decode cX6_lays 20 = .ok (.if_icmp .ge 52, 3) := dk_162 0 52 (dk_at dksX6_lays_0 20 rfl rfl)
theorem dX6_lays_23 : decode cX6_lays 23 = .ok (.aload_n 0, 1) := dk_42 (dk_at dksX6_lays_0 23 rfl rfl)
theorem dX6_lays_24 : decode cX6_lays 24 = .ok (.getfield 24, 3) := dk_180 0 24 (dk_at dksX6_lays_1 0 rfl rfl)
theorem dX6_lays_27 : decode cX6_lays 27 = .ok (.bipush 60, 2) := dk_16 60 (dk_at dksX6_lays_1 3 rfl rfl)
theorem dX6_lays_29 : decode cX6_lays 29 = .ok (.sipush 400, 3) := dk_17 1 144 (dk_at dksX6_lays_1 5 rfl rfl)
theorem dX6_lays_32 : decode cX6_lays 32 = .ok (.iload_n 1, 1) := dk_27 (dk_at dksX6_lays_1 8 rfl rfl)
theorem dX6_lays_33 : decode cX6_lays 33 = .ok (.imul, 1) := dk_104 (dk_at dksX6_lays_1 9 rfl rfl)
theorem dX6_lays_34 : decode cX6_lays 34 = .ok (.iadd, 1) := dk_96 (dk_at dksX6_lays_1 10 rfl rfl)
theorem dX6_lays_35 : decode cX6_lays 35 = .ok (.iload_n 2, 1) := dk_28 (dk_at dksX6_lays_1 11 rfl rfl)
theorem dX6_lays_36 : decode cX6_lays 36 = .ok (.iadd, 1) := dk_96 (dk_at dksX6_lays_1 12 rfl rfl)
theorem dX6_lays_37 : decode cX6_lays 37 = .ok (.aload_n 0, 1) := dk_42 (dk_at dksX6_lays_1 13 rfl rfl)
theorem dX6_lays_38 : decode cX6_lays 38 = .ok (.getfield 50, 3) := dk_180 0 50 (dk_at dksX6_lays_1 14 rfl rfl)
theorem dX6_lays_41 : decode cX6_lays 41 = .ok (.iload_n 2, 1) := dk_28 (dk_at dksX6_lays_1 17 rfl rfl)
theorem dX6_lays_42 : decode cX6_lays 42 = .ok (.iaload, 1) := dk_46 (dk_at dksX6_lays_1 18 rfl rfl)
theorem dX6_lays_43 : decode cX6_lays 43 = .ok (.iastore, 1) := dk_79 (dk_at dksX6_lays_1 19 rfl rfl)
theorem dX6_lays_44 : decode cX6_lays 44 = .ok (.aload_n 0, 1) := dk_42 (dk_at dksX6_lays_1 20 rfl rfl)
theorem dX6_lays_45 : decode cX6_lays 45 = .ok (.getfield 24, 3) := dk_180 0 24 (dk_at dksX6_lays_1 21 rfl rfl)
theorem dX6_lays_48 : decode cX6_lays 48 = .ok (.sipush 2860, 3) := dk_17 11 44 (dk_at dksX6_lays_2 0 rfl rfl)
theorem dX6_lays_51 : decode cX6_lays 51 = .ok (.sipush 400, 3) := dk_17 1 144 (dk_at dksX6_lays_2 3 rfl rfl)
theorem dX6_lays_54 : decode cX6_lays 54 = .ok (.iload_n 1, 1) := dk_27 (dk_at dksX6_lays_2 6 rfl rfl)
theorem dX6_lays_55 : decode cX6_lays 55 = .ok (.imul, 1) := dk_104 (dk_at dksX6_lays_2 7 rfl rfl)
theorem dX6_lays_56 : decode cX6_lays 56 = .ok (.iadd, 1) := dk_96 (dk_at dksX6_lays_2 8 rfl rfl)
theorem dX6_lays_57 : decode cX6_lays 57 = .ok (.iload_n 2, 1) := dk_28 (dk_at dksX6_lays_2 9 rfl rfl)
theorem dX6_lays_58 : decode cX6_lays 58 = .ok (.iadd, 1) := dk_96 (dk_at dksX6_lays_2 10 rfl rfl)
theorem dX6_lays_59 : decode cX6_lays 59 = .ok (.aload_n 0, 1) := dk_42 (dk_at dksX6_lays_2 11 rfl rfl)
theorem dX6_lays_60 : decode cX6_lays 60 = .ok (.getfield 53, 3) := dk_180 0 53 (dk_at dksX6_lays_2 12 rfl rfl)
theorem dX6_lays_63 : decode cX6_lays 63 = .ok (.iload_n 2, 1) := dk_28 (dk_at dksX6_lays_2 15 rfl rfl)
theorem dX6_lays_64 : decode cX6_lays 64 = .ok (.iaload, 1) := dk_46 (dk_at dksX6_lays_2 16 rfl rfl)
theorem dX6_lays_65 : decode cX6_lays 65 = .ok (.iastore, 1) := dk_79 (dk_at dksX6_lays_2 17 rfl rfl)
theorem dX6_lays_66 : decode cX6_lays 66 = .ok (.iinc 2 1, 3) := dk_132 2 1 (dk_at dksX6_lays_2 18 rfl rfl)
theorem dX6_lays_69 : decode cX6_lays 69 = .ok (.goto (-54), 3) := dk_167 255 202 (dk_at dksX6_lays_2 21 rfl rfl)
theorem dX6_lays_72 : decode cX6_lays 72 = .ok (.return_, 1) := dk_177 (dk_at dksX6_lays_3 0 rfl rfl)
abbrev cX6_fault : ByteArray := prog_24_method_57_code
def yX6_fault : MethodName := ⟨RX6, "fault", "()I"⟩
theorem dX6_fault_0 : decode cX6_fault 0 = .ok (.aload_n 0, 1) := by decide +kernel
theorem dX6_fault_1 : decode cX6_fault 1 = .ok (.getfield 47, 3) := by decide +kernel
theorem dX6_fault_4 : decode cX6_fault 4 = .ok (.ireturn, 1) := by decide +kernel
abbrev cX6_force : ByteArray := prog_24_method_59_code
def yX6_force : MethodName := ⟨RX6, "force", "(I)I"⟩
def dkwX6_force_1 : List UInt8 := [180, 0, 24, 16, 52, 27, 79, 42, 28, 182, 0, 14, 172]
abbrev dktX6_force_1 : List UInt8 := dkwX6_force_1 ++ []
def dkwX6_force_0 : List UInt8 := [42, 27, 182, 1, 6, 154, 0, 10, 42, 16, 254, 182, 0, 106, 172, 42, 180, 0, 24, 16, 52, 46, 61, 42]
abbrev dktX6_force_0 : List UInt8 := dkwX6_force_0 ++ dktX6_force_1
theorem dksX6_force_0 : cX6_force.data.toList.drop 0 = dktX6_force_0 := by decide +kernel
theorem dksX6_force_1 : cX6_force.data.toList.drop 24 = dktX6_force_1 := dk_seg dksX6_force_0 24 rfl rfl
theorem dX6_force_0 : decode cX6_force 0 = .ok (.aload_n 0, 1) := dk_42 (dk_at dksX6_force_0 0 rfl rfl)
theorem dX6_force_1 : decode cX6_force 1 = .ok (.iload_n 1, 1) := dk_27 (dk_at dksX6_force_0 1 rfl rfl)
theorem dX6_force_2 : decode cX6_force 2 = .ok (.invokevirtual 262, 3) := dk_182 1 6 (dk_at dksX6_force_0 2 rfl rfl)
theorem dX6_force_5 : decode cX6_force 5 = .ok (.ifCond .ne 10, 3) := dk_154 0 10 (dk_at dksX6_force_0 5 rfl rfl)
theorem dX6_force_8 : decode cX6_force 8 = .ok (.aload_n 0, 1) := dk_42 (dk_at dksX6_force_0 8 rfl rfl)
theorem dX6_force_9 : decode cX6_force 9 = .ok (.bipush (-2), 2) := dk_16 254 (dk_at dksX6_force_0 9 rfl rfl)
theorem dX6_force_11 : decode cX6_force 11 = .ok (.invokevirtual 106, 3) := dk_182 0 106 (dk_at dksX6_force_0 11 rfl rfl)
theorem dX6_force_14 : decode cX6_force 14 = .ok (.ireturn, 1) := dk_172 (dk_at dksX6_force_0 14 rfl rfl)
theorem dX6_force_15 : decode cX6_force 15 = .ok (.aload_n 0, 1) := dk_42 (dk_at dksX6_force_0 15 rfl rfl)
theorem dX6_force_16 : decode cX6_force 16 = .ok (.getfield 24, 3) := dk_180 0 24 (dk_at dksX6_force_0 16 rfl rfl)
theorem dX6_force_19 : decode cX6_force 19 = .ok (.bipush 52, 2) := dk_16 52 (dk_at dksX6_force_0 19 rfl rfl)
theorem dX6_force_21 : decode cX6_force 21 = .ok (.iaload, 1) := dk_46 (dk_at dksX6_force_0 21 rfl rfl)
theorem dX6_force_22 : decode cX6_force 22 = .ok (.istore_n 2, 1) := dk_61 (dk_at dksX6_force_0 22 rfl rfl)
theorem dX6_force_23 : decode cX6_force 23 = .ok (.aload_n 0, 1) := dk_42 (dk_at dksX6_force_0 23 rfl rfl)
theorem dX6_force_24 : decode cX6_force 24 = .ok (.getfield 24, 3) := dk_180 0 24 (dk_at dksX6_force_1 0 rfl rfl)
theorem dX6_force_27 : decode cX6_force 27 = .ok (.bipush 52, 2) := dk_16 52 (dk_at dksX6_force_1 3 rfl rfl)
theorem dX6_force_29 : decode cX6_force 29 = .ok (.iload_n 1, 1) := dk_27 (dk_at dksX6_force_1 5 rfl rfl)
theorem dX6_force_30 : decode cX6_force 30 = .ok (.iastore, 1) := dk_79 (dk_at dksX6_force_1 6 rfl rfl)
theorem dX6_force_31 : decode cX6_force 31 = .ok (.aload_n 0, 1) := dk_42 (dk_at dksX6_force_1 7 rfl rfl)
theorem dX6_force_32 : decode cX6_force 32 = .ok (.iload_n 2, 1) := dk_28 (dk_at dksX6_force_1 8 rfl rfl)
theorem dX6_force_33 : decode cX6_force 33 = .ok (.invokevirtual 14, 3) := dk_182 0 14 (dk_at dksX6_force_1 9 rfl rfl)
theorem dX6_force_36 : decode cX6_force 36 = .ok (.ireturn, 1) := dk_172 (dk_at dksX6_force_1 12 rfl rfl)
abbrev cX6_isLaw : ByteArray := prog_24_method_58_code
def yX6_isLaw : MethodName := ⟨RX6, "isLaw", "(I)Z"⟩
def dkwX6_isLaw_0 : List UInt8 := [27, 2, 42, 180, 0, 24, 16, 51, 46, 4, 100, 184, 0, 102, 172]
abbrev dktX6_isLaw_0 : List UInt8 := dkwX6_isLaw_0 ++ []
theorem dksX6_isLaw_0 : cX6_isLaw.data.toList.drop 0 = dktX6_isLaw_0 := by decide +kernel
theorem dX6_isLaw_0 : decode cX6_isLaw 0 = .ok (.iload_n 1, 1) := dk_27 (dk_at dksX6_isLaw_0 0 rfl rfl)
theorem dX6_isLaw_1 : decode cX6_isLaw 1 = .ok (.iconst (-1), 1) := dk_2 (dk_at dksX6_isLaw_0 1 rfl rfl)
theorem dX6_isLaw_2 : decode cX6_isLaw 2 = .ok (.aload_n 0, 1) := dk_42 (dk_at dksX6_isLaw_0 2 rfl rfl)
theorem dX6_isLaw_3 : decode cX6_isLaw 3 = .ok (.getfield 24, 3) := dk_180 0 24 (dk_at dksX6_isLaw_0 3 rfl rfl)
theorem dX6_isLaw_6 : decode cX6_isLaw 6 = .ok (.bipush 51, 2) := dk_16 51 (dk_at dksX6_isLaw_0 6 rfl rfl)
theorem dX6_isLaw_8 : decode cX6_isLaw 8 = .ok (.iaload, 1) := dk_46 (dk_at dksX6_isLaw_0 8 rfl rfl)
theorem dX6_isLaw_9 : decode cX6_isLaw 9 = .ok (.iconst 1, 1) := dk_4 (dk_at dksX6_isLaw_0 9 rfl rfl)
theorem dX6_isLaw_10 : decode cX6_isLaw 10 = .ok (.isub, 1) := dk_100 (dk_at dksX6_isLaw_0 10 rfl rfl)
theorem dX6_isLaw_11 : decode cX6_isLaw 11 = .ok (.invokestatic 102, 3) := dk_184 0 102 (dk_at dksX6_isLaw_0 11 rfl rfl)
theorem dX6_isLaw_14 : decode cX6_isLaw 14 = .ok (.ireturn, 1) := dk_172 (dk_at dksX6_isLaw_0 14 rfl rfl)
abbrev cX6_undo : ByteArray := prog_24_method_85_code
def yX6_undo : MethodName := ⟨RX6, "undo", "()I"⟩
def dkwX6_undo_3 : List UInt8 := [182, 0, 14, 172]
abbrev dktX6_undo_3 : List UInt8 := dkwX6_undo_3 ++ []
def dkwX6_undo_2 : List UInt8 := [180, 0, 65, 27, 28, 96, 46, 79, 132, 2, 1, 167, 255, 233, 42, 42, 180, 0, 65, 27, 16, 6, 96, 46]
abbrev dktX6_undo_2 : List UInt8 := dkwX6_undo_2 ++ dktX6_undo_3
def dkwX6_undo_1 : List UInt8 := [16, 7, 42, 180, 0, 11, 104, 60, 3, 61, 28, 16, 6, 162, 0, 23, 42, 180, 0, 24, 28, 42]
abbrev dktX6_undo_1 : List UInt8 := dkwX6_undo_1 ++ dktX6_undo_2
def dkwX6_undo_0 : List UInt8 := [42, 180, 0, 11, 154, 0, 10, 42, 16, 253, 182, 0, 106, 172, 42, 89, 180, 0, 11, 4, 100, 181, 0, 11]
abbrev dktX6_undo_0 : List UInt8 := dkwX6_undo_0 ++ dktX6_undo_1
theorem dksX6_undo_0 : cX6_undo.data.toList.drop 0 = dktX6_undo_0 := by decide +kernel
theorem dksX6_undo_1 : cX6_undo.data.toList.drop 24 = dktX6_undo_1 := dk_seg dksX6_undo_0 24 rfl rfl
theorem dksX6_undo_2 : cX6_undo.data.toList.drop 46 = dktX6_undo_2 := dk_seg dksX6_undo_1 22 rfl rfl
theorem dksX6_undo_3 : cX6_undo.data.toList.drop 70 = dktX6_undo_3 := dk_seg dksX6_undo_2 24 rfl rfl
theorem dX6_undo_0 : decode cX6_undo 0 = .ok (.aload_n 0, 1) := dk_42 (dk_at dksX6_undo_0 0 rfl rfl)
theorem dX6_undo_1 : decode cX6_undo 1 = .ok (.getfield 11, 3) := dk_180 0 11 (dk_at dksX6_undo_0 1 rfl rfl)
theorem dX6_undo_4 : decode cX6_undo 4 = .ok (.ifCond .ne 10, 3) := dk_154 0 10 (dk_at dksX6_undo_0 4 rfl rfl)
theorem dX6_undo_7 : decode cX6_undo 7 = .ok (.aload_n 0, 1) := dk_42 (dk_at dksX6_undo_0 7 rfl rfl)
theorem dX6_undo_8 : decode cX6_undo 8 = .ok (.bipush (-3), 2) := dk_16 253 (dk_at dksX6_undo_0 8 rfl rfl)
theorem dX6_undo_10 : decode cX6_undo 10 = .ok (.invokevirtual 106, 3) := dk_182 0 106 (dk_at dksX6_undo_0 10 rfl rfl)
theorem dX6_undo_13 : decode cX6_undo 13 = .ok (.ireturn, 1) := dk_172 (dk_at dksX6_undo_0 13 rfl rfl)
theorem dX6_undo_14 : decode cX6_undo 14 = .ok (.aload_n 0, 1) := dk_42 (dk_at dksX6_undo_0 14 rfl rfl)
theorem dX6_undo_15 : decode cX6_undo 15 = .ok (.dup, 1) := dk_89 (dk_at dksX6_undo_0 15 rfl rfl)
theorem dX6_undo_16 : decode cX6_undo 16 = .ok (.getfield 11, 3) := dk_180 0 11 (dk_at dksX6_undo_0 16 rfl rfl)
theorem dX6_undo_19 : decode cX6_undo 19 = .ok (.iconst 1, 1) := dk_4 (dk_at dksX6_undo_0 19 rfl rfl)
theorem dX6_undo_20 : decode cX6_undo 20 = .ok (.isub, 1) := dk_100 (dk_at dksX6_undo_0 20 rfl rfl)
theorem dX6_undo_21 : decode cX6_undo 21 = .ok (.putfield 11, 3) := dk_181 0 11 (dk_at dksX6_undo_0 21 rfl rfl)
theorem dX6_undo_24 : decode cX6_undo 24 = .ok (.bipush 7, 2) := dk_16 7 (dk_at dksX6_undo_1 0 rfl rfl)
theorem dX6_undo_26 : decode cX6_undo 26 = .ok (.aload_n 0, 1) := dk_42 (dk_at dksX6_undo_1 2 rfl rfl)
theorem dX6_undo_27 : decode cX6_undo 27 = .ok (.getfield 11, 3) := dk_180 0 11 (dk_at dksX6_undo_1 3 rfl rfl)
theorem dX6_undo_30 : decode cX6_undo 30 = .ok (.imul, 1) := dk_104 (dk_at dksX6_undo_1 6 rfl rfl)
theorem dX6_undo_31 : decode cX6_undo 31 = .ok (.istore_n 1, 1) := dk_60 (dk_at dksX6_undo_1 7 rfl rfl)
theorem dX6_undo_32 : decode cX6_undo 32 = .ok (.iconst 0, 1) := dk_3 (dk_at dksX6_undo_1 8 rfl rfl)
theorem dX6_undo_33 : decode cX6_undo 33 = .ok (.istore_n 2, 1) := dk_61 (dk_at dksX6_undo_1 9 rfl rfl)
theorem dX6_undo_34 : decode cX6_undo 34 = .ok (.iload_n 2, 1) := dk_28 (dk_at dksX6_undo_1 10 rfl rfl)
theorem dX6_undo_35 : decode cX6_undo 35 = .ok (.bipush 6, 2) := dk_16 6 (dk_at dksX6_undo_1 11 rfl rfl)
theorem dX6_undo_37 : decode cX6_undo 37 = .ok (.if_icmp .ge 23, 3) := dk_162 0 23 (dk_at dksX6_undo_1 13 rfl rfl)
theorem dX6_undo_40 : decode cX6_undo 40 = .ok (.aload_n 0, 1) := dk_42 (dk_at dksX6_undo_1 16 rfl rfl)
theorem dX6_undo_41 : decode cX6_undo 41 = .ok (.getfield 24, 3) := dk_180 0 24 (dk_at dksX6_undo_1 17 rfl rfl)
theorem dX6_undo_44 : decode cX6_undo 44 = .ok (.iload_n 2, 1) := dk_28 (dk_at dksX6_undo_1 20 rfl rfl)
theorem dX6_undo_45 : decode cX6_undo 45 = .ok (.aload_n 0, 1) := dk_42 (dk_at dksX6_undo_1 21 rfl rfl)
theorem dX6_undo_46 : decode cX6_undo 46 = .ok (.getfield 65, 3) := dk_180 0 65 (dk_at dksX6_undo_2 0 rfl rfl)
theorem dX6_undo_49 : decode cX6_undo 49 = .ok (.iload_n 1, 1) := dk_27 (dk_at dksX6_undo_2 3 rfl rfl)
theorem dX6_undo_50 : decode cX6_undo 50 = .ok (.iload_n 2, 1) := dk_28 (dk_at dksX6_undo_2 4 rfl rfl)
theorem dX6_undo_51 : decode cX6_undo 51 = .ok (.iadd, 1) := dk_96 (dk_at dksX6_undo_2 5 rfl rfl)
theorem dX6_undo_52 : decode cX6_undo 52 = .ok (.iaload, 1) := dk_46 (dk_at dksX6_undo_2 6 rfl rfl)
theorem dX6_undo_53 : decode cX6_undo 53 = .ok (.iastore, 1) := dk_79 (dk_at dksX6_undo_2 7 rfl rfl)
theorem dX6_undo_54 : decode cX6_undo 54 = .ok (.iinc 2 1, 3) := dk_132 2 1 (dk_at dksX6_undo_2 8 rfl rfl)
theorem dX6_undo_57 : decode cX6_undo 57 = .ok (.goto (-23), 3) := dk_167 255 233 (dk_at dksX6_undo_2 11 rfl rfl)
theorem dX6_undo_60 : decode cX6_undo 60 = .ok (.aload_n 0, 1) := dk_42 (dk_at dksX6_undo_2 14 rfl rfl)
theorem dX6_undo_61 : decode cX6_undo 61 = .ok (.aload_n 0, 1) := dk_42 (dk_at dksX6_undo_2 15 rfl rfl)
theorem dX6_undo_62 : decode cX6_undo 62 = .ok (.getfield 65, 3) := dk_180 0 65 (dk_at dksX6_undo_2 16 rfl rfl)
theorem dX6_undo_65 : decode cX6_undo 65 = .ok (.iload_n 1, 1) := dk_27 (dk_at dksX6_undo_2 19 rfl rfl)
theorem dX6_undo_66 : decode cX6_undo 66 = .ok (.bipush 6, 2) := dk_16 6 (dk_at dksX6_undo_2 20 rfl rfl)
theorem dX6_undo_68 : decode cX6_undo 68 = .ok (.iadd, 1) := dk_96 (dk_at dksX6_undo_2 22 rfl rfl)
theorem dX6_undo_69 : decode cX6_undo 69 = .ok (.iaload, 1) := dk_46 (dk_at dksX6_undo_2 23 rfl rfl)
theorem dX6_undo_70 : decode cX6_undo 70 = .ok (.invokevirtual 14, 3) := dk_182 0 14 (dk_at dksX6_undo_3 0 rfl rfl)
theorem dX6_undo_73 : decode cX6_undo 73 = .ok (.ireturn, 1) := dk_172 (dk_at dksX6_undo_3 3 rfl rfl)
abbrev cX6_read : ByteArray := prog_24_method_91_code
def yX6_read : MethodName := ⟨RX6, "read", "(I)I"⟩
def dkwX6_read_0 : List UInt8 := [42, 42, 27, 182, 1, 108, 182, 1, 111, 172]
abbrev dktX6_read_0 : List UInt8 := dkwX6_read_0 ++ []
theorem dksX6_read_0 : cX6_read.data.toList.drop 0 = dktX6_read_0 := by decide +kernel
theorem dX6_read_0 : decode cX6_read 0 = .ok (.aload_n 0, 1) := dk_42 (dk_at dksX6_read_0 0 rfl rfl)
theorem dX6_read_1 : decode cX6_read 1 = .ok (.aload_n 0, 1) := dk_42 (dk_at dksX6_read_0 1 rfl rfl)
theorem dX6_read_2 : decode cX6_read 2 = .ok (.iload_n 1, 1) := dk_27 (dk_at dksX6_read_0 2 rfl rfl)
theorem dX6_read_3 : decode cX6_read 3 = .ok (.invokevirtual 364, 3) := dk_182 1 108 (dk_at dksX6_read_0 3 rfl rfl)
theorem dX6_read_6 : decode cX6_read 6 = .ok (.invokevirtual 367, 3) := dk_182 1 111 (dk_at dksX6_read_0 6 rfl rfl)
theorem dX6_read_9 : decode cX6_read 9 = .ok (.ireturn, 1) := dk_172 (dk_at dksX6_read_0 9 rfl rfl)
abbrev cX6_readsKept : ByteArray := prog_24_method_87_code
def yX6_readsKept : MethodName := ⟨RX6, "readsKept", "(I)I"⟩
def dkwX6_readsKept_1 : List UInt8 := [182, 1, 96, 42, 27, 182, 1, 99, 172]
abbrev dktX6_readsKept_1 : List UInt8 := dkwX6_readsKept_1 ++ []
def dkwX6_readsKept_0 : List UInt8 := [42, 27, 182, 0, 130, 154, 0, 6, 16, 254, 172, 42, 27, 182, 1, 93, 154, 0, 6, 16, 253, 172, 42, 3]
abbrev dktX6_readsKept_0 : List UInt8 := dkwX6_readsKept_0 ++ dktX6_readsKept_1
theorem dksX6_readsKept_0 : cX6_readsKept.data.toList.drop 0 = dktX6_readsKept_0 := by decide +kernel
theorem dksX6_readsKept_1 : cX6_readsKept.data.toList.drop 24 = dktX6_readsKept_1 := dk_seg dksX6_readsKept_0 24 rfl rfl
theorem dX6_readsKept_0 : decode cX6_readsKept 0 = .ok (.aload_n 0, 1) := dk_42 (dk_at dksX6_readsKept_0 0 rfl rfl)
theorem dX6_readsKept_1 : decode cX6_readsKept 1 = .ok (.iload_n 1, 1) := dk_27 (dk_at dksX6_readsKept_0 1 rfl rfl)
theorem dX6_readsKept_2 : decode cX6_readsKept 2 = .ok (.invokevirtual 130, 3) := dk_182 0 130 (dk_at dksX6_readsKept_0 2 rfl rfl)
theorem dX6_readsKept_5 : decode cX6_readsKept 5 = .ok (.ifCond .ne 6, 3) := dk_154 0 6 (dk_at dksX6_readsKept_0 5 rfl rfl)
theorem dX6_readsKept_8 : decode cX6_readsKept 8 = .ok (.bipush (-2), 2) := dk_16 254 (dk_at dksX6_readsKept_0 8 rfl rfl)
theorem dX6_readsKept_10 : decode cX6_readsKept 10 = .ok (.ireturn, 1) := dk_172 (dk_at dksX6_readsKept_0 10 rfl rfl)
theorem dX6_readsKept_11 : decode cX6_readsKept 11 = .ok (.aload_n 0, 1) := dk_42 (dk_at dksX6_readsKept_0 11 rfl rfl)
theorem dX6_readsKept_12 : decode cX6_readsKept 12 = .ok (.iload_n 1, 1) := dk_27 (dk_at dksX6_readsKept_0 12 rfl rfl)
theorem dX6_readsKept_13 : decode cX6_readsKept 13 = .ok (.invokevirtual 349, 3) := dk_182 1 93 (dk_at dksX6_readsKept_0 13 rfl rfl)
theorem dX6_readsKept_16 : decode cX6_readsKept 16 = .ok (.ifCond .ne 6, 3) := dk_154 0 6 (dk_at dksX6_readsKept_0 16 rfl rfl)
theorem dX6_readsKept_19 : decode cX6_readsKept 19 = .ok (.bipush (-3), 2) := dk_16 253 (dk_at dksX6_readsKept_0 19 rfl rfl)
theorem dX6_readsKept_21 : decode cX6_readsKept 21 = .ok (.ireturn, 1) := dk_172 (dk_at dksX6_readsKept_0 21 rfl rfl)
theorem dX6_readsKept_22 : decode cX6_readsKept 22 = .ok (.aload_n 0, 1) := dk_42 (dk_at dksX6_readsKept_0 22 rfl rfl)
theorem dX6_readsKept_23 : decode cX6_readsKept 23 = .ok (.iconst 0, 1) := dk_3 (dk_at dksX6_readsKept_0 23 rfl rfl)
theorem dX6_readsKept_24 : decode cX6_readsKept 24 = .ok (.invokevirtual 352, 3) := dk_182 1 96 (dk_at dksX6_readsKept_1 0 rfl rfl)
theorem dX6_readsKept_27 : decode cX6_readsKept 27 = .ok (.aload_n 0, 1) := dk_42 (dk_at dksX6_readsKept_1 3 rfl rfl)
theorem dX6_readsKept_28 : decode cX6_readsKept 28 = .ok (.iload_n 1, 1) := dk_27 (dk_at dksX6_readsKept_1 4 rfl rfl)
theorem dX6_readsKept_29 : decode cX6_readsKept 29 = .ok (.invokevirtual 355, 3) := dk_182 1 99 (dk_at dksX6_readsKept_1 5 rfl rfl)
theorem dX6_readsKept_32 : decode cX6_readsKept 32 = .ok (.ireturn, 1) := dk_172 (dk_at dksX6_readsKept_1 8 rfl rfl)
abbrev cX6_canRead : ByteArray := prog_24_method_80_code
def yX6_canRead : MethodName := ⟨RX6, "canRead", "(I)Z"⟩
def dkwX6_canRead_2 : List UInt8 := [167, 0, 4, 3, 172]
abbrev dktX6_canRead_2 : List UInt8 := dkwX6_canRead_2 ++ []
def dkwX6_canRead_1 : List UInt8 := [180, 0, 24, 8, 46, 42, 180, 0, 24, 16, 6, 27, 96, 46, 96, 17, 3, 231, 163, 0, 7, 4]
abbrev dktX6_canRead_1 : List UInt8 := dkwX6_canRead_1 ++ dktX6_canRead_2
def dkwX6_canRead_0 : List UInt8 := [42, 42, 180, 0, 24, 3, 46, 27, 182, 0, 137, 153, 0, 37, 42, 27, 182, 0, 140, 154, 0, 29, 42]
abbrev dktX6_canRead_0 : List UInt8 := dkwX6_canRead_0 ++ dktX6_canRead_1
theorem dksX6_canRead_0 : cX6_canRead.data.toList.drop 0 = dktX6_canRead_0 := by decide +kernel
theorem dksX6_canRead_1 : cX6_canRead.data.toList.drop 23 = dktX6_canRead_1 := dk_seg dksX6_canRead_0 23 rfl rfl
theorem dksX6_canRead_2 : cX6_canRead.data.toList.drop 45 = dktX6_canRead_2 := dk_seg dksX6_canRead_1 22 rfl rfl
theorem dX6_canRead_0 : decode cX6_canRead 0 = .ok (.aload_n 0, 1) := dk_42 (dk_at dksX6_canRead_0 0 rfl rfl)
theorem dX6_canRead_1 : decode cX6_canRead 1 = .ok (.aload_n 0, 1) := dk_42 (dk_at dksX6_canRead_0 1 rfl rfl)
theorem dX6_canRead_2 : decode cX6_canRead 2 = .ok (.getfield 24, 3) := dk_180 0 24 (dk_at dksX6_canRead_0 2 rfl rfl)
theorem dX6_canRead_5 : decode cX6_canRead 5 = .ok (.iconst 0, 1) := dk_3 (dk_at dksX6_canRead_0 5 rfl rfl)
theorem dX6_canRead_6 : decode cX6_canRead 6 = .ok (.iaload, 1) := dk_46 (dk_at dksX6_canRead_0 6 rfl rfl)
theorem dX6_canRead_7 : decode cX6_canRead 7 = .ok (.iload_n 1, 1) := dk_27 (dk_at dksX6_canRead_0 7 rfl rfl)
theorem dX6_canRead_8 : decode cX6_canRead 8 = .ok (.invokevirtual 137, 3) := dk_182 0 137 (dk_at dksX6_canRead_0 8 rfl rfl)
theorem dX6_canRead_11 : decode cX6_canRead 11 = .ok (.ifCond .eq 37, 3) := dk_153 0 37 (dk_at dksX6_canRead_0 11 rfl rfl)
theorem dX6_canRead_14 : decode cX6_canRead 14 = .ok (.aload_n 0, 1) := dk_42 (dk_at dksX6_canRead_0 14 rfl rfl)
theorem dX6_canRead_15 : decode cX6_canRead 15 = .ok (.iload_n 1, 1) := dk_27 (dk_at dksX6_canRead_0 15 rfl rfl)
theorem dX6_canRead_16 : decode cX6_canRead 16 = .ok (.invokevirtual 140, 3) := dk_182 0 140 (dk_at dksX6_canRead_0 16 rfl rfl)
theorem dX6_canRead_19 : decode cX6_canRead 19 = .ok (.ifCond .ne 29, 3) := dk_154 0 29 (dk_at dksX6_canRead_0 19 rfl rfl)
theorem dX6_canRead_22 : decode cX6_canRead 22 = .ok (.aload_n 0, 1) := dk_42 (dk_at dksX6_canRead_0 22 rfl rfl)
theorem dX6_canRead_23 : decode cX6_canRead 23 = .ok (.getfield 24, 3) := dk_180 0 24 (dk_at dksX6_canRead_1 0 rfl rfl)
theorem dX6_canRead_26 : decode cX6_canRead 26 = .ok (.iconst 5, 1) := dk_8 (dk_at dksX6_canRead_1 3 rfl rfl)
theorem dX6_canRead_27 : decode cX6_canRead 27 = .ok (.iaload, 1) := dk_46 (dk_at dksX6_canRead_1 4 rfl rfl)
theorem dX6_canRead_28 : decode cX6_canRead 28 = .ok (.aload_n 0, 1) := dk_42 (dk_at dksX6_canRead_1 5 rfl rfl)
theorem dX6_canRead_29 : decode cX6_canRead 29 = .ok (.getfield 24, 3) := dk_180 0 24 (dk_at dksX6_canRead_1 6 rfl rfl)
theorem dX6_canRead_32 : decode cX6_canRead 32 = .ok (.bipush 6, 2) := dk_16 6 (dk_at dksX6_canRead_1 9 rfl rfl)
theorem dX6_canRead_34 : decode cX6_canRead 34 = .ok (.iload_n 1, 1) := dk_27 (dk_at dksX6_canRead_1 11 rfl rfl)
theorem dX6_canRead_35 : decode cX6_canRead 35 = .ok (.iadd, 1) := dk_96 (dk_at dksX6_canRead_1 12 rfl rfl)
theorem dX6_canRead_36 : decode cX6_canRead 36 = .ok (.iaload, 1) := dk_46 (dk_at dksX6_canRead_1 13 rfl rfl)
theorem dX6_canRead_37 : decode cX6_canRead 37 = .ok (.iadd, 1) := dk_96 (dk_at dksX6_canRead_1 14 rfl rfl)
theorem dX6_canRead_38 : decode cX6_canRead 38 = .ok (.sipush 999, 3) := dk_17 3 231 (dk_at dksX6_canRead_1 15 rfl rfl)
theorem dX6_canRead_41 : decode cX6_canRead 41 = .ok (.if_icmp .gt 7, 3) := dk_163 0 7 (dk_at dksX6_canRead_1 18 rfl rfl)
theorem dX6_canRead_44 : decode cX6_canRead 44 = .ok (.iconst 1, 1) := dk_4 (dk_at dksX6_canRead_1 21 rfl rfl)
theorem dX6_canRead_45 : decode cX6_canRead 45 = .ok (.goto 4, 3) := dk_167 0 4 (dk_at dksX6_canRead_2 0 rfl rfl)
theorem dX6_canRead_48 : decode cX6_canRead 48 = .ok (.iconst 0, 1) := dk_3 (dk_at dksX6_canRead_2 3 rfl rfl)
theorem dX6_canRead_49 : decode cX6_canRead 49 = .ok (.ireturn, 1) := dk_172 (dk_at dksX6_canRead_2 4 rfl rfl)
abbrev cX6_keeps : ByteArray := prog_24_method_84_code
def yX6_keeps : MethodName := ⟨RX6, "keeps", "(I)V"⟩
def dkwX6_keeps_4 : List UInt8 := [16, 6, 96, 27, 79, 42, 89, 180, 0, 11, 4, 96, 181, 0, 11, 177]
abbrev dktX6_keeps_4 : List UInt8 := dkwX6_keeps_4 ++ []
def dkwX6_keeps_3 : List UInt8 := [96, 42, 180, 0, 24, 29, 46, 79, 132, 3, 1, 167, 255, 228, 42, 180, 0, 65, 28, 42, 180, 0, 11, 104]
abbrev dktX6_keeps_3 : List UInt8 := dkwX6_keeps_3 ++ dktX6_keeps_4
def dkwX6_keeps_2 : List UInt8 := [4, 100, 181, 0, 11, 3, 62, 29, 16, 6, 162, 0, 28, 42, 180, 0, 65, 28, 42, 180, 0, 11, 104, 29]
abbrev dktX6_keeps_2 : List UInt8 := dkwX6_keeps_2 ++ dktX6_keeps_3
def dkwX6_keeps_1 : List UInt8 := [180, 0, 65, 29, 42, 180, 0, 65, 29, 28, 96, 46, 79, 132, 3, 1, 167, 255, 231, 42, 89, 180, 0, 11]
abbrev dktX6_keeps_1 : List UInt8 := dkwX6_keeps_1 ++ dktX6_keeps_2
def dkwX6_keeps_0 : List UInt8 := [16, 7, 61, 42, 180, 0, 11, 16, 16, 160, 0, 43, 3, 62, 29, 16, 15, 28, 104, 162, 0, 23, 42]
abbrev dktX6_keeps_0 : List UInt8 := dkwX6_keeps_0 ++ dktX6_keeps_1
theorem dksX6_keeps_0 : cX6_keeps.data.toList.drop 0 = dktX6_keeps_0 := by decide +kernel
theorem dksX6_keeps_1 : cX6_keeps.data.toList.drop 23 = dktX6_keeps_1 := dk_seg dksX6_keeps_0 23 rfl rfl
theorem dksX6_keeps_2 : cX6_keeps.data.toList.drop 47 = dktX6_keeps_2 := dk_seg dksX6_keeps_1 24 rfl rfl
theorem dksX6_keeps_3 : cX6_keeps.data.toList.drop 71 = dktX6_keeps_3 := dk_seg dksX6_keeps_2 24 rfl rfl
theorem dksX6_keeps_4 : cX6_keeps.data.toList.drop 95 = dktX6_keeps_4 := dk_seg dksX6_keeps_3 24 rfl rfl
theorem dX6_keeps_0 : decode cX6_keeps 0 = .ok (.bipush 7, 2) := dk_16 7 (dk_at dksX6_keeps_0 0 rfl rfl)
theorem dX6_keeps_2 : decode cX6_keeps 2 = .ok (.istore_n 2, 1) := dk_61 (dk_at dksX6_keeps_0 2 rfl rfl)
theorem dX6_keeps_3 : decode cX6_keeps 3 = .ok (.aload_n 0, 1) := dk_42 (dk_at dksX6_keeps_0 3 rfl rfl)
theorem dX6_keeps_4 : decode cX6_keeps 4 = .ok (.getfield 11, 3) := dk_180 0 11 (dk_at dksX6_keeps_0 4 rfl rfl)
theorem dX6_keeps_7 : decode cX6_keeps 7 = .ok (.bipush 16, 2) := dk_16 16 (dk_at dksX6_keeps_0 7 rfl rfl)
theorem dX6_keeps_9 : decode cX6_keeps 9 = .ok (.if_icmp .ne 43, 3) := dk_160 0 43 (dk_at dksX6_keeps_0 9 rfl rfl)
theorem dX6_keeps_12 : decode cX6_keeps 12 = .ok (.iconst 0, 1) := dk_3 (dk_at dksX6_keeps_0 12 rfl rfl)
theorem dX6_keeps_13 : decode cX6_keeps 13 = .ok (.istore_n 3, 1) := dk_62 (dk_at dksX6_keeps_0 13 rfl rfl)
theorem dX6_keeps_14 : decode cX6_keeps 14 = .ok (.iload_n 3, 1) := dk_29 (dk_at dksX6_keeps_0 14 rfl rfl)
theorem dX6_keeps_15 : decode cX6_keeps 15 = .ok (.bipush 15, 2) := dk_16 15 (dk_at dksX6_keeps_0 15 rfl rfl)
theorem dX6_keeps_17 : decode cX6_keeps 17 = .ok (.iload_n 2, 1) := dk_28 (dk_at dksX6_keeps_0 17 rfl rfl)
theorem dX6_keeps_18 : decode cX6_keeps 18 = .ok (.imul, 1) := dk_104 (dk_at dksX6_keeps_0 18 rfl rfl)
theorem dX6_keeps_19 : decode cX6_keeps 19 = .ok (.if_icmp .ge 23, 3) := dk_162 0 23 (dk_at dksX6_keeps_0 19 rfl rfl)
theorem dX6_keeps_22 : decode cX6_keeps 22 = .ok (.aload_n 0, 1) := dk_42 (dk_at dksX6_keeps_0 22 rfl rfl)
theorem dX6_keeps_23 : decode cX6_keeps 23 = .ok (.getfield 65, 3) := dk_180 0 65 (dk_at dksX6_keeps_1 0 rfl rfl)
theorem dX6_keeps_26 : decode cX6_keeps 26 = .ok (.iload_n 3, 1) := dk_29 (dk_at dksX6_keeps_1 3 rfl rfl)
theorem dX6_keeps_27 : decode cX6_keeps 27 = .ok (.aload_n 0, 1) := dk_42 (dk_at dksX6_keeps_1 4 rfl rfl)
theorem dX6_keeps_28 : decode cX6_keeps 28 = .ok (.getfield 65, 3) := dk_180 0 65 (dk_at dksX6_keeps_1 5 rfl rfl)
theorem dX6_keeps_31 : decode cX6_keeps 31 = .ok (.iload_n 3, 1) := dk_29 (dk_at dksX6_keeps_1 8 rfl rfl)
theorem dX6_keeps_32 : decode cX6_keeps 32 = .ok (.iload_n 2, 1) := dk_28 (dk_at dksX6_keeps_1 9 rfl rfl)
theorem dX6_keeps_33 : decode cX6_keeps 33 = .ok (.iadd, 1) := dk_96 (dk_at dksX6_keeps_1 10 rfl rfl)
theorem dX6_keeps_34 : decode cX6_keeps 34 = .ok (.iaload, 1) := dk_46 (dk_at dksX6_keeps_1 11 rfl rfl)
theorem dX6_keeps_35 : decode cX6_keeps 35 = .ok (.iastore, 1) := dk_79 (dk_at dksX6_keeps_1 12 rfl rfl)
theorem dX6_keeps_36 : decode cX6_keeps 36 = .ok (.iinc 3 1, 3) := dk_132 3 1 (dk_at dksX6_keeps_1 13 rfl rfl)
theorem dX6_keeps_39 : decode cX6_keeps 39 = .ok (.goto (-25), 3) := dk_167 255 231 (dk_at dksX6_keeps_1 16 rfl rfl)
theorem dX6_keeps_42 : decode cX6_keeps 42 = .ok (.aload_n 0, 1) := dk_42 (dk_at dksX6_keeps_1 19 rfl rfl)
theorem dX6_keeps_43 : decode cX6_keeps 43 = .ok (.dup, 1) := dk_89 (dk_at dksX6_keeps_1 20 rfl rfl)
theorem dX6_keeps_44 : decode cX6_keeps 44 = .ok (.getfield 11, 3) := dk_180 0 11 (dk_at dksX6_keeps_1 21 rfl rfl)
theorem dX6_keeps_47 : decode cX6_keeps 47 = .ok (.iconst 1, 1) := dk_4 (dk_at dksX6_keeps_2 0 rfl rfl)
theorem dX6_keeps_48 : decode cX6_keeps 48 = .ok (.isub, 1) := dk_100 (dk_at dksX6_keeps_2 1 rfl rfl)
theorem dX6_keeps_49 : decode cX6_keeps 49 = .ok (.putfield 11, 3) := dk_181 0 11 (dk_at dksX6_keeps_2 2 rfl rfl)
theorem dX6_keeps_52 : decode cX6_keeps 52 = .ok (.iconst 0, 1) := dk_3 (dk_at dksX6_keeps_2 5 rfl rfl)
theorem dX6_keeps_53 : decode cX6_keeps 53 = .ok (.istore_n 3, 1) := dk_62 (dk_at dksX6_keeps_2 6 rfl rfl)
theorem dX6_keeps_54 : decode cX6_keeps 54 = .ok (.iload_n 3, 1) := dk_29 (dk_at dksX6_keeps_2 7 rfl rfl)
theorem dX6_keeps_55 : decode cX6_keeps 55 = .ok (.bipush 6, 2) := dk_16 6 (dk_at dksX6_keeps_2 8 rfl rfl)
theorem dX6_keeps_57 : decode cX6_keeps 57 = .ok (.if_icmp .ge 28, 3) := dk_162 0 28 (dk_at dksX6_keeps_2 10 rfl rfl)
theorem dX6_keeps_60 : decode cX6_keeps 60 = .ok (.aload_n 0, 1) := dk_42 (dk_at dksX6_keeps_2 13 rfl rfl)
theorem dX6_keeps_61 : decode cX6_keeps 61 = .ok (.getfield 65, 3) := dk_180 0 65 (dk_at dksX6_keeps_2 14 rfl rfl)
theorem dX6_keeps_64 : decode cX6_keeps 64 = .ok (.iload_n 2, 1) := dk_28 (dk_at dksX6_keeps_2 17 rfl rfl)
theorem dX6_keeps_65 : decode cX6_keeps 65 = .ok (.aload_n 0, 1) := dk_42 (dk_at dksX6_keeps_2 18 rfl rfl)
theorem dX6_keeps_66 : decode cX6_keeps 66 = .ok (.getfield 11, 3) := dk_180 0 11 (dk_at dksX6_keeps_2 19 rfl rfl)
theorem dX6_keeps_69 : decode cX6_keeps 69 = .ok (.imul, 1) := dk_104 (dk_at dksX6_keeps_2 22 rfl rfl)
theorem dX6_keeps_70 : decode cX6_keeps 70 = .ok (.iload_n 3, 1) := dk_29 (dk_at dksX6_keeps_2 23 rfl rfl)
theorem dX6_keeps_71 : decode cX6_keeps 71 = .ok (.iadd, 1) := dk_96 (dk_at dksX6_keeps_3 0 rfl rfl)
theorem dX6_keeps_72 : decode cX6_keeps 72 = .ok (.aload_n 0, 1) := dk_42 (dk_at dksX6_keeps_3 1 rfl rfl)
theorem dX6_keeps_73 : decode cX6_keeps 73 = .ok (.getfield 24, 3) := dk_180 0 24 (dk_at dksX6_keeps_3 2 rfl rfl)
theorem dX6_keeps_76 : decode cX6_keeps 76 = .ok (.iload_n 3, 1) := dk_29 (dk_at dksX6_keeps_3 5 rfl rfl)
theorem dX6_keeps_77 : decode cX6_keeps 77 = .ok (.iaload, 1) := dk_46 (dk_at dksX6_keeps_3 6 rfl rfl)
theorem dX6_keeps_78 : decode cX6_keeps 78 = .ok (.iastore, 1) := dk_79 (dk_at dksX6_keeps_3 7 rfl rfl)
theorem dX6_keeps_79 : decode cX6_keeps 79 = .ok (.iinc 3 1, 3) := dk_132 3 1 (dk_at dksX6_keeps_3 8 rfl rfl)
theorem dX6_keeps_82 : decode cX6_keeps 82 = .ok (.goto (-28), 3) := dk_167 255 228 (dk_at dksX6_keeps_3 11 rfl rfl)
theorem dX6_keeps_85 : decode cX6_keeps 85 = .ok (.aload_n 0, 1) := dk_42 (dk_at dksX6_keeps_3 14 rfl rfl)
theorem dX6_keeps_86 : decode cX6_keeps 86 = .ok (.getfield 65, 3) := dk_180 0 65 (dk_at dksX6_keeps_3 15 rfl rfl)
theorem dX6_keeps_89 : decode cX6_keeps 89 = .ok (.iload_n 2, 1) := dk_28 (dk_at dksX6_keeps_3 18 rfl rfl)
theorem dX6_keeps_90 : decode cX6_keeps 90 = .ok (.aload_n 0, 1) := dk_42 (dk_at dksX6_keeps_3 19 rfl rfl)
theorem dX6_keeps_91 : decode cX6_keeps 91 = .ok (.getfield 11, 3) := dk_180 0 11 (dk_at dksX6_keeps_3 20 rfl rfl)
theorem dX6_keeps_94 : decode cX6_keeps 94 = .ok (.imul, 1) := dk_104 (dk_at dksX6_keeps_3 23 rfl rfl)
theorem dX6_keeps_95 : decode cX6_keeps 95 = .ok (.bipush 6, 2) := dk_16 6 (dk_at dksX6_keeps_4 0 rfl rfl)
theorem dX6_keeps_97 : decode cX6_keeps 97 = .ok (.iadd, 1) := dk_96 (dk_at dksX6_keeps_4 2 rfl rfl)
theorem dX6_keeps_98 : decode cX6_keeps 98 = .ok (.iload_n 1, 1) := dk_27 (dk_at dksX6_keeps_4 3 rfl rfl)
theorem dX6_keeps_99 : decode cX6_keeps 99 = .ok (.iastore, 1) := dk_79 (dk_at dksX6_keeps_4 4 rfl rfl)
theorem dX6_keeps_100 : decode cX6_keeps 100 = .ok (.aload_n 0, 1) := dk_42 (dk_at dksX6_keeps_4 5 rfl rfl)
theorem dX6_keeps_101 : decode cX6_keeps 101 = .ok (.dup, 1) := dk_89 (dk_at dksX6_keeps_4 6 rfl rfl)
theorem dX6_keeps_102 : decode cX6_keeps 102 = .ok (.getfield 11, 3) := dk_180 0 11 (dk_at dksX6_keeps_4 7 rfl rfl)
theorem dX6_keeps_105 : decode cX6_keeps 105 = .ok (.iconst 1, 1) := dk_4 (dk_at dksX6_keeps_4 10 rfl rfl)
theorem dX6_keeps_106 : decode cX6_keeps 106 = .ok (.iadd, 1) := dk_96 (dk_at dksX6_keeps_4 11 rfl rfl)
theorem dX6_keeps_107 : decode cX6_keeps 107 = .ok (.putfield 11, 3) := dk_181 0 11 (dk_at dksX6_keeps_4 12 rfl rfl)
theorem dX6_keeps_110 : decode cX6_keeps 110 = .ok (.return_, 1) := dk_177 (dk_at dksX6_keeps_4 15 rfl rfl)
abbrev cX6_reading : ByteArray := prog_24_method_82_code
def yX6_reading : MethodName := ⟨RX6, "reading", "(I)I"⟩
def dkwX6_reading_4 : List UInt8 := [79, 42, 180, 0, 24, 8, 92, 46, 42, 180, 0, 24, 16, 6, 27, 96, 46, 96, 79, 28, 172]
abbrev dktX6_reading_4 : List UInt8 := dkwX6_reading_4 ++ []
def dkwX6_reading_3 : List UInt8 := [180, 0, 62, 29, 46, 96, 61, 132, 3, 1, 167, 255, 207, 42, 180, 0, 24, 3, 92, 46, 4, 27, 120, 128]
abbrev dktX6_reading_3 : List UInt8 := dkwX6_reading_3 ++ dktX6_reading_4
def dkwX6_reading_2 : List UInt8 := [17, 3, 231, 42, 180, 0, 24, 4, 29, 96, 46, 42, 180, 0, 62, 29, 46, 96, 184, 1, 87, 79, 28, 42]
abbrev dktX6_reading_2 : List UInt8 := dkwX6_reading_2 ++ dktX6_reading_3
def dkwX6_reading_1 : List UInt8 := [132, 3, 1, 167, 255, 233, 3, 62, 29, 42, 182, 0, 116, 162, 0, 47, 42, 180, 0, 24, 4, 29, 96]
abbrev dktX6_reading_1 : List UInt8 := dkwX6_reading_1 ++ dktX6_reading_2
def dkwX6_reading_0 : List UInt8 := [3, 61, 3, 62, 29, 42, 182, 0, 116, 162, 0, 21, 42, 180, 0, 62, 29, 42, 29, 27, 182, 0, 146, 79]
abbrev dktX6_reading_0 : List UInt8 := dkwX6_reading_0 ++ dktX6_reading_1
theorem dksX6_reading_0 : cX6_reading.data.toList.drop 0 = dktX6_reading_0 := by decide +kernel
theorem dksX6_reading_1 : cX6_reading.data.toList.drop 24 = dktX6_reading_1 := dk_seg dksX6_reading_0 24 rfl rfl
theorem dksX6_reading_2 : cX6_reading.data.toList.drop 47 = dktX6_reading_2 := dk_seg dksX6_reading_1 23 rfl rfl
theorem dksX6_reading_3 : cX6_reading.data.toList.drop 71 = dktX6_reading_3 := dk_seg dksX6_reading_2 24 rfl rfl
theorem dksX6_reading_4 : cX6_reading.data.toList.drop 95 = dktX6_reading_4 := dk_seg dksX6_reading_3 24 rfl rfl
theorem dX6_reading_0 : decode cX6_reading 0 = .ok (.iconst 0, 1) := dk_3 (dk_at dksX6_reading_0 0 rfl rfl)
theorem dX6_reading_1 : decode cX6_reading 1 = .ok (.istore_n 2, 1) := dk_61 (dk_at dksX6_reading_0 1 rfl rfl)
theorem dX6_reading_2 : decode cX6_reading 2 = .ok (.iconst 0, 1) := dk_3 (dk_at dksX6_reading_0 2 rfl rfl)
theorem dX6_reading_3 : decode cX6_reading 3 = .ok (.istore_n 3, 1) := dk_62 (dk_at dksX6_reading_0 3 rfl rfl)
theorem dX6_reading_4 : decode cX6_reading 4 = .ok (.iload_n 3, 1) := dk_29 (dk_at dksX6_reading_0 4 rfl rfl)
theorem dX6_reading_5 : decode cX6_reading 5 = .ok (.aload_n 0, 1) := dk_42 (dk_at dksX6_reading_0 5 rfl rfl)
theorem dX6_reading_6 : decode cX6_reading 6 = .ok (.invokevirtual 116, 3) := dk_182 0 116 (dk_at dksX6_reading_0 6 rfl rfl)
theorem dX6_reading_9 : decode cX6_reading 9 = .ok (.if_icmp .ge 21, 3) := dk_162 0 21 (dk_at dksX6_reading_0 9 rfl rfl)
theorem dX6_reading_12 : decode cX6_reading 12 = .ok (.aload_n 0, 1) := dk_42 (dk_at dksX6_reading_0 12 rfl rfl)
theorem dX6_reading_13 : decode cX6_reading 13 = .ok (.getfield 62, 3) := dk_180 0 62 (dk_at dksX6_reading_0 13 rfl rfl)
theorem dX6_reading_16 : decode cX6_reading 16 = .ok (.iload_n 3, 1) := dk_29 (dk_at dksX6_reading_0 16 rfl rfl)
theorem dX6_reading_17 : decode cX6_reading 17 = .ok (.aload_n 0, 1) := dk_42 (dk_at dksX6_reading_0 17 rfl rfl)
theorem dX6_reading_18 : decode cX6_reading 18 = .ok (.iload_n 3, 1) := dk_29 (dk_at dksX6_reading_0 18 rfl rfl)
theorem dX6_reading_19 : decode cX6_reading 19 = .ok (.iload_n 1, 1) := dk_27 (dk_at dksX6_reading_0 19 rfl rfl)
theorem dX6_reading_20 : decode cX6_reading 20 = .ok (.invokevirtual 146, 3) := dk_182 0 146 (dk_at dksX6_reading_0 20 rfl rfl)
theorem dX6_reading_23 : decode cX6_reading 23 = .ok (.iastore, 1) := dk_79 (dk_at dksX6_reading_0 23 rfl rfl)
theorem dX6_reading_24 : decode cX6_reading 24 = .ok (.iinc 3 1, 3) := dk_132 3 1 (dk_at dksX6_reading_1 0 rfl rfl)
theorem dX6_reading_27 : decode cX6_reading 27 = .ok (.goto (-23), 3) := dk_167 255 233 (dk_at dksX6_reading_1 3 rfl rfl)
theorem dX6_reading_30 : decode cX6_reading 30 = .ok (.iconst 0, 1) := dk_3 (dk_at dksX6_reading_1 6 rfl rfl)
theorem dX6_reading_31 : decode cX6_reading 31 = .ok (.istore_n 3, 1) := dk_62 (dk_at dksX6_reading_1 7 rfl rfl)
theorem dX6_reading_32 : decode cX6_reading 32 = .ok (.iload_n 3, 1) := dk_29 (dk_at dksX6_reading_1 8 rfl rfl)
theorem dX6_reading_33 : decode cX6_reading 33 = .ok (.aload_n 0, 1) := dk_42 (dk_at dksX6_reading_1 9 rfl rfl)
theorem dX6_reading_34 : decode cX6_reading 34 = .ok (.invokevirtual 116, 3) := dk_182 0 116 (dk_at dksX6_reading_1 10 rfl rfl)
theorem dX6_reading_37 : decode cX6_reading 37 = .ok (.if_icmp .ge 47, 3) := dk_162 0 47 (dk_at dksX6_reading_1 13 rfl rfl)
theorem dX6_reading_40 : decode cX6_reading 40 = .ok (.aload_n 0, 1) := dk_42 (dk_at dksX6_reading_1 16 rfl rfl)
theorem dX6_reading_41 : decode cX6_reading 41 = .ok (.getfield 24, 3) := dk_180 0 24 (dk_at dksX6_reading_1 17 rfl rfl)
theorem dX6_reading_44 : decode cX6_reading 44 = .ok (.iconst 1, 1) := dk_4 (dk_at dksX6_reading_1 20 rfl rfl)
theorem dX6_reading_45 : decode cX6_reading 45 = .ok (.iload_n 3, 1) := dk_29 (dk_at dksX6_reading_1 21 rfl rfl)
theorem dX6_reading_46 : decode cX6_reading 46 = .ok (.iadd, 1) := dk_96 (dk_at dksX6_reading_1 22 rfl rfl)
theorem dX6_reading_47 : decode cX6_reading 47 = .ok (.sipush 999, 3) := dk_17 3 231 (dk_at dksX6_reading_2 0 rfl rfl)
theorem dX6_reading_50 : decode cX6_reading 50 = .ok (.aload_n 0, 1) := dk_42 (dk_at dksX6_reading_2 3 rfl rfl)
theorem dX6_reading_51 : decode cX6_reading 51 = .ok (.getfield 24, 3) := dk_180 0 24 (dk_at dksX6_reading_2 4 rfl rfl)
theorem dX6_reading_54 : decode cX6_reading 54 = .ok (.iconst 1, 1) := dk_4 (dk_at dksX6_reading_2 7 rfl rfl)
theorem dX6_reading_55 : decode cX6_reading 55 = .ok (.iload_n 3, 1) := dk_29 (dk_at dksX6_reading_2 8 rfl rfl)
theorem dX6_reading_56 : decode cX6_reading 56 = .ok (.iadd, 1) := dk_96 (dk_at dksX6_reading_2 9 rfl rfl)
theorem dX6_reading_57 : decode cX6_reading 57 = .ok (.iaload, 1) := dk_46 (dk_at dksX6_reading_2 10 rfl rfl)
theorem dX6_reading_58 : decode cX6_reading 58 = .ok (.aload_n 0, 1) := dk_42 (dk_at dksX6_reading_2 11 rfl rfl)
theorem dX6_reading_59 : decode cX6_reading 59 = .ok (.getfield 62, 3) := dk_180 0 62 (dk_at dksX6_reading_2 12 rfl rfl)
theorem dX6_reading_62 : decode cX6_reading 62 = .ok (.iload_n 3, 1) := dk_29 (dk_at dksX6_reading_2 15 rfl rfl)
theorem dX6_reading_63 : decode cX6_reading 63 = .ok (.iaload, 1) := dk_46 (dk_at dksX6_reading_2 16 rfl rfl)
theorem dX6_reading_64 : decode cX6_reading 64 = .ok (.iadd, 1) := dk_96 (dk_at dksX6_reading_2 17 rfl rfl)
theorem dX6_reading_65 : decode cX6_reading 65 = .ok (.invokestatic 343, 3) := dk_184 1 87 (dk_at dksX6_reading_2 18 rfl rfl)
theorem dX6_reading_68 : decode cX6_reading 68 = .ok (.iastore, 1) := dk_79 (dk_at dksX6_reading_2 21 rfl rfl)
theorem dX6_reading_69 : decode cX6_reading 69 = .ok (.iload_n 2, 1) := dk_28 (dk_at dksX6_reading_2 22 rfl rfl)
theorem dX6_reading_70 : decode cX6_reading 70 = .ok (.aload_n 0, 1) := dk_42 (dk_at dksX6_reading_2 23 rfl rfl)
theorem dX6_reading_71 : decode cX6_reading 71 = .ok (.getfield 62, 3) := dk_180 0 62 (dk_at dksX6_reading_3 0 rfl rfl)
theorem dX6_reading_74 : decode cX6_reading 74 = .ok (.iload_n 3, 1) := dk_29 (dk_at dksX6_reading_3 3 rfl rfl)
theorem dX6_reading_75 : decode cX6_reading 75 = .ok (.iaload, 1) := dk_46 (dk_at dksX6_reading_3 4 rfl rfl)
theorem dX6_reading_76 : decode cX6_reading 76 = .ok (.iadd, 1) := dk_96 (dk_at dksX6_reading_3 5 rfl rfl)
theorem dX6_reading_77 : decode cX6_reading 77 = .ok (.istore_n 2, 1) := dk_61 (dk_at dksX6_reading_3 6 rfl rfl)
theorem dX6_reading_78 : decode cX6_reading 78 = .ok (.iinc 3 1, 3) := dk_132 3 1 (dk_at dksX6_reading_3 7 rfl rfl)
theorem dX6_reading_81 : decode cX6_reading 81 = .ok (.goto (-49), 3) := dk_167 255 207 (dk_at dksX6_reading_3 10 rfl rfl)
theorem dX6_reading_84 : decode cX6_reading 84 = .ok (.aload_n 0, 1) := dk_42 (dk_at dksX6_reading_3 13 rfl rfl)
theorem dX6_reading_85 : decode cX6_reading 85 = .ok (.getfield 24, 3) := dk_180 0 24 (dk_at dksX6_reading_3 14 rfl rfl)
theorem dX6_reading_88 : decode cX6_reading 88 = .ok (.iconst 0, 1) := dk_3 (dk_at dksX6_reading_3 17 rfl rfl)
theorem dX6_reading_89 : decode cX6_reading 89 = .ok (.dup2, 1) := dk_92 (dk_at dksX6_reading_3 18 rfl rfl)
theorem dX6_reading_90 : decode cX6_reading 90 = .ok (.iaload, 1) := dk_46 (dk_at dksX6_reading_3 19 rfl rfl)
theorem dX6_reading_91 : decode cX6_reading 91 = .ok (.iconst 1, 1) := dk_4 (dk_at dksX6_reading_3 20 rfl rfl)
theorem dX6_reading_92 : decode cX6_reading 92 = .ok (.iload_n 1, 1) := dk_27 (dk_at dksX6_reading_3 21 rfl rfl)
theorem dX6_reading_93 : decode cX6_reading 93 = .ok (.ishl, 1) := dk_120 (dk_at dksX6_reading_3 22 rfl rfl)
theorem dX6_reading_94 : decode cX6_reading 94 = .ok (.ior, 1) := dk_128 (dk_at dksX6_reading_3 23 rfl rfl)
theorem dX6_reading_95 : decode cX6_reading 95 = .ok (.iastore, 1) := dk_79 (dk_at dksX6_reading_4 0 rfl rfl)
theorem dX6_reading_96 : decode cX6_reading 96 = .ok (.aload_n 0, 1) := dk_42 (dk_at dksX6_reading_4 1 rfl rfl)
theorem dX6_reading_97 : decode cX6_reading 97 = .ok (.getfield 24, 3) := dk_180 0 24 (dk_at dksX6_reading_4 2 rfl rfl)
theorem dX6_reading_100 : decode cX6_reading 100 = .ok (.iconst 5, 1) := dk_8 (dk_at dksX6_reading_4 5 rfl rfl)
theorem dX6_reading_101 : decode cX6_reading 101 = .ok (.dup2, 1) := dk_92 (dk_at dksX6_reading_4 6 rfl rfl)
theorem dX6_reading_102 : decode cX6_reading 102 = .ok (.iaload, 1) := dk_46 (dk_at dksX6_reading_4 7 rfl rfl)
theorem dX6_reading_103 : decode cX6_reading 103 = .ok (.aload_n 0, 1) := dk_42 (dk_at dksX6_reading_4 8 rfl rfl)
theorem dX6_reading_104 : decode cX6_reading 104 = .ok (.getfield 24, 3) := dk_180 0 24 (dk_at dksX6_reading_4 9 rfl rfl)
theorem dX6_reading_107 : decode cX6_reading 107 = .ok (.bipush 6, 2) := dk_16 6 (dk_at dksX6_reading_4 12 rfl rfl)
theorem dX6_reading_109 : decode cX6_reading 109 = .ok (.iload_n 1, 1) := dk_27 (dk_at dksX6_reading_4 14 rfl rfl)
theorem dX6_reading_110 : decode cX6_reading 110 = .ok (.iadd, 1) := dk_96 (dk_at dksX6_reading_4 15 rfl rfl)
theorem dX6_reading_111 : decode cX6_reading 111 = .ok (.iaload, 1) := dk_46 (dk_at dksX6_reading_4 16 rfl rfl)
theorem dX6_reading_112 : decode cX6_reading 112 = .ok (.iadd, 1) := dk_96 (dk_at dksX6_reading_4 17 rfl rfl)
theorem dX6_reading_113 : decode cX6_reading 113 = .ok (.iastore, 1) := dk_79 (dk_at dksX6_reading_4 18 rfl rfl)
theorem dX6_reading_114 : decode cX6_reading 114 = .ok (.iload_n 2, 1) := dk_28 (dk_at dksX6_reading_4 19 rfl rfl)
theorem dX6_reading_115 : decode cX6_reading 115 = .ok (.ireturn, 1) := dk_172 (dk_at dksX6_reading_4 20 rfl rfl)
abbrev cX6_lesser : ByteArray := prog_24_method_2_code
def yX6_lesser : MethodName := ⟨RX6, "lesser", "(II)I"⟩
def dkwX6_lesser_0 : List UInt8 := [26, 27, 162, 0, 7, 26, 167, 0, 4, 27, 172]
abbrev dktX6_lesser_0 : List UInt8 := dkwX6_lesser_0 ++ []
theorem dksX6_lesser_0 : cX6_lesser.data.toList.drop 0 = dktX6_lesser_0 := by decide +kernel
theorem dX6_lesser_0 : decode cX6_lesser 0 = .ok (.iload_n 0, 1) := dk_26 (dk_at dksX6_lesser_0 0 rfl rfl)
theorem dX6_lesser_1 : decode cX6_lesser 1 = .ok (.iload_n 1, 1) := dk_27 (dk_at dksX6_lesser_0 1 rfl rfl)
theorem dX6_lesser_2 : decode cX6_lesser 2 = .ok (.if_icmp .ge 7, 3) := dk_162 0 7 (dk_at dksX6_lesser_0 2 rfl rfl)
theorem dX6_lesser_5 : decode cX6_lesser 5 = .ok (.iload_n 0, 1) := dk_26 (dk_at dksX6_lesser_0 5 rfl rfl)
theorem dX6_lesser_6 : decode cX6_lesser 6 = .ok (.goto 4, 3) := dk_167 0 4 (dk_at dksX6_lesser_0 6 rfl rfl)
theorem dX6_lesser_9 : decode cX6_lesser 9 = .ok (.iload_n 1, 1) := dk_27 (dk_at dksX6_lesser_0 9 rfl rfl)
theorem dX6_lesser_10 : decode cX6_lesser 10 = .ok (.ireturn, 1) := dk_172 (dk_at dksX6_lesser_0 10 rfl rfl)
abbrev cX6_goodOr : ByteArray := prog_24_method_86_code
def yX6_goodOr : MethodName := ⟨RX6, "goodOr", "(I)I"⟩
def dkwX6_goodOr_0 : List UInt8 := [27, 156, 0, 11, 42, 27, 182, 0, 106, 167, 0, 8, 42, 27, 182, 0, 14, 172]
abbrev dktX6_goodOr_0 : List UInt8 := dkwX6_goodOr_0 ++ []
theorem dksX6_goodOr_0 : cX6_goodOr.data.toList.drop 0 = dktX6_goodOr_0 := by decide +kernel
theorem dX6_goodOr_0 : decode cX6_goodOr 0 = .ok (.iload_n 1, 1) := dk_27 (dk_at dksX6_goodOr_0 0 rfl rfl)
theorem dX6_goodOr_1 : decode cX6_goodOr 1 = .ok (.ifCond .ge 11, 3) := dk_156 0 11 (dk_at dksX6_goodOr_0 1 rfl rfl)
theorem dX6_goodOr_4 : decode cX6_goodOr 4 = .ok (.aload_n 0, 1) := dk_42 (dk_at dksX6_goodOr_0 4 rfl rfl)
theorem dX6_goodOr_5 : decode cX6_goodOr 5 = .ok (.iload_n 1, 1) := dk_27 (dk_at dksX6_goodOr_0 5 rfl rfl)
theorem dX6_goodOr_6 : decode cX6_goodOr 6 = .ok (.invokevirtual 106, 3) := dk_182 0 106 (dk_at dksX6_goodOr_0 6 rfl rfl)
theorem dX6_goodOr_9 : decode cX6_goodOr 9 = .ok (.goto 8, 3) := dk_167 0 8 (dk_at dksX6_goodOr_0 9 rfl rfl)
theorem dX6_goodOr_12 : decode cX6_goodOr 12 = .ok (.aload_n 0, 1) := dk_42 (dk_at dksX6_goodOr_0 12 rfl rfl)
theorem dX6_goodOr_13 : decode cX6_goodOr 13 = .ok (.iload_n 1, 1) := dk_27 (dk_at dksX6_goodOr_0 13 rfl rfl)
theorem dX6_goodOr_14 : decode cX6_goodOr 14 = .ok (.invokevirtual 14, 3) := dk_182 0 14 (dk_at dksX6_goodOr_0 14 rfl rfl)
theorem dX6_goodOr_17 : decode cX6_goodOr 17 = .ok (.ireturn, 1) := dk_172 (dk_at dksX6_goodOr_0 17 rfl rfl)
abbrev cX6_lose : ByteArray := prog_24_method_92_code
def yX6_lose : MethodName := ⟨RX6, "lose", "(I)I"⟩
def dkwX6_lose_0 : List UInt8 := [42, 42, 27, 182, 1, 114, 182, 1, 111, 172]
abbrev dktX6_lose_0 : List UInt8 := dkwX6_lose_0 ++ []
theorem dksX6_lose_0 : cX6_lose.data.toList.drop 0 = dktX6_lose_0 := by decide +kernel
theorem dX6_lose_0 : decode cX6_lose 0 = .ok (.aload_n 0, 1) := dk_42 (dk_at dksX6_lose_0 0 rfl rfl)
theorem dX6_lose_1 : decode cX6_lose 1 = .ok (.aload_n 0, 1) := dk_42 (dk_at dksX6_lose_0 1 rfl rfl)
theorem dX6_lose_2 : decode cX6_lose 2 = .ok (.iload_n 1, 1) := dk_27 (dk_at dksX6_lose_0 2 rfl rfl)
theorem dX6_lose_3 : decode cX6_lose 3 = .ok (.invokevirtual 370, 3) := dk_182 1 114 (dk_at dksX6_lose_0 3 rfl rfl)
theorem dX6_lose_6 : decode cX6_lose 6 = .ok (.invokevirtual 367, 3) := dk_182 1 111 (dk_at dksX6_lose_0 6 rfl rfl)
theorem dX6_lose_9 : decode cX6_lose 9 = .ok (.ireturn, 1) := dk_172 (dk_at dksX6_lose_0 9 rfl rfl)
abbrev cX6_losesKept : ByteArray := prog_24_method_88_code
def yX6_losesKept : MethodName := ⟨RX6, "losesKept", "(I)I"⟩
def dkwX6_losesKept_2 : List UInt8 := [184, 1, 48, 172]
abbrev dktX6_losesKept_2 : List UInt8 := dkwX6_losesKept_2 ++ []
def dkwX6_losesKept_1 : List UInt8 := [182, 1, 96, 42, 180, 0, 24, 3, 92, 46, 4, 27, 120, 2, 130, 126, 79, 42, 180, 0, 24, 3, 46]
abbrev dktX6_losesKept_1 : List UInt8 := dkwX6_losesKept_1 ++ dktX6_losesKept_2
def dkwX6_losesKept_0 : List UInt8 := [42, 27, 182, 0, 130, 154, 0, 6, 16, 254, 172, 42, 27, 182, 1, 102, 154, 0, 6, 16, 253, 172, 42, 4]
abbrev dktX6_losesKept_0 : List UInt8 := dkwX6_losesKept_0 ++ dktX6_losesKept_1
theorem dksX6_losesKept_0 : cX6_losesKept.data.toList.drop 0 = dktX6_losesKept_0 := by decide +kernel
theorem dksX6_losesKept_1 : cX6_losesKept.data.toList.drop 24 = dktX6_losesKept_1 := dk_seg dksX6_losesKept_0 24 rfl rfl
theorem dksX6_losesKept_2 : cX6_losesKept.data.toList.drop 47 = dktX6_losesKept_2 := dk_seg dksX6_losesKept_1 23 rfl rfl
theorem dX6_losesKept_0 : decode cX6_losesKept 0 = .ok (.aload_n 0, 1) := dk_42 (dk_at dksX6_losesKept_0 0 rfl rfl)
theorem dX6_losesKept_1 : decode cX6_losesKept 1 = .ok (.iload_n 1, 1) := dk_27 (dk_at dksX6_losesKept_0 1 rfl rfl)
theorem dX6_losesKept_2 : decode cX6_losesKept 2 = .ok (.invokevirtual 130, 3) := dk_182 0 130 (dk_at dksX6_losesKept_0 2 rfl rfl)
theorem dX6_losesKept_5 : decode cX6_losesKept 5 = .ok (.ifCond .ne 6, 3) := dk_154 0 6 (dk_at dksX6_losesKept_0 5 rfl rfl)
theorem dX6_losesKept_8 : decode cX6_losesKept 8 = .ok (.bipush (-2), 2) := dk_16 254 (dk_at dksX6_losesKept_0 8 rfl rfl)
theorem dX6_losesKept_10 : decode cX6_losesKept 10 = .ok (.ireturn, 1) := dk_172 (dk_at dksX6_losesKept_0 10 rfl rfl)
theorem dX6_losesKept_11 : decode cX6_losesKept 11 = .ok (.aload_n 0, 1) := dk_42 (dk_at dksX6_losesKept_0 11 rfl rfl)
theorem dX6_losesKept_12 : decode cX6_losesKept 12 = .ok (.iload_n 1, 1) := dk_27 (dk_at dksX6_losesKept_0 12 rfl rfl)
theorem dX6_losesKept_13 : decode cX6_losesKept 13 = .ok (.invokevirtual 358, 3) := dk_182 1 102 (dk_at dksX6_losesKept_0 13 rfl rfl)
theorem dX6_losesKept_16 : decode cX6_losesKept 16 = .ok (.ifCond .ne 6, 3) := dk_154 0 6 (dk_at dksX6_losesKept_0 16 rfl rfl)
theorem dX6_losesKept_19 : decode cX6_losesKept 19 = .ok (.bipush (-3), 2) := dk_16 253 (dk_at dksX6_losesKept_0 19 rfl rfl)
theorem dX6_losesKept_21 : decode cX6_losesKept 21 = .ok (.ireturn, 1) := dk_172 (dk_at dksX6_losesKept_0 21 rfl rfl)
theorem dX6_losesKept_22 : decode cX6_losesKept 22 = .ok (.aload_n 0, 1) := dk_42 (dk_at dksX6_losesKept_0 22 rfl rfl)
theorem dX6_losesKept_23 : decode cX6_losesKept 23 = .ok (.iconst 1, 1) := dk_4 (dk_at dksX6_losesKept_0 23 rfl rfl)
theorem dX6_losesKept_24 : decode cX6_losesKept 24 = .ok (.invokevirtual 352, 3) := dk_182 1 96 (dk_at dksX6_losesKept_1 0 rfl rfl)
theorem dX6_losesKept_27 : decode cX6_losesKept 27 = .ok (.aload_n 0, 1) := dk_42 (dk_at dksX6_losesKept_1 3 rfl rfl)
theorem dX6_losesKept_28 : decode cX6_losesKept 28 = .ok (.getfield 24, 3) := dk_180 0 24 (dk_at dksX6_losesKept_1 4 rfl rfl)
theorem dX6_losesKept_31 : decode cX6_losesKept 31 = .ok (.iconst 0, 1) := dk_3 (dk_at dksX6_losesKept_1 7 rfl rfl)
theorem dX6_losesKept_32 : decode cX6_losesKept 32 = .ok (.dup2, 1) := dk_92 (dk_at dksX6_losesKept_1 8 rfl rfl)
theorem dX6_losesKept_33 : decode cX6_losesKept 33 = .ok (.iaload, 1) := dk_46 (dk_at dksX6_losesKept_1 9 rfl rfl)
theorem dX6_losesKept_34 : decode cX6_losesKept 34 = .ok (.iconst 1, 1) := dk_4 (dk_at dksX6_losesKept_1 10 rfl rfl)
theorem dX6_losesKept_35 : decode cX6_losesKept 35 = .ok (.iload_n 1, 1) := dk_27 (dk_at dksX6_losesKept_1 11 rfl rfl)
theorem dX6_losesKept_36 : decode cX6_losesKept 36 = .ok (.ishl, 1) := dk_120 (dk_at dksX6_losesKept_1 12 rfl rfl)
theorem dX6_losesKept_37 : decode cX6_losesKept 37 = .ok (.iconst (-1), 1) := dk_2 (dk_at dksX6_losesKept_1 13 rfl rfl)
theorem dX6_losesKept_38 : decode cX6_losesKept 38 = .ok (.ixor, 1) := dk_130 (dk_at dksX6_losesKept_1 14 rfl rfl)
theorem dX6_losesKept_39 : decode cX6_losesKept 39 = .ok (.iand, 1) := dk_126 (dk_at dksX6_losesKept_1 15 rfl rfl)
theorem dX6_losesKept_40 : decode cX6_losesKept 40 = .ok (.iastore, 1) := dk_79 (dk_at dksX6_losesKept_1 16 rfl rfl)
theorem dX6_losesKept_41 : decode cX6_losesKept 41 = .ok (.aload_n 0, 1) := dk_42 (dk_at dksX6_losesKept_1 17 rfl rfl)
theorem dX6_losesKept_42 : decode cX6_losesKept 42 = .ok (.getfield 24, 3) := dk_180 0 24 (dk_at dksX6_losesKept_1 18 rfl rfl)
theorem dX6_losesKept_45 : decode cX6_losesKept 45 = .ok (.iconst 0, 1) := dk_3 (dk_at dksX6_losesKept_1 21 rfl rfl)
theorem dX6_losesKept_46 : decode cX6_losesKept 46 = .ok (.iaload, 1) := dk_46 (dk_at dksX6_losesKept_1 22 rfl rfl)
theorem dX6_losesKept_47 : decode cX6_losesKept 47 = .ok (.invokestatic 304, 3) := dk_184 1 48 (dk_at dksX6_losesKept_2 0 rfl rfl)
theorem dX6_losesKept_50 : decode cX6_losesKept 50 = .ok (.ireturn, 1) := dk_172 (dk_at dksX6_losesKept_2 3 rfl rfl)
abbrev cX6_canLose : ByteArray := prog_24_method_81_code
def yX6_canLose : MethodName := ⟨RX6, "canLose", "(I)Z"⟩
def dkwX6_canLose_2 : List UInt8 := [167, 0, 4, 3, 61, 132, 3, 1, 167, 255, 211, 28, 172]
abbrev dktX6_canLose_2 : List UInt8 := dkwX6_canLose_2 ++ []
def dkwX6_canLose_1 : List UInt8 := [182, 0, 134, 153, 0, 19, 42, 180, 0, 24, 16, 22, 29, 96, 46, 27, 184, 0, 119, 154, 0, 7, 4]
abbrev dktX6_canLose_1 : List UInt8 := dkwX6_canLose_1 ++ dktX6_canLose_2
def dkwX6_canLose_0 : List UInt8 := [42, 27, 182, 0, 134, 61, 3, 62, 29, 42, 182, 0, 112, 162, 0, 43, 28, 153, 0, 31, 42, 29]
abbrev dktX6_canLose_0 : List UInt8 := dkwX6_canLose_0 ++ dktX6_canLose_1
theorem dksX6_canLose_0 : cX6_canLose.data.toList.drop 0 = dktX6_canLose_0 := by decide +kernel
theorem dksX6_canLose_1 : cX6_canLose.data.toList.drop 22 = dktX6_canLose_1 := dk_seg dksX6_canLose_0 22 rfl rfl
theorem dksX6_canLose_2 : cX6_canLose.data.toList.drop 45 = dktX6_canLose_2 := dk_seg dksX6_canLose_1 23 rfl rfl
theorem dX6_canLose_0 : decode cX6_canLose 0 = .ok (.aload_n 0, 1) := dk_42 (dk_at dksX6_canLose_0 0 rfl rfl)
theorem dX6_canLose_1 : decode cX6_canLose 1 = .ok (.iload_n 1, 1) := dk_27 (dk_at dksX6_canLose_0 1 rfl rfl)
theorem dX6_canLose_2 : decode cX6_canLose 2 = .ok (.invokevirtual 134, 3) := dk_182 0 134 (dk_at dksX6_canLose_0 2 rfl rfl)
theorem dX6_canLose_5 : decode cX6_canLose 5 = .ok (.istore_n 2, 1) := dk_61 (dk_at dksX6_canLose_0 5 rfl rfl)
theorem dX6_canLose_6 : decode cX6_canLose 6 = .ok (.iconst 0, 1) := dk_3 (dk_at dksX6_canLose_0 6 rfl rfl)
theorem dX6_canLose_7 : decode cX6_canLose 7 = .ok (.istore_n 3, 1) := dk_62 (dk_at dksX6_canLose_0 7 rfl rfl)
theorem dX6_canLose_8 : decode cX6_canLose 8 = .ok (.iload_n 3, 1) := dk_29 (dk_at dksX6_canLose_0 8 rfl rfl)
theorem dX6_canLose_9 : decode cX6_canLose 9 = .ok (.aload_n 0, 1) := dk_42 (dk_at dksX6_canLose_0 9 rfl rfl)
theorem dX6_canLose_10 : decode cX6_canLose 10 = .ok (.invokevirtual 112, 3) := dk_182 0 112 (dk_at dksX6_canLose_0 10 rfl rfl)
theorem dX6_canLose_13 : decode cX6_canLose 13 = .ok (.if_icmp .ge 43, 3) := dk_162 0 43 (dk_at dksX6_canLose_0 13 rfl rfl)
theorem dX6_canLose_16 : decode cX6_canLose 16 = .ok (.iload_n 2, 1) := dk_28 (dk_at dksX6_canLose_0 16 rfl rfl)
theorem dX6_canLose_17 : decode cX6_canLose 17 = .ok (.ifCond .eq 31, 3) := dk_153 0 31 (dk_at dksX6_canLose_0 17 rfl rfl)
theorem dX6_canLose_20 : decode cX6_canLose 20 = .ok (.aload_n 0, 1) := dk_42 (dk_at dksX6_canLose_0 20 rfl rfl)
theorem dX6_canLose_21 : decode cX6_canLose 21 = .ok (.iload_n 3, 1) := dk_29 (dk_at dksX6_canLose_0 21 rfl rfl)
theorem dX6_canLose_22 : decode cX6_canLose 22 = .ok (.invokevirtual 134, 3) := dk_182 0 134 (dk_at dksX6_canLose_1 0 rfl rfl)
theorem dX6_canLose_25 : decode cX6_canLose 25 = .ok (.ifCond .eq 19, 3) := dk_153 0 19 (dk_at dksX6_canLose_1 3 rfl rfl)
theorem dX6_canLose_28 : decode cX6_canLose 28 = .ok (.aload_n 0, 1) := dk_42 (dk_at dksX6_canLose_1 6 rfl rfl)
theorem dX6_canLose_29 : decode cX6_canLose 29 = .ok (.getfield 24, 3) := dk_180 0 24 (dk_at dksX6_canLose_1 7 rfl rfl)
theorem dX6_canLose_32 : decode cX6_canLose 32 = .ok (.bipush 22, 2) := dk_16 22 (dk_at dksX6_canLose_1 10 rfl rfl)
theorem dX6_canLose_34 : decode cX6_canLose 34 = .ok (.iload_n 3, 1) := dk_29 (dk_at dksX6_canLose_1 12 rfl rfl)
theorem dX6_canLose_35 : decode cX6_canLose 35 = .ok (.iadd, 1) := dk_96 (dk_at dksX6_canLose_1 13 rfl rfl)
theorem dX6_canLose_36 : decode cX6_canLose 36 = .ok (.iaload, 1) := dk_46 (dk_at dksX6_canLose_1 14 rfl rfl)
theorem dX6_canLose_37 : decode cX6_canLose 37 = .ok (.iload_n 1, 1) := dk_27 (dk_at dksX6_canLose_1 15 rfl rfl)
theorem dX6_canLose_38 : decode cX6_canLose 38 = .ok (.invokestatic 119, 3) := dk_184 0 119 (dk_at dksX6_canLose_1 16 rfl rfl)
theorem dX6_canLose_41 : decode cX6_canLose 41 = .ok (.ifCond .ne 7, 3) := dk_154 0 7 (dk_at dksX6_canLose_1 19 rfl rfl)
theorem dX6_canLose_44 : decode cX6_canLose 44 = .ok (.iconst 1, 1) := dk_4 (dk_at dksX6_canLose_1 22 rfl rfl)
theorem dX6_canLose_45 : decode cX6_canLose 45 = .ok (.goto 4, 3) := dk_167 0 4 (dk_at dksX6_canLose_2 0 rfl rfl)
theorem dX6_canLose_48 : decode cX6_canLose 48 = .ok (.iconst 0, 1) := dk_3 (dk_at dksX6_canLose_2 3 rfl rfl)
theorem dX6_canLose_49 : decode cX6_canLose 49 = .ok (.istore_n 2, 1) := dk_61 (dk_at dksX6_canLose_2 4 rfl rfl)
theorem dX6_canLose_50 : decode cX6_canLose 50 = .ok (.iinc 3 1, 3) := dk_132 3 1 (dk_at dksX6_canLose_2 5 rfl rfl)
theorem dX6_canLose_53 : decode cX6_canLose 53 = .ok (.goto (-45), 3) := dk_167 255 211 (dk_at dksX6_canLose_2 8 rfl rfl)
theorem dX6_canLose_56 : decode cX6_canLose 56 = .ok (.iload_n 2, 1) := dk_28 (dk_at dksX6_canLose_2 11 rfl rfl)
theorem dX6_canLose_57 : decode cX6_canLose 57 = .ok (.ireturn, 1) := dk_172 (dk_at dksX6_canLose_2 12 rfl rfl)
abbrev cX6_cut : ByteArray := prog_24_method_93_code
def yX6_cut : MethodName := ⟨RX6, "cut", "(I)I"⟩
def dkwX6_cut_0 : List UInt8 := [42, 42, 27, 182, 1, 117, 182, 1, 111, 172]
abbrev dktX6_cut_0 : List UInt8 := dkwX6_cut_0 ++ []
theorem dksX6_cut_0 : cX6_cut.data.toList.drop 0 = dktX6_cut_0 := by decide +kernel
theorem dX6_cut_0 : decode cX6_cut 0 = .ok (.aload_n 0, 1) := dk_42 (dk_at dksX6_cut_0 0 rfl rfl)
theorem dX6_cut_1 : decode cX6_cut 1 = .ok (.aload_n 0, 1) := dk_42 (dk_at dksX6_cut_0 1 rfl rfl)
theorem dX6_cut_2 : decode cX6_cut 2 = .ok (.iload_n 1, 1) := dk_27 (dk_at dksX6_cut_0 2 rfl rfl)
theorem dX6_cut_3 : decode cX6_cut 3 = .ok (.invokevirtual 373, 3) := dk_182 1 117 (dk_at dksX6_cut_0 3 rfl rfl)
theorem dX6_cut_6 : decode cX6_cut 6 = .ok (.invokevirtual 367, 3) := dk_182 1 111 (dk_at dksX6_cut_0 6 rfl rfl)
theorem dX6_cut_9 : decode cX6_cut 9 = .ok (.ireturn, 1) := dk_172 (dk_at dksX6_cut_0 9 rfl rfl)
abbrev cX6_cutsKept : ByteArray := prog_24_method_89_code
def yX6_cutsKept : MethodName := ⟨RX6, "cutsKept", "(I)I"⟩
def dkwX6_cutsKept_1 : List UInt8 := [16, 253, 172, 42, 5, 182, 1, 96, 42, 180, 0, 24, 4, 27, 96, 3, 79, 28, 172]
abbrev dktX6_cutsKept_1 : List UInt8 := dkwX6_cutsKept_1 ++ []
def dkwX6_cutsKept_0 : List UInt8 := [42, 27, 182, 0, 143, 154, 0, 6, 16, 254, 172, 42, 180, 0, 24, 4, 27, 96, 46, 61, 28, 154, 0, 6]
abbrev dktX6_cutsKept_0 : List UInt8 := dkwX6_cutsKept_0 ++ dktX6_cutsKept_1
theorem dksX6_cutsKept_0 : cX6_cutsKept.data.toList.drop 0 = dktX6_cutsKept_0 := by decide +kernel
theorem dksX6_cutsKept_1 : cX6_cutsKept.data.toList.drop 24 = dktX6_cutsKept_1 := dk_seg dksX6_cutsKept_0 24 rfl rfl
theorem dX6_cutsKept_0 : decode cX6_cutsKept 0 = .ok (.aload_n 0, 1) := dk_42 (dk_at dksX6_cutsKept_0 0 rfl rfl)
theorem dX6_cutsKept_1 : decode cX6_cutsKept 1 = .ok (.iload_n 1, 1) := dk_27 (dk_at dksX6_cutsKept_0 1 rfl rfl)
theorem dX6_cutsKept_2 : decode cX6_cutsKept 2 = .ok (.invokevirtual 143, 3) := dk_182 0 143 (dk_at dksX6_cutsKept_0 2 rfl rfl)
theorem dX6_cutsKept_5 : decode cX6_cutsKept 5 = .ok (.ifCond .ne 6, 3) := dk_154 0 6 (dk_at dksX6_cutsKept_0 5 rfl rfl)
theorem dX6_cutsKept_8 : decode cX6_cutsKept 8 = .ok (.bipush (-2), 2) := dk_16 254 (dk_at dksX6_cutsKept_0 8 rfl rfl)
theorem dX6_cutsKept_10 : decode cX6_cutsKept 10 = .ok (.ireturn, 1) := dk_172 (dk_at dksX6_cutsKept_0 10 rfl rfl)
theorem dX6_cutsKept_11 : decode cX6_cutsKept 11 = .ok (.aload_n 0, 1) := dk_42 (dk_at dksX6_cutsKept_0 11 rfl rfl)
theorem dX6_cutsKept_12 : decode cX6_cutsKept 12 = .ok (.getfield 24, 3) := dk_180 0 24 (dk_at dksX6_cutsKept_0 12 rfl rfl)
theorem dX6_cutsKept_15 : decode cX6_cutsKept 15 = .ok (.iconst 1, 1) := dk_4 (dk_at dksX6_cutsKept_0 15 rfl rfl)
theorem dX6_cutsKept_16 : decode cX6_cutsKept 16 = .ok (.iload_n 1, 1) := dk_27 (dk_at dksX6_cutsKept_0 16 rfl rfl)
theorem dX6_cutsKept_17 : decode cX6_cutsKept 17 = .ok (.iadd, 1) := dk_96 (dk_at dksX6_cutsKept_0 17 rfl rfl)
theorem dX6_cutsKept_18 : decode cX6_cutsKept 18 = .ok (.iaload, 1) := dk_46 (dk_at dksX6_cutsKept_0 18 rfl rfl)
theorem dX6_cutsKept_19 : decode cX6_cutsKept 19 = .ok (.istore_n 2, 1) := dk_61 (dk_at dksX6_cutsKept_0 19 rfl rfl)
theorem dX6_cutsKept_20 : decode cX6_cutsKept 20 = .ok (.iload_n 2, 1) := dk_28 (dk_at dksX6_cutsKept_0 20 rfl rfl)
theorem dX6_cutsKept_21 : decode cX6_cutsKept 21 = .ok (.ifCond .ne 6, 3) := dk_154 0 6 (dk_at dksX6_cutsKept_0 21 rfl rfl)
theorem dX6_cutsKept_24 : decode cX6_cutsKept 24 = .ok (.bipush (-3), 2) := dk_16 253 (dk_at dksX6_cutsKept_1 0 rfl rfl)
theorem dX6_cutsKept_26 : decode cX6_cutsKept 26 = .ok (.ireturn, 1) := dk_172 (dk_at dksX6_cutsKept_1 2 rfl rfl)
theorem dX6_cutsKept_27 : decode cX6_cutsKept 27 = .ok (.aload_n 0, 1) := dk_42 (dk_at dksX6_cutsKept_1 3 rfl rfl)
theorem dX6_cutsKept_28 : decode cX6_cutsKept 28 = .ok (.iconst 2, 1) := dk_5 (dk_at dksX6_cutsKept_1 4 rfl rfl)
theorem dX6_cutsKept_29 : decode cX6_cutsKept 29 = .ok (.invokevirtual 352, 3) := dk_182 1 96 (dk_at dksX6_cutsKept_1 5 rfl rfl)
theorem dX6_cutsKept_32 : decode cX6_cutsKept 32 = .ok (.aload_n 0, 1) := dk_42 (dk_at dksX6_cutsKept_1 8 rfl rfl)
theorem dX6_cutsKept_33 : decode cX6_cutsKept 33 = .ok (.getfield 24, 3) := dk_180 0 24 (dk_at dksX6_cutsKept_1 9 rfl rfl)
theorem dX6_cutsKept_36 : decode cX6_cutsKept 36 = .ok (.iconst 1, 1) := dk_4 (dk_at dksX6_cutsKept_1 12 rfl rfl)
theorem dX6_cutsKept_37 : decode cX6_cutsKept 37 = .ok (.iload_n 1, 1) := dk_27 (dk_at dksX6_cutsKept_1 13 rfl rfl)
theorem dX6_cutsKept_38 : decode cX6_cutsKept 38 = .ok (.iadd, 1) := dk_96 (dk_at dksX6_cutsKept_1 14 rfl rfl)
theorem dX6_cutsKept_39 : decode cX6_cutsKept 39 = .ok (.iconst 0, 1) := dk_3 (dk_at dksX6_cutsKept_1 15 rfl rfl)
theorem dX6_cutsKept_40 : decode cX6_cutsKept 40 = .ok (.iastore, 1) := dk_79 (dk_at dksX6_cutsKept_1 16 rfl rfl)
theorem dX6_cutsKept_41 : decode cX6_cutsKept 41 = .ok (.iload_n 2, 1) := dk_28 (dk_at dksX6_cutsKept_1 17 rfl rfl)
theorem dX6_cutsKept_42 : decode cX6_cutsKept 42 = .ok (.ireturn, 1) := dk_172 (dk_at dksX6_cutsKept_1 18 rfl rfl)
abbrev cX6_pass : ByteArray := prog_24_method_94_code
def yX6_pass : MethodName := ⟨RX6, "pass", "()I"⟩
def dkwX6_pass_0 : List UInt8 := [42, 42, 182, 1, 120, 182, 1, 111, 172]
abbrev dktX6_pass_0 : List UInt8 := dkwX6_pass_0 ++ []
theorem dksX6_pass_0 : cX6_pass.data.toList.drop 0 = dktX6_pass_0 := by decide +kernel
theorem dX6_pass_0 : decode cX6_pass 0 = .ok (.aload_n 0, 1) := dk_42 (dk_at dksX6_pass_0 0 rfl rfl)
theorem dX6_pass_1 : decode cX6_pass 1 = .ok (.aload_n 0, 1) := dk_42 (dk_at dksX6_pass_0 1 rfl rfl)
theorem dX6_pass_2 : decode cX6_pass 2 = .ok (.invokevirtual 376, 3) := dk_182 1 120 (dk_at dksX6_pass_0 2 rfl rfl)
theorem dX6_pass_5 : decode cX6_pass 5 = .ok (.invokevirtual 367, 3) := dk_182 1 111 (dk_at dksX6_pass_0 5 rfl rfl)
theorem dX6_pass_8 : decode cX6_pass 8 = .ok (.ireturn, 1) := dk_172 (dk_at dksX6_pass_0 8 rfl rfl)
abbrev cX6_passesKept : ByteArray := prog_24_method_90_code
def yX6_passesKept : MethodName := ⟨RX6, "passesKept", "()I"⟩
def dkwX6_passesKept_1 : List UInt8 := [172]
abbrev dktX6_passesKept_1 : List UInt8 := dkwX6_passesKept_1 ++ []
def dkwX6_passesKept_0 : List UInt8 := [42, 180, 0, 24, 8, 46, 17, 3, 231, 160, 0, 6, 16, 253, 172, 42, 6, 182, 1, 96, 42, 182, 1, 105]
abbrev dktX6_passesKept_0 : List UInt8 := dkwX6_passesKept_0 ++ dktX6_passesKept_1
theorem dksX6_passesKept_0 : cX6_passesKept.data.toList.drop 0 = dktX6_passesKept_0 := by decide +kernel
theorem dksX6_passesKept_1 : cX6_passesKept.data.toList.drop 24 = dktX6_passesKept_1 := dk_seg dksX6_passesKept_0 24 rfl rfl
theorem dX6_passesKept_0 : decode cX6_passesKept 0 = .ok (.aload_n 0, 1) := dk_42 (dk_at dksX6_passesKept_0 0 rfl rfl)
theorem dX6_passesKept_1 : decode cX6_passesKept 1 = .ok (.getfield 24, 3) := dk_180 0 24 (dk_at dksX6_passesKept_0 1 rfl rfl)
theorem dX6_passesKept_4 : decode cX6_passesKept 4 = .ok (.iconst 5, 1) := dk_8 (dk_at dksX6_passesKept_0 4 rfl rfl)
theorem dX6_passesKept_5 : decode cX6_passesKept 5 = .ok (.iaload, 1) := dk_46 (dk_at dksX6_passesKept_0 5 rfl rfl)
theorem dX6_passesKept_6 : decode cX6_passesKept 6 = .ok (.sipush 999, 3) := dk_17 3 231 (dk_at dksX6_passesKept_0 6 rfl rfl)
theorem dX6_passesKept_9 : decode cX6_passesKept 9 = .ok (.if_icmp .ne 6, 3) := dk_160 0 6 (dk_at dksX6_passesKept_0 9 rfl rfl)
theorem dX6_passesKept_12 : decode cX6_passesKept 12 = .ok (.bipush (-3), 2) := dk_16 253 (dk_at dksX6_passesKept_0 12 rfl rfl)
theorem dX6_passesKept_14 : decode cX6_passesKept 14 = .ok (.ireturn, 1) := dk_172 (dk_at dksX6_passesKept_0 14 rfl rfl)
theorem dX6_passesKept_15 : decode cX6_passesKept 15 = .ok (.aload_n 0, 1) := dk_42 (dk_at dksX6_passesKept_0 15 rfl rfl)
theorem dX6_passesKept_16 : decode cX6_passesKept 16 = .ok (.iconst 3, 1) := dk_6 (dk_at dksX6_passesKept_0 16 rfl rfl)
theorem dX6_passesKept_17 : decode cX6_passesKept 17 = .ok (.invokevirtual 352, 3) := dk_182 1 96 (dk_at dksX6_passesKept_0 17 rfl rfl)
theorem dX6_passesKept_20 : decode cX6_passesKept 20 = .ok (.aload_n 0, 1) := dk_42 (dk_at dksX6_passesKept_0 20 rfl rfl)
theorem dX6_passesKept_21 : decode cX6_passesKept 21 = .ok (.invokevirtual 361, 3) := dk_182 1 105 (dk_at dksX6_passesKept_0 21 rfl rfl)
theorem dX6_passesKept_24 : decode cX6_passesKept 24 = .ok (.ireturn, 1) := dk_172 (dk_at dksX6_passesKept_1 0 rfl rfl)
abbrev cX6_dayPasses : ByteArray := prog_24_method_83_code
def yX6_dayPasses : MethodName := ⟨RX6, "dayPasses", "()I"⟩
def dkwX6_dayPasses_4 : List UInt8 := [167, 255, 196, 42, 180, 0, 24, 8, 92, 46, 4, 96, 79, 27, 172]
abbrev dktX6_dayPasses_4 : List UInt8 := dkwX6_dayPasses_4 ++ []
def dkwX6_dayPasses_3 : List UInt8 := [162, 0, 7, 4, 167, 0, 4, 3, 96, 60, 42, 180, 0, 24, 4, 28, 96, 29, 79, 132, 2, 1]
abbrev dktX6_dayPasses_3 : List UInt8 := dkwX6_dayPasses_3 ++ dktX6_dayPasses_4
def dkwX6_dayPasses_2 : List UInt8 := [46, 42, 180, 0, 62, 28, 46, 100, 184, 1, 90, 62, 27, 29, 42, 180, 0, 24, 4, 28, 96, 46]
abbrev dktX6_dayPasses_2 : List UInt8 := dkwX6_dayPasses_2 ++ dktX6_dayPasses_3
def dkwX6_dayPasses_1 : List UInt8 := [132, 2, 1, 167, 255, 234, 3, 61, 28, 42, 182, 0, 116, 162, 0, 58, 3, 42, 180, 0, 24, 4, 28, 96]
abbrev dktX6_dayPasses_1 : List UInt8 := dkwX6_dayPasses_1 ++ dktX6_dayPasses_2
def dkwX6_dayPasses_0 : List UInt8 := [3, 60, 3, 61, 28, 42, 182, 0, 116, 162, 0, 20, 42, 180, 0, 62, 28, 42, 28, 182, 0, 150, 79]
abbrev dktX6_dayPasses_0 : List UInt8 := dkwX6_dayPasses_0 ++ dktX6_dayPasses_1
theorem dksX6_dayPasses_0 : cX6_dayPasses.data.toList.drop 0 = dktX6_dayPasses_0 := by decide +kernel
theorem dksX6_dayPasses_1 : cX6_dayPasses.data.toList.drop 23 = dktX6_dayPasses_1 := dk_seg dksX6_dayPasses_0 23 rfl rfl
theorem dksX6_dayPasses_2 : cX6_dayPasses.data.toList.drop 47 = dktX6_dayPasses_2 := dk_seg dksX6_dayPasses_1 24 rfl rfl
theorem dksX6_dayPasses_3 : cX6_dayPasses.data.toList.drop 69 = dktX6_dayPasses_3 := dk_seg dksX6_dayPasses_2 22 rfl rfl
theorem dksX6_dayPasses_4 : cX6_dayPasses.data.toList.drop 91 = dktX6_dayPasses_4 := dk_seg dksX6_dayPasses_3 22 rfl rfl
theorem dX6_dayPasses_0 : decode cX6_dayPasses 0 = .ok (.iconst 0, 1) := dk_3 (dk_at dksX6_dayPasses_0 0 rfl rfl)
theorem dX6_dayPasses_1 : decode cX6_dayPasses 1 = .ok (.istore_n 1, 1) := dk_60 (dk_at dksX6_dayPasses_0 1 rfl rfl)
theorem dX6_dayPasses_2 : decode cX6_dayPasses 2 = .ok (.iconst 0, 1) := dk_3 (dk_at dksX6_dayPasses_0 2 rfl rfl)
theorem dX6_dayPasses_3 : decode cX6_dayPasses 3 = .ok (.istore_n 2, 1) := dk_61 (dk_at dksX6_dayPasses_0 3 rfl rfl)
theorem dX6_dayPasses_4 : decode cX6_dayPasses 4 = .ok (.iload_n 2, 1) := dk_28 (dk_at dksX6_dayPasses_0 4 rfl rfl)
theorem dX6_dayPasses_5 : decode cX6_dayPasses 5 = .ok (.aload_n 0, 1) := dk_42 (dk_at dksX6_dayPasses_0 5 rfl rfl)
theorem dX6_dayPasses_6 : decode cX6_dayPasses 6 = .ok (.invokevirtual 116, 3) := dk_182 0 116 (dk_at dksX6_dayPasses_0 6 rfl rfl)
theorem dX6_dayPasses_9 : decode cX6_dayPasses 9 = .ok (.if_icmp .ge 20, 3) := dk_162 0 20 (dk_at dksX6_dayPasses_0 9 rfl rfl)
theorem dX6_dayPasses_12 : decode cX6_dayPasses 12 = .ok (.aload_n 0, 1) := dk_42 (dk_at dksX6_dayPasses_0 12 rfl rfl)
theorem dX6_dayPasses_13 : decode cX6_dayPasses 13 = .ok (.getfield 62, 3) := dk_180 0 62 (dk_at dksX6_dayPasses_0 13 rfl rfl)
theorem dX6_dayPasses_16 : decode cX6_dayPasses 16 = .ok (.iload_n 2, 1) := dk_28 (dk_at dksX6_dayPasses_0 16 rfl rfl)
theorem dX6_dayPasses_17 : decode cX6_dayPasses 17 = .ok (.aload_n 0, 1) := dk_42 (dk_at dksX6_dayPasses_0 17 rfl rfl)
theorem dX6_dayPasses_18 : decode cX6_dayPasses 18 = .ok (.iload_n 2, 1) := dk_28 (dk_at dksX6_dayPasses_0 18 rfl rfl)
theorem dX6_dayPasses_19 : decode cX6_dayPasses 19 = .ok (.invokevirtual 150, 3) := dk_182 0 150 (dk_at dksX6_dayPasses_0 19 rfl rfl)
theorem dX6_dayPasses_22 : decode cX6_dayPasses 22 = .ok (.iastore, 1) := dk_79 (dk_at dksX6_dayPasses_0 22 rfl rfl)
theorem dX6_dayPasses_23 : decode cX6_dayPasses 23 = .ok (.iinc 2 1, 3) := dk_132 2 1 (dk_at dksX6_dayPasses_1 0 rfl rfl)
theorem dX6_dayPasses_26 : decode cX6_dayPasses 26 = .ok (.goto (-22), 3) := dk_167 255 234 (dk_at dksX6_dayPasses_1 3 rfl rfl)
theorem dX6_dayPasses_29 : decode cX6_dayPasses 29 = .ok (.iconst 0, 1) := dk_3 (dk_at dksX6_dayPasses_1 6 rfl rfl)
theorem dX6_dayPasses_30 : decode cX6_dayPasses 30 = .ok (.istore_n 2, 1) := dk_61 (dk_at dksX6_dayPasses_1 7 rfl rfl)
theorem dX6_dayPasses_31 : decode cX6_dayPasses 31 = .ok (.iload_n 2, 1) := dk_28 (dk_at dksX6_dayPasses_1 8 rfl rfl)
theorem dX6_dayPasses_32 : decode cX6_dayPasses 32 = .ok (.aload_n 0, 1) := dk_42 (dk_at dksX6_dayPasses_1 9 rfl rfl)
theorem dX6_dayPasses_33 : decode cX6_dayPasses 33 = .ok (.invokevirtual 116, 3) := dk_182 0 116 (dk_at dksX6_dayPasses_1 10 rfl rfl)
theorem dX6_dayPasses_36 : decode cX6_dayPasses 36 = .ok (.if_icmp .ge 58, 3) := dk_162 0 58 (dk_at dksX6_dayPasses_1 13 rfl rfl)
theorem dX6_dayPasses_39 : decode cX6_dayPasses 39 = .ok (.iconst 0, 1) := dk_3 (dk_at dksX6_dayPasses_1 16 rfl rfl)
theorem dX6_dayPasses_40 : decode cX6_dayPasses 40 = .ok (.aload_n 0, 1) := dk_42 (dk_at dksX6_dayPasses_1 17 rfl rfl)
theorem dX6_dayPasses_41 : decode cX6_dayPasses 41 = .ok (.getfield 24, 3) := dk_180 0 24 (dk_at dksX6_dayPasses_1 18 rfl rfl)
theorem dX6_dayPasses_44 : decode cX6_dayPasses 44 = .ok (.iconst 1, 1) := dk_4 (dk_at dksX6_dayPasses_1 21 rfl rfl)
theorem dX6_dayPasses_45 : decode cX6_dayPasses 45 = .ok (.iload_n 2, 1) := dk_28 (dk_at dksX6_dayPasses_1 22 rfl rfl)
theorem dX6_dayPasses_46 : decode cX6_dayPasses 46 = .ok (.iadd, 1) := dk_96 (dk_at dksX6_dayPasses_1 23 rfl rfl)
theorem dX6_dayPasses_47 : decode cX6_dayPasses 47 = .ok (.iaload, 1) := dk_46 (dk_at dksX6_dayPasses_2 0 rfl rfl)
theorem dX6_dayPasses_48 : decode cX6_dayPasses 48 = .ok (.aload_n 0, 1) := dk_42 (dk_at dksX6_dayPasses_2 1 rfl rfl)
theorem dX6_dayPasses_49 : decode cX6_dayPasses 49 = .ok (.getfield 62, 3) := dk_180 0 62 (dk_at dksX6_dayPasses_2 2 rfl rfl)
theorem dX6_dayPasses_52 : decode cX6_dayPasses 52 = .ok (.iload_n 2, 1) := dk_28 (dk_at dksX6_dayPasses_2 5 rfl rfl)
theorem dX6_dayPasses_53 : decode cX6_dayPasses 53 = .ok (.iaload, 1) := dk_46 (dk_at dksX6_dayPasses_2 6 rfl rfl)
theorem dX6_dayPasses_54 : decode cX6_dayPasses 54 = .ok (.isub, 1) := dk_100 (dk_at dksX6_dayPasses_2 7 rfl rfl)
theorem dX6_dayPasses_55 : decode cX6_dayPasses 55 = .ok (.invokestatic 346, 3) := dk_184 1 90 (dk_at dksX6_dayPasses_2 8 rfl rfl)
theorem dX6_dayPasses_58 : decode cX6_dayPasses 58 = .ok (.istore_n 3, 1) := dk_62 (dk_at dksX6_dayPasses_2 11 rfl rfl)
theorem dX6_dayPasses_59 : decode cX6_dayPasses 59 = .ok (.iload_n 1, 1) := dk_27 (dk_at dksX6_dayPasses_2 12 rfl rfl)
theorem dX6_dayPasses_60 : decode cX6_dayPasses 60 = .ok (.iload_n 3, 1) := dk_29 (dk_at dksX6_dayPasses_2 13 rfl rfl)
theorem dX6_dayPasses_61 : decode cX6_dayPasses 61 = .ok (.aload_n 0, 1) := dk_42 (dk_at dksX6_dayPasses_2 14 rfl rfl)
theorem dX6_dayPasses_62 : decode cX6_dayPasses 62 = .ok (.getfield 24, 3) := dk_180 0 24 (dk_at dksX6_dayPasses_2 15 rfl rfl)
theorem dX6_dayPasses_65 : decode cX6_dayPasses 65 = .ok (.iconst 1, 1) := dk_4 (dk_at dksX6_dayPasses_2 18 rfl rfl)
theorem dX6_dayPasses_66 : decode cX6_dayPasses 66 = .ok (.iload_n 2, 1) := dk_28 (dk_at dksX6_dayPasses_2 19 rfl rfl)
theorem dX6_dayPasses_67 : decode cX6_dayPasses 67 = .ok (.iadd, 1) := dk_96 (dk_at dksX6_dayPasses_2 20 rfl rfl)
theorem dX6_dayPasses_68 : decode cX6_dayPasses 68 = .ok (.iaload, 1) := dk_46 (dk_at dksX6_dayPasses_2 21 rfl rfl)
theorem dX6_dayPasses_69 : decode cX6_dayPasses 69 = .ok (.if_icmp .ge 7, 3) := dk_162 0 7 (dk_at dksX6_dayPasses_3 0 rfl rfl)
theorem dX6_dayPasses_72 : decode cX6_dayPasses 72 = .ok (.iconst 1, 1) := dk_4 (dk_at dksX6_dayPasses_3 3 rfl rfl)
theorem dX6_dayPasses_73 : decode cX6_dayPasses 73 = .ok (.goto 4, 3) := dk_167 0 4 (dk_at dksX6_dayPasses_3 4 rfl rfl)
theorem dX6_dayPasses_76 : decode cX6_dayPasses 76 = .ok (.iconst 0, 1) := dk_3 (dk_at dksX6_dayPasses_3 7 rfl rfl)
theorem dX6_dayPasses_77 : decode cX6_dayPasses 77 = .ok (.iadd, 1) := dk_96 (dk_at dksX6_dayPasses_3 8 rfl rfl)
theorem dX6_dayPasses_78 : decode cX6_dayPasses 78 = .ok (.istore_n 1, 1) := dk_60 (dk_at dksX6_dayPasses_3 9 rfl rfl)
theorem dX6_dayPasses_79 : decode cX6_dayPasses 79 = .ok (.aload_n 0, 1) := dk_42 (dk_at dksX6_dayPasses_3 10 rfl rfl)
theorem dX6_dayPasses_80 : decode cX6_dayPasses 80 = .ok (.getfield 24, 3) := dk_180 0 24 (dk_at dksX6_dayPasses_3 11 rfl rfl)
theorem dX6_dayPasses_83 : decode cX6_dayPasses 83 = .ok (.iconst 1, 1) := dk_4 (dk_at dksX6_dayPasses_3 14 rfl rfl)
theorem dX6_dayPasses_84 : decode cX6_dayPasses 84 = .ok (.iload_n 2, 1) := dk_28 (dk_at dksX6_dayPasses_3 15 rfl rfl)
theorem dX6_dayPasses_85 : decode cX6_dayPasses 85 = .ok (.iadd, 1) := dk_96 (dk_at dksX6_dayPasses_3 16 rfl rfl)
theorem dX6_dayPasses_86 : decode cX6_dayPasses 86 = .ok (.iload_n 3, 1) := dk_29 (dk_at dksX6_dayPasses_3 17 rfl rfl)
theorem dX6_dayPasses_87 : decode cX6_dayPasses 87 = .ok (.iastore, 1) := dk_79 (dk_at dksX6_dayPasses_3 18 rfl rfl)
theorem dX6_dayPasses_88 : decode cX6_dayPasses 88 = .ok (.iinc 2 1, 3) := dk_132 2 1 (dk_at dksX6_dayPasses_3 19 rfl rfl)
theorem dX6_dayPasses_91 : decode cX6_dayPasses 91 = .ok (.goto (-60), 3) := dk_167 255 196 (dk_at dksX6_dayPasses_4 0 rfl rfl)
theorem dX6_dayPasses_94 : decode cX6_dayPasses 94 = .ok (.aload_n 0, 1) := dk_42 (dk_at dksX6_dayPasses_4 3 rfl rfl)
theorem dX6_dayPasses_95 : decode cX6_dayPasses 95 = .ok (.getfield 24, 3) := dk_180 0 24 (dk_at dksX6_dayPasses_4 4 rfl rfl)
theorem dX6_dayPasses_98 : decode cX6_dayPasses 98 = .ok (.iconst 5, 1) := dk_8 (dk_at dksX6_dayPasses_4 7 rfl rfl)
theorem dX6_dayPasses_99 : decode cX6_dayPasses 99 = .ok (.dup2, 1) := dk_92 (dk_at dksX6_dayPasses_4 8 rfl rfl)
theorem dX6_dayPasses_100 : decode cX6_dayPasses 100 = .ok (.iaload, 1) := dk_46 (dk_at dksX6_dayPasses_4 9 rfl rfl)
theorem dX6_dayPasses_101 : decode cX6_dayPasses 101 = .ok (.iconst 1, 1) := dk_4 (dk_at dksX6_dayPasses_4 10 rfl rfl)
theorem dX6_dayPasses_102 : decode cX6_dayPasses 102 = .ok (.iadd, 1) := dk_96 (dk_at dksX6_dayPasses_4 11 rfl rfl)
theorem dX6_dayPasses_103 : decode cX6_dayPasses 103 = .ok (.iastore, 1) := dk_79 (dk_at dksX6_dayPasses_4 12 rfl rfl)
theorem dX6_dayPasses_104 : decode cX6_dayPasses 104 = .ok (.iload_n 1, 1) := dk_27 (dk_at dksX6_dayPasses_4 13 rfl rfl)
theorem dX6_dayPasses_105 : decode cX6_dayPasses 105 = .ok (.ireturn, 1) := dk_172 (dk_at dksX6_dayPasses_4 14 rfl rfl)
abbrev cX6_greater : ByteArray := prog_24_method_3_code
def yX6_greater : MethodName := ⟨RX6, "greater", "(II)I"⟩
def dkwX6_greater_0 : List UInt8 := [26, 27, 164, 0, 7, 26, 167, 0, 4, 27, 172]
abbrev dktX6_greater_0 : List UInt8 := dkwX6_greater_0 ++ []
theorem dksX6_greater_0 : cX6_greater.data.toList.drop 0 = dktX6_greater_0 := by decide +kernel
theorem dX6_greater_0 : decode cX6_greater 0 = .ok (.iload_n 0, 1) := dk_26 (dk_at dksX6_greater_0 0 rfl rfl)
theorem dX6_greater_1 : decode cX6_greater 1 = .ok (.iload_n 1, 1) := dk_27 (dk_at dksX6_greater_0 1 rfl rfl)
theorem dX6_greater_2 : decode cX6_greater 2 = .ok (.if_icmp .le 7, 3) := dk_164 0 7 (dk_at dksX6_greater_0 2 rfl rfl)
theorem dX6_greater_5 : decode cX6_greater 5 = .ok (.iload_n 0, 1) := dk_26 (dk_at dksX6_greater_0 5 rfl rfl)
theorem dX6_greater_6 : decode cX6_greater 6 = .ok (.goto 4, 3) := dk_167 0 4 (dk_at dksX6_greater_0 6 rfl rfl)
theorem dX6_greater_9 : decode cX6_greater 9 = .ok (.iload_n 1, 1) := dk_27 (dk_at dksX6_greater_0 9 rfl rfl)
theorem dX6_greater_10 : decode cX6_greater 10 = .ok (.ireturn, 1) := dk_172 (dk_at dksX6_greater_0 10 rfl rfl)
abbrev cX6_needs : ByteArray := prog_24_method_96_code
def yX6_needs : MethodName := ⟨RX6, "needs", "(I)I"⟩
def dkwX6_needs_0 : List UInt8 := [42, 27, 182, 0, 130, 153, 0, 11, 42, 27, 182, 1, 123, 167, 0, 4, 2, 172]
abbrev dktX6_needs_0 : List UInt8 := dkwX6_needs_0 ++ []
theorem dksX6_needs_0 : cX6_needs.data.toList.drop 0 = dktX6_needs_0 := by decide +kernel
theorem dX6_needs_0 : decode cX6_needs 0 = .ok (.aload_n 0, 1) := dk_42 (dk_at dksX6_needs_0 0 rfl rfl)
theorem dX6_needs_1 : decode cX6_needs 1 = .ok (.iload_n 1, 1) := dk_27 (dk_at dksX6_needs_0 1 rfl rfl)
theorem dX6_needs_2 : decode cX6_needs 2 = .ok (.invokevirtual 130, 3) := dk_182 0 130 (dk_at dksX6_needs_0 2 rfl rfl)
theorem dX6_needs_5 : decode cX6_needs 5 = .ok (.ifCond .eq 11, 3) := dk_153 0 11 (dk_at dksX6_needs_0 5 rfl rfl)
theorem dX6_needs_8 : decode cX6_needs 8 = .ok (.aload_n 0, 1) := dk_42 (dk_at dksX6_needs_0 8 rfl rfl)
theorem dX6_needs_9 : decode cX6_needs 9 = .ok (.iload_n 1, 1) := dk_27 (dk_at dksX6_needs_0 9 rfl rfl)
theorem dX6_needs_10 : decode cX6_needs 10 = .ok (.invokevirtual 379, 3) := dk_182 1 123 (dk_at dksX6_needs_0 10 rfl rfl)
theorem dX6_needs_13 : decode cX6_needs 13 = .ok (.goto 4, 3) := dk_167 0 4 (dk_at dksX6_needs_0 13 rfl rfl)
theorem dX6_needs_16 : decode cX6_needs 16 = .ok (.iconst (-1), 1) := dk_2 (dk_at dksX6_needs_0 16 rfl rfl)
theorem dX6_needs_17 : decode cX6_needs 17 = .ok (.ireturn, 1) := dk_172 (dk_at dksX6_needs_0 17 rfl rfl)
abbrev cX6_allNeeds : ByteArray := prog_24_method_95_code
def yX6_allNeeds : MethodName := ⟨RX6, "allNeeds", "(I)I"⟩
def dkwX6_allNeeds_2 : List UInt8 := [21, 4, 96, 46, 167, 0, 4, 3, 128, 61, 132, 4, 1, 167, 255, 218, 167, 255, 205, 28, 172]
abbrev dktX6_allNeeds_2 : List UInt8 := dkwX6_allNeeds_2 ++ []
def dkwX6_allNeeds_1 : List UInt8 := [42, 182, 0, 112, 162, 0, 35, 28, 29, 21, 4, 184, 0, 119, 153, 0, 16, 42, 180, 0, 24, 16, 22]
abbrev dktX6_allNeeds_1 : List UInt8 := dkwX6_allNeeds_1 ++ dktX6_allNeeds_2
def dkwX6_allNeeds_0 : List UInt8 := [42, 180, 0, 24, 16, 22, 27, 96, 46, 61, 2, 62, 28, 29, 159, 0, 52, 28, 62, 3, 54, 4, 21, 4]
abbrev dktX6_allNeeds_0 : List UInt8 := dkwX6_allNeeds_0 ++ dktX6_allNeeds_1
theorem dksX6_allNeeds_0 : cX6_allNeeds.data.toList.drop 0 = dktX6_allNeeds_0 := by decide +kernel
theorem dksX6_allNeeds_1 : cX6_allNeeds.data.toList.drop 24 = dktX6_allNeeds_1 := dk_seg dksX6_allNeeds_0 24 rfl rfl
theorem dksX6_allNeeds_2 : cX6_allNeeds.data.toList.drop 47 = dktX6_allNeeds_2 := dk_seg dksX6_allNeeds_1 23 rfl rfl
theorem dX6_allNeeds_0 : decode cX6_allNeeds 0 = .ok (.aload_n 0, 1) := dk_42 (dk_at dksX6_allNeeds_0 0 rfl rfl)
theorem dX6_allNeeds_1 : decode cX6_allNeeds 1 = .ok (.getfield 24, 3) := dk_180 0 24 (dk_at dksX6_allNeeds_0 1 rfl rfl)
theorem dX6_allNeeds_4 : decode cX6_allNeeds 4 = .ok (.bipush 22, 2) := dk_16 22 (dk_at dksX6_allNeeds_0 4 rfl rfl)
theorem dX6_allNeeds_6 : decode cX6_allNeeds 6 = .ok (.iload_n 1, 1) := dk_27 (dk_at dksX6_allNeeds_0 6 rfl rfl)
theorem dX6_allNeeds_7 : decode cX6_allNeeds 7 = .ok (.iadd, 1) := dk_96 (dk_at dksX6_allNeeds_0 7 rfl rfl)
theorem dX6_allNeeds_8 : decode cX6_allNeeds 8 = .ok (.iaload, 1) := dk_46 (dk_at dksX6_allNeeds_0 8 rfl rfl)
theorem dX6_allNeeds_9 : decode cX6_allNeeds 9 = .ok (.istore_n 2, 1) := dk_61 (dk_at dksX6_allNeeds_0 9 rfl rfl)
theorem dX6_allNeeds_10 : decode cX6_allNeeds 10 = .ok (.iconst (-1), 1) := dk_2 (dk_at dksX6_allNeeds_0 10 rfl rfl)
theorem dX6_allNeeds_11 : decode cX6_allNeeds 11 = .ok (.istore_n 3, 1) := dk_62 (dk_at dksX6_allNeeds_0 11 rfl rfl)
theorem dX6_allNeeds_12 : decode cX6_allNeeds 12 = .ok (.iload_n 2, 1) := dk_28 (dk_at dksX6_allNeeds_0 12 rfl rfl)
theorem dX6_allNeeds_13 : decode cX6_allNeeds 13 = .ok (.iload_n 3, 1) := dk_29 (dk_at dksX6_allNeeds_0 13 rfl rfl)
theorem dX6_allNeeds_14 : decode cX6_allNeeds 14 = .ok (.if_icmp .eq 52, 3) := dk_159 0 52 (dk_at dksX6_allNeeds_0 14 rfl rfl)
theorem dX6_allNeeds_17 : decode cX6_allNeeds 17 = .ok (.iload_n 2, 1) := dk_28 (dk_at dksX6_allNeeds_0 17 rfl rfl)
theorem dX6_allNeeds_18 : decode cX6_allNeeds 18 = .ok (.istore_n 3, 1) := dk_62 (dk_at dksX6_allNeeds_0 18 rfl rfl)
theorem dX6_allNeeds_19 : decode cX6_allNeeds 19 = .ok (.iconst 0, 1) := dk_3 (dk_at dksX6_allNeeds_0 19 rfl rfl)
theorem dX6_allNeeds_20 : decode cX6_allNeeds 20 = .ok (.istore 4, 2) := dk_54 4 (dk_at dksX6_allNeeds_0 20 rfl rfl)
theorem dX6_allNeeds_22 : decode cX6_allNeeds 22 = .ok (.iload 4, 2) := dk_21 4 (dk_at dksX6_allNeeds_0 22 rfl rfl)
theorem dX6_allNeeds_24 : decode cX6_allNeeds 24 = .ok (.aload_n 0, 1) := dk_42 (dk_at dksX6_allNeeds_1 0 rfl rfl)
theorem dX6_allNeeds_25 : decode cX6_allNeeds 25 = .ok (.invokevirtual 112, 3) := dk_182 0 112 (dk_at dksX6_allNeeds_1 1 rfl rfl)
theorem dX6_allNeeds_28 : decode cX6_allNeeds 28 = .ok (.if_icmp .ge 35, 3) := dk_162 0 35 (dk_at dksX6_allNeeds_1 4 rfl rfl)
theorem dX6_allNeeds_31 : decode cX6_allNeeds 31 = .ok (.iload_n 2, 1) := dk_28 (dk_at dksX6_allNeeds_1 7 rfl rfl)
theorem dX6_allNeeds_32 : decode cX6_allNeeds 32 = .ok (.iload_n 3, 1) := dk_29 (dk_at dksX6_allNeeds_1 8 rfl rfl)
theorem dX6_allNeeds_33 : decode cX6_allNeeds 33 = .ok (.iload 4, 2) := dk_21 4 (dk_at dksX6_allNeeds_1 9 rfl rfl)
theorem dX6_allNeeds_35 : decode cX6_allNeeds 35 = .ok (.invokestatic 119, 3) := dk_184 0 119 (dk_at dksX6_allNeeds_1 11 rfl rfl)
theorem dX6_allNeeds_38 : decode cX6_allNeeds 38 = .ok (.ifCond .eq 16, 3) := dk_153 0 16 (dk_at dksX6_allNeeds_1 14 rfl rfl)
theorem dX6_allNeeds_41 : decode cX6_allNeeds 41 = .ok (.aload_n 0, 1) := dk_42 (dk_at dksX6_allNeeds_1 17 rfl rfl)
theorem dX6_allNeeds_42 : decode cX6_allNeeds 42 = .ok (.getfield 24, 3) := dk_180 0 24 (dk_at dksX6_allNeeds_1 18 rfl rfl)
theorem dX6_allNeeds_45 : decode cX6_allNeeds 45 = .ok (.bipush 22, 2) := dk_16 22 (dk_at dksX6_allNeeds_1 21 rfl rfl)
theorem dX6_allNeeds_47 : decode cX6_allNeeds 47 = .ok (.iload 4, 2) := dk_21 4 (dk_at dksX6_allNeeds_2 0 rfl rfl)
theorem dX6_allNeeds_49 : decode cX6_allNeeds 49 = .ok (.iadd, 1) := dk_96 (dk_at dksX6_allNeeds_2 2 rfl rfl)
theorem dX6_allNeeds_50 : decode cX6_allNeeds 50 = .ok (.iaload, 1) := dk_46 (dk_at dksX6_allNeeds_2 3 rfl rfl)
theorem dX6_allNeeds_51 : decode cX6_allNeeds 51 = .ok (.goto 4, 3) := dk_167 0 4 (dk_at dksX6_allNeeds_2 4 rfl rfl)
theorem dX6_allNeeds_54 : decode cX6_allNeeds 54 = .ok (.iconst 0, 1) := dk_3 (dk_at dksX6_allNeeds_2 7 rfl rfl)
theorem dX6_allNeeds_55 : decode cX6_allNeeds 55 = .ok (.ior, 1) := dk_128 (dk_at dksX6_allNeeds_2 8 rfl rfl)
theorem dX6_allNeeds_56 : decode cX6_allNeeds 56 = .ok (.istore_n 2, 1) := dk_61 (dk_at dksX6_allNeeds_2 9 rfl rfl)
theorem dX6_allNeeds_57 : decode cX6_allNeeds 57 = .ok (.iinc 4 1, 3) := dk_132 4 1 (dk_at dksX6_allNeeds_2 10 rfl rfl)
theorem dX6_allNeeds_60 : decode cX6_allNeeds 60 = .ok (.goto (-38), 3) := dk_167 255 218 (dk_at dksX6_allNeeds_2 13 rfl rfl)
theorem dX6_allNeeds_63 : decode cX6_allNeeds 63 = .ok (.goto (-51), 3) := dk_167 255 205 (dk_at dksX6_allNeeds_2 16 rfl rfl)
theorem dX6_allNeeds_66 : decode cX6_allNeeds 66 = .ok (.iload_n 2, 1) := dk_28 (dk_at dksX6_allNeeds_2 19 rfl rfl)
theorem dX6_allNeeds_67 : decode cX6_allNeeds 67 = .ok (.ireturn, 1) := dk_172 (dk_at dksX6_allNeeds_2 20 rfl rfl)
abbrev cX6_never : ByteArray := prog_24_method_99_code
def yX6_never : MethodName := ⟨RX6, "never", "()I"⟩
def dkwX6_never_0 : List UInt8 := [42, 182, 1, 126, 42, 182, 1, 129, 2, 130, 126, 172]
abbrev dktX6_never_0 : List UInt8 := dkwX6_never_0 ++ []
theorem dksX6_never_0 : cX6_never.data.toList.drop 0 = dktX6_never_0 := by decide +kernel
theorem dX6_never_0 : decode cX6_never 0 = .ok (.aload_n 0, 1) := dk_42 (dk_at dksX6_never_0 0 rfl rfl)
theorem dX6_never_1 : decode cX6_never 1 = .ok (.invokevirtual 382, 3) := dk_182 1 126 (dk_at dksX6_never_0 1 rfl rfl)
theorem dX6_never_4 : decode cX6_never 4 = .ok (.aload_n 0, 1) := dk_42 (dk_at dksX6_never_0 4 rfl rfl)
theorem dX6_never_5 : decode cX6_never 5 = .ok (.invokevirtual 385, 3) := dk_182 1 129 (dk_at dksX6_never_0 5 rfl rfl)
theorem dX6_never_8 : decode cX6_never 8 = .ok (.iconst (-1), 1) := dk_2 (dk_at dksX6_never_0 8 rfl rfl)
theorem dX6_never_9 : decode cX6_never 9 = .ok (.ixor, 1) := dk_130 (dk_at dksX6_never_0 9 rfl rfl)
theorem dX6_never_10 : decode cX6_never 10 = .ok (.iand, 1) := dk_126 (dk_at dksX6_never_0 10 rfl rfl)
theorem dX6_never_11 : decode cX6_never 11 = .ok (.ireturn, 1) := dk_172 (dk_at dksX6_never_0 11 rfl rfl)
abbrev cX6_everything : ByteArray := prog_24_method_97_code
def yX6_everything : MethodName := ⟨RX6, "everything", "()I"⟩
def dkwX6_everything_0 : List UInt8 := [4, 42, 182, 0, 112, 120, 4, 100, 172]
abbrev dktX6_everything_0 : List UInt8 := dkwX6_everything_0 ++ []
theorem dksX6_everything_0 : cX6_everything.data.toList.drop 0 = dktX6_everything_0 := by decide +kernel
theorem dX6_everything_0 : decode cX6_everything 0 = .ok (.iconst 1, 1) := dk_4 (dk_at dksX6_everything_0 0 rfl rfl)
theorem dX6_everything_1 : decode cX6_everything 1 = .ok (.aload_n 0, 1) := dk_42 (dk_at dksX6_everything_0 1 rfl rfl)
theorem dX6_everything_2 : decode cX6_everything 2 = .ok (.invokevirtual 112, 3) := dk_182 0 112 (dk_at dksX6_everything_0 2 rfl rfl)
theorem dX6_everything_5 : decode cX6_everything 5 = .ok (.ishl, 1) := dk_120 (dk_at dksX6_everything_0 5 rfl rfl)
theorem dX6_everything_6 : decode cX6_everything 6 = .ok (.iconst 1, 1) := dk_4 (dk_at dksX6_everything_0 6 rfl rfl)
theorem dX6_everything_7 : decode cX6_everything 7 = .ok (.isub, 1) := dk_100 (dk_at dksX6_everything_0 7 rfl rfl)
theorem dX6_everything_8 : decode cX6_everything 8 = .ok (.ireturn, 1) := dk_172 (dk_at dksX6_everything_0 8 rfl rfl)
abbrev cX6_readAtLast : ByteArray := prog_24_method_98_code
def yX6_readAtLast : MethodName := ⟨RX6, "readAtLast", "()I"⟩
def dkwX6_readAtLast_2 : List UInt8 := [132, 3, 1, 167, 255, 226, 167, 255, 214, 27, 172]
abbrev dktX6_readAtLast_2 : List UInt8 := dkwX6_readAtLast_2 ++ []
def dkwX6_readAtLast_1 : List UInt8 := [162, 0, 28, 27, 42, 28, 29, 182, 0, 137, 153, 0, 9, 4, 29, 120, 167, 0, 4, 3, 128, 60]
abbrev dktX6_readAtLast_1 : List UInt8 := dkwX6_readAtLast_1 ++ dktX6_readAtLast_2
def dkwX6_readAtLast_0 : List UInt8 := [42, 180, 0, 24, 3, 46, 60, 2, 61, 27, 28, 159, 0, 43, 27, 61, 3, 62, 29, 42, 182, 0, 112]
abbrev dktX6_readAtLast_0 : List UInt8 := dkwX6_readAtLast_0 ++ dktX6_readAtLast_1
theorem dksX6_readAtLast_0 : cX6_readAtLast.data.toList.drop 0 = dktX6_readAtLast_0 := by decide +kernel
theorem dksX6_readAtLast_1 : cX6_readAtLast.data.toList.drop 23 = dktX6_readAtLast_1 := dk_seg dksX6_readAtLast_0 23 rfl rfl
theorem dksX6_readAtLast_2 : cX6_readAtLast.data.toList.drop 45 = dktX6_readAtLast_2 := dk_seg dksX6_readAtLast_1 22 rfl rfl
theorem dX6_readAtLast_0 : decode cX6_readAtLast 0 = .ok (.aload_n 0, 1) := dk_42 (dk_at dksX6_readAtLast_0 0 rfl rfl)
theorem dX6_readAtLast_1 : decode cX6_readAtLast 1 = .ok (.getfield 24, 3) := dk_180 0 24 (dk_at dksX6_readAtLast_0 1 rfl rfl)
theorem dX6_readAtLast_4 : decode cX6_readAtLast 4 = .ok (.iconst 0, 1) := dk_3 (dk_at dksX6_readAtLast_0 4 rfl rfl)
theorem dX6_readAtLast_5 : decode cX6_readAtLast 5 = .ok (.iaload, 1) := dk_46 (dk_at dksX6_readAtLast_0 5 rfl rfl)
theorem dX6_readAtLast_6 : decode cX6_readAtLast 6 = .ok (.istore_n 1, 1) := dk_60 (dk_at dksX6_readAtLast_0 6 rfl rfl)
theorem dX6_readAtLast_7 : decode cX6_readAtLast 7 = .ok (.iconst (-1), 1) := dk_2 (dk_at dksX6_readAtLast_0 7 rfl rfl)
theorem dX6_readAtLast_8 : decode cX6_readAtLast 8 = .ok (.istore_n 2, 1) := dk_61 (dk_at dksX6_readAtLast_0 8 rfl rfl)
theorem dX6_readAtLast_9 : decode cX6_readAtLast 9 = .ok (.iload_n 1, 1) := dk_27 (dk_at dksX6_readAtLast_0 9 rfl rfl)
theorem dX6_readAtLast_10 : decode cX6_readAtLast 10 = .ok (.iload_n 2, 1) := dk_28 (dk_at dksX6_readAtLast_0 10 rfl rfl)
theorem dX6_readAtLast_11 : decode cX6_readAtLast 11 = .ok (.if_icmp .eq 43, 3) := dk_159 0 43 (dk_at dksX6_readAtLast_0 11 rfl rfl)
theorem dX6_readAtLast_14 : decode cX6_readAtLast 14 = .ok (.iload_n 1, 1) := dk_27 (dk_at dksX6_readAtLast_0 14 rfl rfl)
theorem dX6_readAtLast_15 : decode cX6_readAtLast 15 = .ok (.istore_n 2, 1) := dk_61 (dk_at dksX6_readAtLast_0 15 rfl rfl)
theorem dX6_readAtLast_16 : decode cX6_readAtLast 16 = .ok (.iconst 0, 1) := dk_3 (dk_at dksX6_readAtLast_0 16 rfl rfl)
theorem dX6_readAtLast_17 : decode cX6_readAtLast 17 = .ok (.istore_n 3, 1) := dk_62 (dk_at dksX6_readAtLast_0 17 rfl rfl)
theorem dX6_readAtLast_18 : decode cX6_readAtLast 18 = .ok (.iload_n 3, 1) := dk_29 (dk_at dksX6_readAtLast_0 18 rfl rfl)
theorem dX6_readAtLast_19 : decode cX6_readAtLast 19 = .ok (.aload_n 0, 1) := dk_42 (dk_at dksX6_readAtLast_0 19 rfl rfl)
theorem dX6_readAtLast_20 : decode cX6_readAtLast 20 = .ok (.invokevirtual 112, 3) := dk_182 0 112 (dk_at dksX6_readAtLast_0 20 rfl rfl)
theorem dX6_readAtLast_23 : decode cX6_readAtLast 23 = .ok (.if_icmp .ge 28, 3) := dk_162 0 28 (dk_at dksX6_readAtLast_1 0 rfl rfl)
theorem dX6_readAtLast_26 : decode cX6_readAtLast 26 = .ok (.iload_n 1, 1) := dk_27 (dk_at dksX6_readAtLast_1 3 rfl rfl)
theorem dX6_readAtLast_27 : decode cX6_readAtLast 27 = .ok (.aload_n 0, 1) := dk_42 (dk_at dksX6_readAtLast_1 4 rfl rfl)
theorem dX6_readAtLast_28 : decode cX6_readAtLast 28 = .ok (.iload_n 2, 1) := dk_28 (dk_at dksX6_readAtLast_1 5 rfl rfl)
theorem dX6_readAtLast_29 : decode cX6_readAtLast 29 = .ok (.iload_n 3, 1) := dk_29 (dk_at dksX6_readAtLast_1 6 rfl rfl)
theorem dX6_readAtLast_30 : decode cX6_readAtLast 30 = .ok (.invokevirtual 137, 3) := dk_182 0 137 (dk_at dksX6_readAtLast_1 7 rfl rfl)
theorem dX6_readAtLast_33 : decode cX6_readAtLast 33 = .ok (.ifCond .eq 9, 3) := dk_153 0 9 (dk_at dksX6_readAtLast_1 10 rfl rfl)
theorem dX6_readAtLast_36 : decode cX6_readAtLast 36 = .ok (.iconst 1, 1) := dk_4 (dk_at dksX6_readAtLast_1 13 rfl rfl)
theorem dX6_readAtLast_37 : decode cX6_readAtLast 37 = .ok (.iload_n 3, 1) := dk_29 (dk_at dksX6_readAtLast_1 14 rfl rfl)
theorem dX6_readAtLast_38 : decode cX6_readAtLast 38 = .ok (.ishl, 1) := dk_120 (dk_at dksX6_readAtLast_1 15 rfl rfl)
theorem dX6_readAtLast_39 : decode cX6_readAtLast 39 = .ok (.goto 4, 3) := dk_167 0 4 (dk_at dksX6_readAtLast_1 16 rfl rfl)
theorem dX6_readAtLast_42 : decode cX6_readAtLast 42 = .ok (.iconst 0, 1) := dk_3 (dk_at dksX6_readAtLast_1 19 rfl rfl)
theorem dX6_readAtLast_43 : decode cX6_readAtLast 43 = .ok (.ior, 1) := dk_128 (dk_at dksX6_readAtLast_1 20 rfl rfl)
theorem dX6_readAtLast_44 : decode cX6_readAtLast 44 = .ok (.istore_n 1, 1) := dk_60 (dk_at dksX6_readAtLast_1 21 rfl rfl)
theorem dX6_readAtLast_45 : decode cX6_readAtLast 45 = .ok (.iinc 3 1, 3) := dk_132 3 1 (dk_at dksX6_readAtLast_2 0 rfl rfl)
theorem dX6_readAtLast_48 : decode cX6_readAtLast 48 = .ok (.goto (-30), 3) := dk_167 255 226 (dk_at dksX6_readAtLast_2 3 rfl rfl)
theorem dX6_readAtLast_51 : decode cX6_readAtLast 51 = .ok (.goto (-42), 3) := dk_167 255 214 (dk_at dksX6_readAtLast_2 6 rfl rfl)
theorem dX6_readAtLast_54 : decode cX6_readAtLast 54 = .ok (.iload_n 1, 1) := dk_27 (dk_at dksX6_readAtLast_2 9 rfl rfl)
theorem dX6_readAtLast_55 : decode cX6_readAtLast 55 = .ok (.ireturn, 1) := dk_172 (dk_at dksX6_readAtLast_2 10 rfl rfl)
abbrev cX6_rows : ByteArray := prog_24_method_104_code
def yX6_rows : MethodName := ⟨RX6, "rows", "(I)I"⟩
def dkwX6_rows_1 : List UInt8 := [27, 182, 1, 141, 172]
abbrev dktX6_rows_1 : List UInt8 := dkwX6_rows_1 ++ []
def dkwX6_rows_0 : List UInt8 := [27, 2, 162, 0, 5, 2, 172, 27, 2, 160, 0, 10, 42, 182, 1, 135, 167, 0, 12, 42, 42, 182, 1, 138]
abbrev dktX6_rows_0 : List UInt8 := dkwX6_rows_0 ++ dktX6_rows_1
theorem dksX6_rows_0 : cX6_rows.data.toList.drop 0 = dktX6_rows_0 := by decide +kernel
theorem dksX6_rows_1 : cX6_rows.data.toList.drop 24 = dktX6_rows_1 := dk_seg dksX6_rows_0 24 rfl rfl
theorem dX6_rows_0 : decode cX6_rows 0 = .ok (.iload_n 1, 1) := dk_27 (dk_at dksX6_rows_0 0 rfl rfl)
theorem dX6_rows_1 : decode cX6_rows 1 = .ok (.iconst (-1), 1) := dk_2 (dk_at dksX6_rows_0 1 rfl rfl)
theorem dX6_rows_2 : decode cX6_rows 2 = .ok (.if_icmp .ge 5, 3) := dk_162 0 5 (dk_at dksX6_rows_0 2 rfl rfl)
theorem dX6_rows_5 : decode cX6_rows 5 = .ok (.iconst (-1), 1) := dk_2 (dk_at dksX6_rows_0 5 rfl rfl)
theorem dX6_rows_6 : decode cX6_rows 6 = .ok (.ireturn, 1) := dk_172 (dk_at dksX6_rows_0 6 rfl rfl)
theorem dX6_rows_7 : decode cX6_rows 7 = .ok (.iload_n 1, 1) := dk_27 (dk_at dksX6_rows_0 7 rfl rfl)
theorem dX6_rows_8 : decode cX6_rows 8 = .ok (.iconst (-1), 1) := dk_2 (dk_at dksX6_rows_0 8 rfl rfl)
theorem dX6_rows_9 : decode cX6_rows 9 = .ok (.if_icmp .ne 10, 3) := dk_160 0 10 (dk_at dksX6_rows_0 9 rfl rfl)
theorem dX6_rows_12 : decode cX6_rows 12 = .ok (.aload_n 0, 1) := dk_42 (dk_at dksX6_rows_0 12 rfl rfl)
theorem dX6_rows_13 : decode cX6_rows 13 = .ok (.invokevirtual 391, 3) := dk_182 1 135 (dk_at dksX6_rows_0 13 rfl rfl)
theorem dX6_rows_16 : decode cX6_rows 16 = .ok (.goto 12, 3) := dk_167 0 12 (dk_at dksX6_rows_0 16 rfl rfl)
theorem dX6_rows_19 : decode cX6_rows 19 = .ok (.aload_n 0, 1) := dk_42 (dk_at dksX6_rows_0 19 rfl rfl)
theorem dX6_rows_20 : decode cX6_rows 20 = .ok (.aload_n 0, 1) := dk_42 (dk_at dksX6_rows_0 20 rfl rfl)
theorem dX6_rows_21 : decode cX6_rows 21 = .ok (.invokevirtual 394, 3) := dk_182 1 138 (dk_at dksX6_rows_0 21 rfl rfl)
theorem dX6_rows_24 : decode cX6_rows 24 = .ok (.iload_n 1, 1) := dk_27 (dk_at dksX6_rows_1 0 rfl rfl)
theorem dX6_rows_25 : decode cX6_rows 25 = .ok (.invokevirtual 397, 3) := dk_182 1 141 (dk_at dksX6_rows_1 1 rfl rfl)
theorem dX6_rows_28 : decode cX6_rows 28 = .ok (.ireturn, 1) := dk_172 (dk_at dksX6_rows_1 4 rfl rfl)
abbrev cX6_rowsLeft : ByteArray := prog_24_method_102_code
def yX6_rowsLeft : MethodName := ⟨RX6, "rowsLeft", "()I"⟩
def dkwX6_rowsLeft_5 : List UInt8 := [180, 0, 71, 42, 180, 0, 24, 3, 46, 46, 172]
abbrev dktX6_rowsLeft_5 : List UInt8 := dkwX6_rowsLeft_5 ++ []
def dkwX6_rowsLeft_4 : List UInt8 := [4, 29, 120, 128, 46, 167, 0, 4, 3, 96, 79, 132, 3, 1, 167, 255, 205, 132, 2, 255, 167, 255, 147, 42]
abbrev dktX6_rowsLeft_4 : List UInt8 := dkwX6_rowsLeft_4 ++ dktX6_rowsLeft_5
def dkwX6_rowsLeft_3 : List UInt8 := [92, 46, 42, 28, 29, 182, 0, 137, 153, 0, 24, 27, 29, 184, 0, 119, 153, 0, 16, 42, 180, 0, 71, 28]
abbrev dktX6_rowsLeft_3 : List UInt8 := dkwX6_rowsLeft_3 ++ dktX6_rowsLeft_4
def dkwX6_rowsLeft_2 : List UInt8 := [2, 130, 126, 153, 0, 6, 167, 0, 59, 3, 62, 29, 42, 182, 0, 112, 162, 0, 49, 42, 180, 0, 71, 28]
abbrev dktX6_rowsLeft_2 : List UInt8 := dkwX6_rowsLeft_2 ++ dktX6_rowsLeft_3
def dkwX6_rowsLeft_1 : List UInt8 := [160, 0, 7, 4, 167, 0, 4, 3, 79, 28, 27, 2, 130, 126, 154, 0, 75, 42, 180, 0, 24, 3, 46, 28]
abbrev dktX6_rowsLeft_1 : List UInt8 := dkwX6_rowsLeft_1 ++ dktX6_rowsLeft_2
def dkwX6_rowsLeft_0 : List UInt8 := [42, 182, 1, 129, 60, 27, 61, 28, 42, 180, 0, 24, 3, 46, 161, 0, 105, 42, 180, 0, 71, 28, 28, 27]
abbrev dktX6_rowsLeft_0 : List UInt8 := dkwX6_rowsLeft_0 ++ dktX6_rowsLeft_1
theorem dksX6_rowsLeft_0 : cX6_rowsLeft.data.toList.drop 0 = dktX6_rowsLeft_0 := by decide +kernel
theorem dksX6_rowsLeft_1 : cX6_rowsLeft.data.toList.drop 24 = dktX6_rowsLeft_1 := dk_seg dksX6_rowsLeft_0 24 rfl rfl
theorem dksX6_rowsLeft_2 : cX6_rowsLeft.data.toList.drop 48 = dktX6_rowsLeft_2 := dk_seg dksX6_rowsLeft_1 24 rfl rfl
theorem dksX6_rowsLeft_3 : cX6_rowsLeft.data.toList.drop 72 = dktX6_rowsLeft_3 := dk_seg dksX6_rowsLeft_2 24 rfl rfl
theorem dksX6_rowsLeft_4 : cX6_rowsLeft.data.toList.drop 96 = dktX6_rowsLeft_4 := dk_seg dksX6_rowsLeft_3 24 rfl rfl
theorem dksX6_rowsLeft_5 : cX6_rowsLeft.data.toList.drop 120 = dktX6_rowsLeft_5 := dk_seg dksX6_rowsLeft_4 24 rfl rfl
theorem dX6_rowsLeft_0 : decode cX6_rowsLeft 0 = .ok (.aload_n 0, 1) := dk_42 (dk_at dksX6_rowsLeft_0 0 rfl rfl)
theorem dX6_rowsLeft_1 : decode cX6_rowsLeft 1 = .ok (.invokevirtual 385, 3) := dk_182 1 129 (dk_at dksX6_rowsLeft_0 1 rfl rfl)
theorem dX6_rowsLeft_4 : decode cX6_rowsLeft 4 = .ok (.istore_n 1, 1) := dk_60 (dk_at dksX6_rowsLeft_0 4 rfl rfl)
theorem dX6_rowsLeft_5 : decode cX6_rowsLeft 5 = .ok (.iload_n 1, 1) := dk_27 (dk_at dksX6_rowsLeft_0 5 rfl rfl)
theorem dX6_rowsLeft_6 : decode cX6_rowsLeft 6 = .ok (.istore_n 2, 1) := dk_61 (dk_at dksX6_rowsLeft_0 6 rfl rfl)
theorem dX6_rowsLeft_7 : decode cX6_rowsLeft 7 = .ok (.iload_n 2, 1) := dk_28 (dk_at dksX6_rowsLeft_0 7 rfl rfl)
theorem dX6_rowsLeft_8 : decode cX6_rowsLeft 8 = .ok (.aload_n 0, 1) := dk_42 (dk_at dksX6_rowsLeft_0 8 rfl rfl)
theorem dX6_rowsLeft_9 : decode cX6_rowsLeft 9 = .ok (.getfield 24, 3) := dk_180 0 24 (dk_at dksX6_rowsLeft_0 9 rfl rfl)
theorem dX6_rowsLeft_12 : decode cX6_rowsLeft 12 = .ok (.iconst 0, 1) := dk_3 (dk_at dksX6_rowsLeft_0 12 rfl rfl)
theorem dX6_rowsLeft_13 : decode cX6_rowsLeft 13 = .ok (.iaload, 1) := dk_46 (dk_at dksX6_rowsLeft_0 13 rfl rfl)
theorem dX6_rowsLeft_14 : decode cX6_rowsLeft 14 = .ok (.if_icmp .lt 105, 3) := dk_161 0 105 (dk_at dksX6_rowsLeft_0 14 rfl rfl)
theorem dX6_rowsLeft_17 : decode cX6_rowsLeft 17 = .ok (.aload_n 0, 1) := dk_42 (dk_at dksX6_rowsLeft_0 17 rfl rfl)
theorem dX6_rowsLeft_18 : decode cX6_rowsLeft 18 = .ok (.getfield 71, 3) := dk_180 0 71 (dk_at dksX6_rowsLeft_0 18 rfl rfl)
theorem dX6_rowsLeft_21 : decode cX6_rowsLeft 21 = .ok (.iload_n 2, 1) := dk_28 (dk_at dksX6_rowsLeft_0 21 rfl rfl)
theorem dX6_rowsLeft_22 : decode cX6_rowsLeft 22 = .ok (.iload_n 2, 1) := dk_28 (dk_at dksX6_rowsLeft_0 22 rfl rfl)
theorem dX6_rowsLeft_23 : decode cX6_rowsLeft 23 = .ok (.iload_n 1, 1) := dk_27 (dk_at dksX6_rowsLeft_0 23 rfl rfl)
theorem dX6_rowsLeft_24 : decode cX6_rowsLeft 24 = .ok (.if_icmp .ne 7, 3) := dk_160 0 7 (dk_at dksX6_rowsLeft_1 0 rfl rfl)
theorem dX6_rowsLeft_27 : decode cX6_rowsLeft 27 = .ok (.iconst 1, 1) := dk_4 (dk_at dksX6_rowsLeft_1 3 rfl rfl)
theorem dX6_rowsLeft_28 : decode cX6_rowsLeft 28 = .ok (.goto 4, 3) := dk_167 0 4 (dk_at dksX6_rowsLeft_1 4 rfl rfl)
theorem dX6_rowsLeft_31 : decode cX6_rowsLeft 31 = .ok (.iconst 0, 1) := dk_3 (dk_at dksX6_rowsLeft_1 7 rfl rfl)
theorem dX6_rowsLeft_32 : decode cX6_rowsLeft 32 = .ok (.iastore, 1) := dk_79 (dk_at dksX6_rowsLeft_1 8 rfl rfl)
theorem dX6_rowsLeft_33 : decode cX6_rowsLeft 33 = .ok (.iload_n 2, 1) := dk_28 (dk_at dksX6_rowsLeft_1 9 rfl rfl)
theorem dX6_rowsLeft_34 : decode cX6_rowsLeft 34 = .ok (.iload_n 1, 1) := dk_27 (dk_at dksX6_rowsLeft_1 10 rfl rfl)
theorem dX6_rowsLeft_35 : decode cX6_rowsLeft 35 = .ok (.iconst (-1), 1) := dk_2 (dk_at dksX6_rowsLeft_1 11 rfl rfl)
theorem dX6_rowsLeft_36 : decode cX6_rowsLeft 36 = .ok (.ixor, 1) := dk_130 (dk_at dksX6_rowsLeft_1 12 rfl rfl)
theorem dX6_rowsLeft_37 : decode cX6_rowsLeft 37 = .ok (.iand, 1) := dk_126 (dk_at dksX6_rowsLeft_1 13 rfl rfl)
theorem dX6_rowsLeft_38 : decode cX6_rowsLeft 38 = .ok (.ifCond .ne 75, 3) := dk_154 0 75 (dk_at dksX6_rowsLeft_1 14 rfl rfl)
theorem dX6_rowsLeft_41 : decode cX6_rowsLeft 41 = .ok (.aload_n 0, 1) := dk_42 (dk_at dksX6_rowsLeft_1 17 rfl rfl)
theorem dX6_rowsLeft_42 : decode cX6_rowsLeft 42 = .ok (.getfield 24, 3) := dk_180 0 24 (dk_at dksX6_rowsLeft_1 18 rfl rfl)
theorem dX6_rowsLeft_45 : decode cX6_rowsLeft 45 = .ok (.iconst 0, 1) := dk_3 (dk_at dksX6_rowsLeft_1 21 rfl rfl)
theorem dX6_rowsLeft_46 : decode cX6_rowsLeft 46 = .ok (.iaload, 1) := dk_46 (dk_at dksX6_rowsLeft_1 22 rfl rfl)
theorem dX6_rowsLeft_47 : decode cX6_rowsLeft 47 = .ok (.iload_n 2, 1) := dk_28 (dk_at dksX6_rowsLeft_1 23 rfl rfl)
theorem dX6_rowsLeft_48 : decode cX6_rowsLeft 48 = .ok (.iconst (-1), 1) := dk_2 (dk_at dksX6_rowsLeft_2 0 rfl rfl)
theorem dX6_rowsLeft_49 : decode cX6_rowsLeft 49 = .ok (.ixor, 1) := dk_130 (dk_at dksX6_rowsLeft_2 1 rfl rfl)
theorem dX6_rowsLeft_50 : decode cX6_rowsLeft 50 = .ok (.iand, 1) := dk_126 (dk_at dksX6_rowsLeft_2 2 rfl rfl)
theorem dX6_rowsLeft_51 : decode cX6_rowsLeft 51 = .ok (.ifCond .eq 6, 3) := dk_153 0 6 (dk_at dksX6_rowsLeft_2 3 rfl rfl)
theorem dX6_rowsLeft_54 : decode cX6_rowsLeft 54 = .ok (.goto 59, 3) := dk_167 0 59 (dk_at dksX6_rowsLeft_2 6 rfl rfl)
theorem dX6_rowsLeft_57 : decode cX6_rowsLeft 57 = .ok (.iconst 0, 1) := dk_3 (dk_at dksX6_rowsLeft_2 9 rfl rfl)
theorem dX6_rowsLeft_58 : decode cX6_rowsLeft 58 = .ok (.istore_n 3, 1) := dk_62 (dk_at dksX6_rowsLeft_2 10 rfl rfl)
theorem dX6_rowsLeft_59 : decode cX6_rowsLeft 59 = .ok (.iload_n 3, 1) := dk_29 (dk_at dksX6_rowsLeft_2 11 rfl rfl)
theorem dX6_rowsLeft_60 : decode cX6_rowsLeft 60 = .ok (.aload_n 0, 1) := dk_42 (dk_at dksX6_rowsLeft_2 12 rfl rfl)
theorem dX6_rowsLeft_61 : decode cX6_rowsLeft 61 = .ok (.invokevirtual 112, 3) := dk_182 0 112 (dk_at dksX6_rowsLeft_2 13 rfl rfl)
theorem dX6_rowsLeft_64 : decode cX6_rowsLeft 64 = .ok (.if_icmp .ge 49, 3) := dk_162 0 49 (dk_at dksX6_rowsLeft_2 16 rfl rfl)
theorem dX6_rowsLeft_67 : decode cX6_rowsLeft 67 = .ok (.aload_n 0, 1) := dk_42 (dk_at dksX6_rowsLeft_2 19 rfl rfl)
theorem dX6_rowsLeft_68 : decode cX6_rowsLeft 68 = .ok (.getfield 71, 3) := dk_180 0 71 (dk_at dksX6_rowsLeft_2 20 rfl rfl)
theorem dX6_rowsLeft_71 : decode cX6_rowsLeft 71 = .ok (.iload_n 2, 1) := dk_28 (dk_at dksX6_rowsLeft_2 23 rfl rfl)
theorem dX6_rowsLeft_72 : decode cX6_rowsLeft 72 = .ok (.dup2, 1) := dk_92 (dk_at dksX6_rowsLeft_3 0 rfl rfl)
theorem dX6_rowsLeft_73 : decode cX6_rowsLeft 73 = .ok (.iaload, 1) := dk_46 (dk_at dksX6_rowsLeft_3 1 rfl rfl)
theorem dX6_rowsLeft_74 : decode cX6_rowsLeft 74 = .ok (.aload_n 0, 1) := dk_42 (dk_at dksX6_rowsLeft_3 2 rfl rfl)
theorem dX6_rowsLeft_75 : decode cX6_rowsLeft 75 = .ok (.iload_n 2, 1) := dk_28 (dk_at dksX6_rowsLeft_3 3 rfl rfl)
theorem dX6_rowsLeft_76 : decode cX6_rowsLeft 76 = .ok (.iload_n 3, 1) := dk_29 (dk_at dksX6_rowsLeft_3 4 rfl rfl)
theorem dX6_rowsLeft_77 : decode cX6_rowsLeft 77 = .ok (.invokevirtual 137, 3) := dk_182 0 137 (dk_at dksX6_rowsLeft_3 5 rfl rfl)
theorem dX6_rowsLeft_80 : decode cX6_rowsLeft 80 = .ok (.ifCond .eq 24, 3) := dk_153 0 24 (dk_at dksX6_rowsLeft_3 8 rfl rfl)
theorem dX6_rowsLeft_83 : decode cX6_rowsLeft 83 = .ok (.iload_n 1, 1) := dk_27 (dk_at dksX6_rowsLeft_3 11 rfl rfl)
theorem dX6_rowsLeft_84 : decode cX6_rowsLeft 84 = .ok (.iload_n 3, 1) := dk_29 (dk_at dksX6_rowsLeft_3 12 rfl rfl)
theorem dX6_rowsLeft_85 : decode cX6_rowsLeft 85 = .ok (.invokestatic 119, 3) := dk_184 0 119 (dk_at dksX6_rowsLeft_3 13 rfl rfl)
theorem dX6_rowsLeft_88 : decode cX6_rowsLeft 88 = .ok (.ifCond .eq 16, 3) := dk_153 0 16 (dk_at dksX6_rowsLeft_3 16 rfl rfl)
theorem dX6_rowsLeft_91 : decode cX6_rowsLeft 91 = .ok (.aload_n 0, 1) := dk_42 (dk_at dksX6_rowsLeft_3 19 rfl rfl)
theorem dX6_rowsLeft_92 : decode cX6_rowsLeft 92 = .ok (.getfield 71, 3) := dk_180 0 71 (dk_at dksX6_rowsLeft_3 20 rfl rfl)
theorem dX6_rowsLeft_95 : decode cX6_rowsLeft 95 = .ok (.iload_n 2, 1) := dk_28 (dk_at dksX6_rowsLeft_3 23 rfl rfl)
theorem dX6_rowsLeft_96 : decode cX6_rowsLeft 96 = .ok (.iconst 1, 1) := dk_4 (dk_at dksX6_rowsLeft_4 0 rfl rfl)
theorem dX6_rowsLeft_97 : decode cX6_rowsLeft 97 = .ok (.iload_n 3, 1) := dk_29 (dk_at dksX6_rowsLeft_4 1 rfl rfl)
theorem dX6_rowsLeft_98 : decode cX6_rowsLeft 98 = .ok (.ishl, 1) := dk_120 (dk_at dksX6_rowsLeft_4 2 rfl rfl)
theorem dX6_rowsLeft_99 : decode cX6_rowsLeft 99 = .ok (.ior, 1) := dk_128 (dk_at dksX6_rowsLeft_4 3 rfl rfl)
theorem dX6_rowsLeft_100 : decode cX6_rowsLeft 100 = .ok (.iaload, 1) := dk_46 (dk_at dksX6_rowsLeft_4 4 rfl rfl)
theorem dX6_rowsLeft_101 : decode cX6_rowsLeft 101 = .ok (.goto 4, 3) := dk_167 0 4 (dk_at dksX6_rowsLeft_4 5 rfl rfl)
theorem dX6_rowsLeft_104 : decode cX6_rowsLeft 104 = .ok (.iconst 0, 1) := dk_3 (dk_at dksX6_rowsLeft_4 8 rfl rfl)
theorem dX6_rowsLeft_105 : decode cX6_rowsLeft 105 = .ok (.iadd, 1) := dk_96 (dk_at dksX6_rowsLeft_4 9 rfl rfl)
theorem dX6_rowsLeft_106 : decode cX6_rowsLeft 106 = .ok (.iastore, 1) := dk_79 (dk_at dksX6_rowsLeft_4 10 rfl rfl)
theorem dX6_rowsLeft_107 : decode cX6_rowsLeft 107 = .ok (.iinc 3 1, 3) := dk_132 3 1 (dk_at dksX6_rowsLeft_4 11 rfl rfl)
theorem dX6_rowsLeft_110 : decode cX6_rowsLeft 110 = .ok (.goto (-51), 3) := dk_167 255 205 (dk_at dksX6_rowsLeft_4 14 rfl rfl)
theorem dX6_rowsLeft_113 : decode cX6_rowsLeft 113 = .ok (.iinc 2 (-1), 3) := dk_132 2 255 (dk_at dksX6_rowsLeft_4 17 rfl rfl)
theorem dX6_rowsLeft_116 : decode cX6_rowsLeft 116 = .ok (.goto (-109), 3) := dk_167 255 147 (dk_at dksX6_rowsLeft_4 20 rfl rfl)
theorem dX6_rowsLeft_119 : decode cX6_rowsLeft 119 = .ok (.aload_n 0, 1) := dk_42 (dk_at dksX6_rowsLeft_4 23 rfl rfl)
theorem dX6_rowsLeft_120 : decode cX6_rowsLeft 120 = .ok (.getfield 71, 3) := dk_180 0 71 (dk_at dksX6_rowsLeft_5 0 rfl rfl)
theorem dX6_rowsLeft_123 : decode cX6_rowsLeft 123 = .ok (.aload_n 0, 1) := dk_42 (dk_at dksX6_rowsLeft_5 3 rfl rfl)
theorem dX6_rowsLeft_124 : decode cX6_rowsLeft 124 = .ok (.getfield 24, 3) := dk_180 0 24 (dk_at dksX6_rowsLeft_5 4 rfl rfl)
theorem dX6_rowsLeft_127 : decode cX6_rowsLeft 127 = .ok (.iconst 0, 1) := dk_3 (dk_at dksX6_rowsLeft_5 7 rfl rfl)
theorem dX6_rowsLeft_128 : decode cX6_rowsLeft 128 = .ok (.iaload, 1) := dk_46 (dk_at dksX6_rowsLeft_5 8 rfl rfl)
theorem dX6_rowsLeft_129 : decode cX6_rowsLeft 129 = .ok (.iaload, 1) := dk_46 (dk_at dksX6_rowsLeft_5 9 rfl rfl)
theorem dX6_rowsLeft_130 : decode cX6_rowsLeft 130 = .ok (.ireturn, 1) := dk_172 (dk_at dksX6_rowsLeft_5 10 rfl rfl)
abbrev cX6_toCome : ByteArray := prog_24_method_100_code
def yX6_toCome : MethodName := ⟨RX6, "toCome", "()I"⟩
def dkwX6_toCome_0 : List UInt8 := [42, 182, 1, 129, 42, 180, 0, 24, 3, 46, 2, 130, 126, 172]
abbrev dktX6_toCome_0 : List UInt8 := dkwX6_toCome_0 ++ []
theorem dksX6_toCome_0 : cX6_toCome.data.toList.drop 0 = dktX6_toCome_0 := by decide +kernel
theorem dX6_toCome_0 : decode cX6_toCome 0 = .ok (.aload_n 0, 1) := dk_42 (dk_at dksX6_toCome_0 0 rfl rfl)
theorem dX6_toCome_1 : decode cX6_toCome 1 = .ok (.invokevirtual 385, 3) := dk_182 1 129 (dk_at dksX6_toCome_0 1 rfl rfl)
theorem dX6_toCome_4 : decode cX6_toCome 4 = .ok (.aload_n 0, 1) := dk_42 (dk_at dksX6_toCome_0 4 rfl rfl)
theorem dX6_toCome_5 : decode cX6_toCome 5 = .ok (.getfield 24, 3) := dk_180 0 24 (dk_at dksX6_toCome_0 5 rfl rfl)
theorem dX6_toCome_8 : decode cX6_toCome 8 = .ok (.iconst 0, 1) := dk_3 (dk_at dksX6_toCome_0 8 rfl rfl)
theorem dX6_toCome_9 : decode cX6_toCome 9 = .ok (.iaload, 1) := dk_46 (dk_at dksX6_toCome_0 9 rfl rfl)
theorem dX6_toCome_10 : decode cX6_toCome 10 = .ok (.iconst (-1), 1) := dk_2 (dk_at dksX6_toCome_0 10 rfl rfl)
theorem dX6_toCome_11 : decode cX6_toCome 11 = .ok (.ixor, 1) := dk_130 (dk_at dksX6_toCome_0 11 rfl rfl)
theorem dX6_toCome_12 : decode cX6_toCome 12 = .ok (.iand, 1) := dk_126 (dk_at dksX6_toCome_0 12 rfl rfl)
theorem dX6_toCome_13 : decode cX6_toCome 13 = .ok (.ireturn, 1) := dk_172 (dk_at dksX6_toCome_0 13 rfl rfl)
abbrev cX6_inRow : ByteArray := prog_24_method_103_code
def yX6_inRow : MethodName := ⟨RX6, "inRow", "(II)I"⟩
def dkwX6_inRow_2 : List UInt8 := [167, 255, 224, 21, 4, 172]
abbrev dktX6_inRow_2 : List UInt8 := dkwX6_inRow_2 ++ []
def dkwX6_inRow_1 : List UInt8 := [182, 1, 132, 54, 4, 21, 4, 2, 160, 0, 5, 2, 172, 29, 4, 21, 4, 120, 128, 62, 132, 5, 1]
abbrev dktX6_inRow_1 : List UInt8 := dkwX6_inRow_1 ++ dktX6_inRow_2
def dkwX6_inRow_0 : List UInt8 := [42, 180, 0, 24, 3, 46, 62, 2, 54, 4, 3, 54, 5, 21, 5, 28, 163, 0, 32, 42, 29, 27]
abbrev dktX6_inRow_0 : List UInt8 := dkwX6_inRow_0 ++ dktX6_inRow_1
theorem dksX6_inRow_0 : cX6_inRow.data.toList.drop 0 = dktX6_inRow_0 := by decide +kernel
theorem dksX6_inRow_1 : cX6_inRow.data.toList.drop 22 = dktX6_inRow_1 := dk_seg dksX6_inRow_0 22 rfl rfl
theorem dksX6_inRow_2 : cX6_inRow.data.toList.drop 45 = dktX6_inRow_2 := dk_seg dksX6_inRow_1 23 rfl rfl
theorem dX6_inRow_0 : decode cX6_inRow 0 = .ok (.aload_n 0, 1) := dk_42 (dk_at dksX6_inRow_0 0 rfl rfl)
theorem dX6_inRow_1 : decode cX6_inRow 1 = .ok (.getfield 24, 3) := dk_180 0 24 (dk_at dksX6_inRow_0 1 rfl rfl)
theorem dX6_inRow_4 : decode cX6_inRow 4 = .ok (.iconst 0, 1) := dk_3 (dk_at dksX6_inRow_0 4 rfl rfl)
theorem dX6_inRow_5 : decode cX6_inRow 5 = .ok (.iaload, 1) := dk_46 (dk_at dksX6_inRow_0 5 rfl rfl)
theorem dX6_inRow_6 : decode cX6_inRow 6 = .ok (.istore_n 3, 1) := dk_62 (dk_at dksX6_inRow_0 6 rfl rfl)
theorem dX6_inRow_7 : decode cX6_inRow 7 = .ok (.iconst (-1), 1) := dk_2 (dk_at dksX6_inRow_0 7 rfl rfl)
theorem dX6_inRow_8 : decode cX6_inRow 8 = .ok (.istore 4, 2) := dk_54 4 (dk_at dksX6_inRow_0 8 rfl rfl)
theorem dX6_inRow_10 : decode cX6_inRow 10 = .ok (.iconst 0, 1) := dk_3 (dk_at dksX6_inRow_0 10 rfl rfl)
theorem dX6_inRow_11 : decode cX6_inRow 11 = .ok (.istore 5, 2) := dk_54 5 (dk_at dksX6_inRow_0 11 rfl rfl)
theorem dX6_inRow_13 : decode cX6_inRow 13 = .ok (.iload 5, 2) := dk_21 5 (dk_at dksX6_inRow_0 13 rfl rfl)
theorem dX6_inRow_15 : decode cX6_inRow 15 = .ok (.iload_n 2, 1) := dk_28 (dk_at dksX6_inRow_0 15 rfl rfl)
theorem dX6_inRow_16 : decode cX6_inRow 16 = .ok (.if_icmp .gt 32, 3) := dk_163 0 32 (dk_at dksX6_inRow_0 16 rfl rfl)
theorem dX6_inRow_19 : decode cX6_inRow 19 = .ok (.aload_n 0, 1) := dk_42 (dk_at dksX6_inRow_0 19 rfl rfl)
theorem dX6_inRow_20 : decode cX6_inRow 20 = .ok (.iload_n 3, 1) := dk_29 (dk_at dksX6_inRow_0 20 rfl rfl)
theorem dX6_inRow_21 : decode cX6_inRow 21 = .ok (.iload_n 1, 1) := dk_27 (dk_at dksX6_inRow_0 21 rfl rfl)
theorem dX6_inRow_22 : decode cX6_inRow 22 = .ok (.invokevirtual 388, 3) := dk_182 1 132 (dk_at dksX6_inRow_1 0 rfl rfl)
theorem dX6_inRow_25 : decode cX6_inRow 25 = .ok (.istore 4, 2) := dk_54 4 (dk_at dksX6_inRow_1 3 rfl rfl)
theorem dX6_inRow_27 : decode cX6_inRow 27 = .ok (.iload 4, 2) := dk_21 4 (dk_at dksX6_inRow_1 5 rfl rfl)
theorem dX6_inRow_29 : decode cX6_inRow 29 = .ok (.iconst (-1), 1) := dk_2 (dk_at dksX6_inRow_1 7 rfl rfl)
theorem dX6_inRow_30 : decode cX6_inRow 30 = .ok (.if_icmp .ne 5, 3) := dk_160 0 5 (dk_at dksX6_inRow_1 8 rfl rfl)
theorem dX6_inRow_33 : decode cX6_inRow 33 = .ok (.iconst (-1), 1) := dk_2 (dk_at dksX6_inRow_1 11 rfl rfl)
theorem dX6_inRow_34 : decode cX6_inRow 34 = .ok (.ireturn, 1) := dk_172 (dk_at dksX6_inRow_1 12 rfl rfl)
theorem dX6_inRow_35 : decode cX6_inRow 35 = .ok (.iload_n 3, 1) := dk_29 (dk_at dksX6_inRow_1 13 rfl rfl)
theorem dX6_inRow_36 : decode cX6_inRow 36 = .ok (.iconst 1, 1) := dk_4 (dk_at dksX6_inRow_1 14 rfl rfl)
theorem dX6_inRow_37 : decode cX6_inRow 37 = .ok (.iload 4, 2) := dk_21 4 (dk_at dksX6_inRow_1 15 rfl rfl)
theorem dX6_inRow_39 : decode cX6_inRow 39 = .ok (.ishl, 1) := dk_120 (dk_at dksX6_inRow_1 17 rfl rfl)
theorem dX6_inRow_40 : decode cX6_inRow 40 = .ok (.ior, 1) := dk_128 (dk_at dksX6_inRow_1 18 rfl rfl)
theorem dX6_inRow_41 : decode cX6_inRow 41 = .ok (.istore_n 3, 1) := dk_62 (dk_at dksX6_inRow_1 19 rfl rfl)
theorem dX6_inRow_42 : decode cX6_inRow 42 = .ok (.iinc 5 1, 3) := dk_132 5 1 (dk_at dksX6_inRow_1 20 rfl rfl)
theorem dX6_inRow_45 : decode cX6_inRow 45 = .ok (.goto (-32), 3) := dk_167 255 224 (dk_at dksX6_inRow_2 0 rfl rfl)
theorem dX6_inRow_48 : decode cX6_inRow 48 = .ok (.iload 4, 2) := dk_21 4 (dk_at dksX6_inRow_2 3 rfl rfl)
theorem dX6_inRow_50 : decode cX6_inRow 50 = .ok (.ireturn, 1) := dk_172 (dk_at dksX6_inRow_2 5 rfl rfl)
abbrev cX6_lowestOpen : ByteArray := prog_24_method_101_code
def yX6_lowestOpen : MethodName := ⟨RX6, "lowestOpen", "(II)I"⟩
def dkwX6_lowestOpen_2 : List UInt8 := [172]
abbrev dktX6_lowestOpen_2 : List UInt8 := dkwX6_lowestOpen_2 ++ []
def dkwX6_lowestOpen_1 : List UInt8 := [42, 27, 21, 4, 182, 0, 137, 153, 0, 8, 21, 4, 167, 0, 4, 29, 62, 132, 4, 255, 167, 255, 222, 29]
abbrev dktX6_lowestOpen_1 : List UInt8 := dkwX6_lowestOpen_1 ++ dktX6_lowestOpen_2
def dkwX6_lowestOpen_0 : List UInt8 := [2, 62, 42, 182, 0, 112, 4, 100, 54, 4, 21, 4, 155, 0, 35, 28, 21, 4, 184, 0, 119, 153, 0, 18]
abbrev dktX6_lowestOpen_0 : List UInt8 := dkwX6_lowestOpen_0 ++ dktX6_lowestOpen_1
theorem dksX6_lowestOpen_0 : cX6_lowestOpen.data.toList.drop 0 = dktX6_lowestOpen_0 := by decide +kernel
theorem dksX6_lowestOpen_1 : cX6_lowestOpen.data.toList.drop 24 = dktX6_lowestOpen_1 := dk_seg dksX6_lowestOpen_0 24 rfl rfl
theorem dksX6_lowestOpen_2 : cX6_lowestOpen.data.toList.drop 48 = dktX6_lowestOpen_2 := dk_seg dksX6_lowestOpen_1 24 rfl rfl
theorem dX6_lowestOpen_0 : decode cX6_lowestOpen 0 = .ok (.iconst (-1), 1) := dk_2 (dk_at dksX6_lowestOpen_0 0 rfl rfl)
theorem dX6_lowestOpen_1 : decode cX6_lowestOpen 1 = .ok (.istore_n 3, 1) := dk_62 (dk_at dksX6_lowestOpen_0 1 rfl rfl)
theorem dX6_lowestOpen_2 : decode cX6_lowestOpen 2 = .ok (.aload_n 0, 1) := dk_42 (dk_at dksX6_lowestOpen_0 2 rfl rfl)
theorem dX6_lowestOpen_3 : decode cX6_lowestOpen 3 = .ok (.invokevirtual 112, 3) := dk_182 0 112 (dk_at dksX6_lowestOpen_0 3 rfl rfl)
theorem dX6_lowestOpen_6 : decode cX6_lowestOpen 6 = .ok (.iconst 1, 1) := dk_4 (dk_at dksX6_lowestOpen_0 6 rfl rfl)
theorem dX6_lowestOpen_7 : decode cX6_lowestOpen 7 = .ok (.isub, 1) := dk_100 (dk_at dksX6_lowestOpen_0 7 rfl rfl)
theorem dX6_lowestOpen_8 : decode cX6_lowestOpen 8 = .ok (.istore 4, 2) := dk_54 4 (dk_at dksX6_lowestOpen_0 8 rfl rfl)
theorem dX6_lowestOpen_10 : decode cX6_lowestOpen 10 = .ok (.iload 4, 2) := dk_21 4 (dk_at dksX6_lowestOpen_0 10 rfl rfl)
theorem dX6_lowestOpen_12 : decode cX6_lowestOpen 12 = .ok (.ifCond .lt 35, 3) := dk_155 0 35 (dk_at dksX6_lowestOpen_0 12 rfl rfl)
theorem dX6_lowestOpen_15 : decode cX6_lowestOpen 15 = .ok (.iload_n 2, 1) := dk_28 (dk_at dksX6_lowestOpen_0 15 rfl rfl)
theorem dX6_lowestOpen_16 : decode cX6_lowestOpen 16 = .ok (.iload 4, 2) := dk_21 4 (dk_at dksX6_lowestOpen_0 16 rfl rfl)
theorem dX6_lowestOpen_18 : decode cX6_lowestOpen 18 = .ok (.invokestatic 119, 3) := dk_184 0 119 (dk_at dksX6_lowestOpen_0 18 rfl rfl)
theorem dX6_lowestOpen_21 : decode cX6_lowestOpen 21 = .ok (.ifCond .eq 18, 3) := dk_153 0 18 (dk_at dksX6_lowestOpen_0 21 rfl rfl)
theorem dX6_lowestOpen_24 : decode cX6_lowestOpen 24 = .ok (.aload_n 0, 1) := dk_42 (dk_at dksX6_lowestOpen_1 0 rfl rfl)
theorem dX6_lowestOpen_25 : decode cX6_lowestOpen 25 = .ok (.iload_n 1, 1) := dk_27 (dk_at dksX6_lowestOpen_1 1 rfl rfl)
theorem dX6_lowestOpen_26 : decode cX6_lowestOpen 26 = .ok (.iload 4, 2) := dk_21 4 (dk_at dksX6_lowestOpen_1 2 rfl rfl)
theorem dX6_lowestOpen_28 : decode cX6_lowestOpen 28 = .ok (.invokevirtual 137, 3) := dk_182 0 137 (dk_at dksX6_lowestOpen_1 4 rfl rfl)
theorem dX6_lowestOpen_31 : decode cX6_lowestOpen 31 = .ok (.ifCond .eq 8, 3) := dk_153 0 8 (dk_at dksX6_lowestOpen_1 7 rfl rfl)
theorem dX6_lowestOpen_34 : decode cX6_lowestOpen 34 = .ok (.iload 4, 2) := dk_21 4 (dk_at dksX6_lowestOpen_1 10 rfl rfl)
theorem dX6_lowestOpen_36 : decode cX6_lowestOpen 36 = .ok (.goto 4, 3) := dk_167 0 4 (dk_at dksX6_lowestOpen_1 12 rfl rfl)
theorem dX6_lowestOpen_39 : decode cX6_lowestOpen 39 = .ok (.iload_n 3, 1) := dk_29 (dk_at dksX6_lowestOpen_1 15 rfl rfl)
theorem dX6_lowestOpen_40 : decode cX6_lowestOpen 40 = .ok (.istore_n 3, 1) := dk_62 (dk_at dksX6_lowestOpen_1 16 rfl rfl)
theorem dX6_lowestOpen_41 : decode cX6_lowestOpen 41 = .ok (.iinc 4 (-1), 3) := dk_132 4 255 (dk_at dksX6_lowestOpen_1 17 rfl rfl)
theorem dX6_lowestOpen_44 : decode cX6_lowestOpen 44 = .ok (.goto (-34), 3) := dk_167 255 222 (dk_at dksX6_lowestOpen_1 20 rfl rfl)
theorem dX6_lowestOpen_47 : decode cX6_lowestOpen 47 = .ok (.iload_n 3, 1) := dk_29 (dk_at dksX6_lowestOpen_1 23 rfl rfl)
theorem dX6_lowestOpen_48 : decode cX6_lowestOpen 48 = .ok (.ireturn, 1) := dk_172 (dk_at dksX6_lowestOpen_2 0 rfl rfl)
abbrev cX6_to : ByteArray := prog_24_method_106_code
def yX6_to : MethodName := ⟨RX6, "to", "(II)I"⟩
def dkwX6_to_3 : List UInt8 := [27, 167, 0, 15, 42, 29, 4, 27, 120, 2, 130, 126, 28, 182, 1, 141, 172]
abbrev dktX6_to_3 : List UInt8 := dkwX6_to_3 ++ []
def dkwX6_to_2 : List UInt8 := [182, 1, 147, 62, 28, 2, 160, 0, 8, 29, 184, 1, 48, 172, 28, 29, 184, 1, 48, 4, 100, 160, 0, 7]
abbrev dktX6_to_2 : List UInt8 := dkwX6_to_2 ++ dktX6_to_3
def dkwX6_to_1 : List UInt8 := [2, 172, 42, 27, 182, 0, 134, 153, 0, 14, 28, 2, 160, 0, 7, 3, 167, 0, 4, 2, 172, 42, 27]
abbrev dktX6_to_1 : List UInt8 := dkwX6_to_1 ++ dktX6_to_2
def dkwX6_to_0 : List UInt8 := [42, 27, 182, 0, 130, 153, 0, 19, 28, 2, 161, 0, 14, 42, 182, 1, 144, 27, 184, 0, 119, 153, 0, 5]
abbrev dktX6_to_0 : List UInt8 := dkwX6_to_0 ++ dktX6_to_1
theorem dksX6_to_0 : cX6_to.data.toList.drop 0 = dktX6_to_0 := by decide +kernel
theorem dksX6_to_1 : cX6_to.data.toList.drop 24 = dktX6_to_1 := dk_seg dksX6_to_0 24 rfl rfl
theorem dksX6_to_2 : cX6_to.data.toList.drop 47 = dktX6_to_2 := dk_seg dksX6_to_1 23 rfl rfl
theorem dksX6_to_3 : cX6_to.data.toList.drop 71 = dktX6_to_3 := dk_seg dksX6_to_2 24 rfl rfl
theorem dX6_to_0 : decode cX6_to 0 = .ok (.aload_n 0, 1) := dk_42 (dk_at dksX6_to_0 0 rfl rfl)
theorem dX6_to_1 : decode cX6_to 1 = .ok (.iload_n 1, 1) := dk_27 (dk_at dksX6_to_0 1 rfl rfl)
theorem dX6_to_2 : decode cX6_to 2 = .ok (.invokevirtual 130, 3) := dk_182 0 130 (dk_at dksX6_to_0 2 rfl rfl)
theorem dX6_to_5 : decode cX6_to 5 = .ok (.ifCond .eq 19, 3) := dk_153 0 19 (dk_at dksX6_to_0 5 rfl rfl)
theorem dX6_to_8 : decode cX6_to 8 = .ok (.iload_n 2, 1) := dk_28 (dk_at dksX6_to_0 8 rfl rfl)
theorem dX6_to_9 : decode cX6_to 9 = .ok (.iconst (-1), 1) := dk_2 (dk_at dksX6_to_0 9 rfl rfl)
theorem dX6_to_10 : decode cX6_to 10 = .ok (.if_icmp .lt 14, 3) := dk_161 0 14 (dk_at dksX6_to_0 10 rfl rfl)
theorem dX6_to_13 : decode cX6_to 13 = .ok (.aload_n 0, 1) := dk_42 (dk_at dksX6_to_0 13 rfl rfl)
theorem dX6_to_14 : decode cX6_to 14 = .ok (.invokevirtual 400, 3) := dk_182 1 144 (dk_at dksX6_to_0 14 rfl rfl)
theorem dX6_to_17 : decode cX6_to 17 = .ok (.iload_n 1, 1) := dk_27 (dk_at dksX6_to_0 17 rfl rfl)
theorem dX6_to_18 : decode cX6_to 18 = .ok (.invokestatic 119, 3) := dk_184 0 119 (dk_at dksX6_to_0 18 rfl rfl)
theorem dX6_to_21 : decode cX6_to 21 = .ok (.ifCond .eq 5, 3) := dk_153 0 5 (dk_at dksX6_to_0 21 rfl rfl)
theorem dX6_to_24 : decode cX6_to 24 = .ok (.iconst (-1), 1) := dk_2 (dk_at dksX6_to_1 0 rfl rfl)
theorem dX6_to_25 : decode cX6_to 25 = .ok (.ireturn, 1) := dk_172 (dk_at dksX6_to_1 1 rfl rfl)
theorem dX6_to_26 : decode cX6_to 26 = .ok (.aload_n 0, 1) := dk_42 (dk_at dksX6_to_1 2 rfl rfl)
theorem dX6_to_27 : decode cX6_to 27 = .ok (.iload_n 1, 1) := dk_27 (dk_at dksX6_to_1 3 rfl rfl)
theorem dX6_to_28 : decode cX6_to 28 = .ok (.invokevirtual 134, 3) := dk_182 0 134 (dk_at dksX6_to_1 4 rfl rfl)
theorem dX6_to_31 : decode cX6_to 31 = .ok (.ifCond .eq 14, 3) := dk_153 0 14 (dk_at dksX6_to_1 7 rfl rfl)
theorem dX6_to_34 : decode cX6_to 34 = .ok (.iload_n 2, 1) := dk_28 (dk_at dksX6_to_1 10 rfl rfl)
theorem dX6_to_35 : decode cX6_to 35 = .ok (.iconst (-1), 1) := dk_2 (dk_at dksX6_to_1 11 rfl rfl)
theorem dX6_to_36 : decode cX6_to 36 = .ok (.if_icmp .ne 7, 3) := dk_160 0 7 (dk_at dksX6_to_1 12 rfl rfl)
theorem dX6_to_39 : decode cX6_to 39 = .ok (.iconst 0, 1) := dk_3 (dk_at dksX6_to_1 15 rfl rfl)
theorem dX6_to_40 : decode cX6_to 40 = .ok (.goto 4, 3) := dk_167 0 4 (dk_at dksX6_to_1 16 rfl rfl)
theorem dX6_to_43 : decode cX6_to 43 = .ok (.iconst (-1), 1) := dk_2 (dk_at dksX6_to_1 19 rfl rfl)
theorem dX6_to_44 : decode cX6_to 44 = .ok (.ireturn, 1) := dk_172 (dk_at dksX6_to_1 20 rfl rfl)
theorem dX6_to_45 : decode cX6_to 45 = .ok (.aload_n 0, 1) := dk_42 (dk_at dksX6_to_1 21 rfl rfl)
theorem dX6_to_46 : decode cX6_to 46 = .ok (.iload_n 1, 1) := dk_27 (dk_at dksX6_to_1 22 rfl rfl)
theorem dX6_to_47 : decode cX6_to 47 = .ok (.invokevirtual 403, 3) := dk_182 1 147 (dk_at dksX6_to_2 0 rfl rfl)
theorem dX6_to_50 : decode cX6_to 50 = .ok (.istore_n 3, 1) := dk_62 (dk_at dksX6_to_2 3 rfl rfl)
theorem dX6_to_51 : decode cX6_to 51 = .ok (.iload_n 2, 1) := dk_28 (dk_at dksX6_to_2 4 rfl rfl)
theorem dX6_to_52 : decode cX6_to 52 = .ok (.iconst (-1), 1) := dk_2 (dk_at dksX6_to_2 5 rfl rfl)
theorem dX6_to_53 : decode cX6_to 53 = .ok (.if_icmp .ne 8, 3) := dk_160 0 8 (dk_at dksX6_to_2 6 rfl rfl)
theorem dX6_to_56 : decode cX6_to 56 = .ok (.iload_n 3, 1) := dk_29 (dk_at dksX6_to_2 9 rfl rfl)
theorem dX6_to_57 : decode cX6_to 57 = .ok (.invokestatic 304, 3) := dk_184 1 48 (dk_at dksX6_to_2 10 rfl rfl)
theorem dX6_to_60 : decode cX6_to 60 = .ok (.ireturn, 1) := dk_172 (dk_at dksX6_to_2 13 rfl rfl)
theorem dX6_to_61 : decode cX6_to 61 = .ok (.iload_n 2, 1) := dk_28 (dk_at dksX6_to_2 14 rfl rfl)
theorem dX6_to_62 : decode cX6_to 62 = .ok (.iload_n 3, 1) := dk_29 (dk_at dksX6_to_2 15 rfl rfl)
theorem dX6_to_63 : decode cX6_to 63 = .ok (.invokestatic 304, 3) := dk_184 1 48 (dk_at dksX6_to_2 16 rfl rfl)
theorem dX6_to_66 : decode cX6_to 66 = .ok (.iconst 1, 1) := dk_4 (dk_at dksX6_to_2 19 rfl rfl)
theorem dX6_to_67 : decode cX6_to 67 = .ok (.isub, 1) := dk_100 (dk_at dksX6_to_2 20 rfl rfl)
theorem dX6_to_68 : decode cX6_to 68 = .ok (.if_icmp .ne 7, 3) := dk_160 0 7 (dk_at dksX6_to_2 21 rfl rfl)
theorem dX6_to_71 : decode cX6_to 71 = .ok (.iload_n 1, 1) := dk_27 (dk_at dksX6_to_3 0 rfl rfl)
theorem dX6_to_72 : decode cX6_to 72 = .ok (.goto 15, 3) := dk_167 0 15 (dk_at dksX6_to_3 1 rfl rfl)
theorem dX6_to_75 : decode cX6_to 75 = .ok (.aload_n 0, 1) := dk_42 (dk_at dksX6_to_3 4 rfl rfl)
theorem dX6_to_76 : decode cX6_to 76 = .ok (.iload_n 3, 1) := dk_29 (dk_at dksX6_to_3 5 rfl rfl)
theorem dX6_to_77 : decode cX6_to 77 = .ok (.iconst 1, 1) := dk_4 (dk_at dksX6_to_3 6 rfl rfl)
theorem dX6_to_78 : decode cX6_to 78 = .ok (.iload_n 1, 1) := dk_27 (dk_at dksX6_to_3 7 rfl rfl)
theorem dX6_to_79 : decode cX6_to 79 = .ok (.ishl, 1) := dk_120 (dk_at dksX6_to_3 8 rfl rfl)
theorem dX6_to_80 : decode cX6_to 80 = .ok (.iconst (-1), 1) := dk_2 (dk_at dksX6_to_3 9 rfl rfl)
theorem dX6_to_81 : decode cX6_to 81 = .ok (.ixor, 1) := dk_130 (dk_at dksX6_to_3 10 rfl rfl)
theorem dX6_to_82 : decode cX6_to 82 = .ok (.iand, 1) := dk_126 (dk_at dksX6_to_3 11 rfl rfl)
theorem dX6_to_83 : decode cX6_to 83 = .ok (.iload_n 2, 1) := dk_28 (dk_at dksX6_to_3 12 rfl rfl)
theorem dX6_to_84 : decode cX6_to 84 = .ok (.invokevirtual 397, 3) := dk_182 1 141 (dk_at dksX6_to_3 13 rfl rfl)
theorem dX6_to_87 : decode cX6_to 87 = .ok (.ireturn, 1) := dk_172 (dk_at dksX6_to_3 16 rfl rfl)
abbrev cX6_readFor : ByteArray := prog_24_method_105_code
def yX6_readFor : MethodName := ⟨RX6, "readFor", "(I)I"⟩
def dkwX6_readFor_3 : List UInt8 := [172]
abbrev dktX6_readFor_3 : List UInt8 := dkwX6_readFor_3 ++ []
def dkwX6_readFor_2 : List UInt8 := [180, 0, 24, 3, 46, 2, 130, 126, 167, 0, 4, 3, 128, 61, 132, 4, 1, 167, 255, 209, 167, 255, 196, 28]
abbrev dktX6_readFor_2 : List UInt8 := dkwX6_readFor_2 ++ dktX6_readFor_3
def dkwX6_readFor_1 : List UInt8 := [162, 0, 44, 28, 29, 21, 4, 184, 0, 119, 153, 0, 25, 42, 180, 0, 24, 16, 22, 21, 4, 96, 46, 42]
abbrev dktX6_readFor_1 : List UInt8 := dkwX6_readFor_1 ++ dktX6_readFor_2
def dkwX6_readFor_0 : List UInt8 := [4, 27, 120, 61, 3, 62, 28, 29, 159, 0, 61, 28, 62, 3, 54, 4, 21, 4, 42, 182, 0, 112]
abbrev dktX6_readFor_0 : List UInt8 := dkwX6_readFor_0 ++ dktX6_readFor_1
theorem dksX6_readFor_0 : cX6_readFor.data.toList.drop 0 = dktX6_readFor_0 := by decide +kernel
theorem dksX6_readFor_1 : cX6_readFor.data.toList.drop 22 = dktX6_readFor_1 := dk_seg dksX6_readFor_0 22 rfl rfl
theorem dksX6_readFor_2 : cX6_readFor.data.toList.drop 46 = dktX6_readFor_2 := dk_seg dksX6_readFor_1 24 rfl rfl
theorem dksX6_readFor_3 : cX6_readFor.data.toList.drop 70 = dktX6_readFor_3 := dk_seg dksX6_readFor_2 24 rfl rfl
theorem dX6_readFor_0 : decode cX6_readFor 0 = .ok (.iconst 1, 1) := dk_4 (dk_at dksX6_readFor_0 0 rfl rfl)
theorem dX6_readFor_1 : decode cX6_readFor 1 = .ok (.iload_n 1, 1) := dk_27 (dk_at dksX6_readFor_0 1 rfl rfl)
theorem dX6_readFor_2 : decode cX6_readFor 2 = .ok (.ishl, 1) := dk_120 (dk_at dksX6_readFor_0 2 rfl rfl)
theorem dX6_readFor_3 : decode cX6_readFor 3 = .ok (.istore_n 2, 1) := dk_61 (dk_at dksX6_readFor_0 3 rfl rfl)
theorem dX6_readFor_4 : decode cX6_readFor 4 = .ok (.iconst 0, 1) := dk_3 (dk_at dksX6_readFor_0 4 rfl rfl)
theorem dX6_readFor_5 : decode cX6_readFor 5 = .ok (.istore_n 3, 1) := dk_62 (dk_at dksX6_readFor_0 5 rfl rfl)
theorem dX6_readFor_6 : decode cX6_readFor 6 = .ok (.iload_n 2, 1) := dk_28 (dk_at dksX6_readFor_0 6 rfl rfl)
theorem dX6_readFor_7 : decode cX6_readFor 7 = .ok (.iload_n 3, 1) := dk_29 (dk_at dksX6_readFor_0 7 rfl rfl)
theorem dX6_readFor_8 : decode cX6_readFor 8 = .ok (.if_icmp .eq 61, 3) := dk_159 0 61 (dk_at dksX6_readFor_0 8 rfl rfl)
theorem dX6_readFor_11 : decode cX6_readFor 11 = .ok (.iload_n 2, 1) := dk_28 (dk_at dksX6_readFor_0 11 rfl rfl)
theorem dX6_readFor_12 : decode cX6_readFor 12 = .ok (.istore_n 3, 1) := dk_62 (dk_at dksX6_readFor_0 12 rfl rfl)
theorem dX6_readFor_13 : decode cX6_readFor 13 = .ok (.iconst 0, 1) := dk_3 (dk_at dksX6_readFor_0 13 rfl rfl)
theorem dX6_readFor_14 : decode cX6_readFor 14 = .ok (.istore 4, 2) := dk_54 4 (dk_at dksX6_readFor_0 14 rfl rfl)
theorem dX6_readFor_16 : decode cX6_readFor 16 = .ok (.iload 4, 2) := dk_21 4 (dk_at dksX6_readFor_0 16 rfl rfl)
theorem dX6_readFor_18 : decode cX6_readFor 18 = .ok (.aload_n 0, 1) := dk_42 (dk_at dksX6_readFor_0 18 rfl rfl)
theorem dX6_readFor_19 : decode cX6_readFor 19 = .ok (.invokevirtual 112, 3) := dk_182 0 112 (dk_at dksX6_readFor_0 19 rfl rfl)
theorem dX6_readFor_22 : decode cX6_readFor 22 = .ok (.if_icmp .ge 44, 3) := dk_162 0 44 (dk_at dksX6_readFor_1 0 rfl rfl)
theorem dX6_readFor_25 : decode cX6_readFor 25 = .ok (.iload_n 2, 1) := dk_28 (dk_at dksX6_readFor_1 3 rfl rfl)
theorem dX6_readFor_26 : decode cX6_readFor 26 = .ok (.iload_n 3, 1) := dk_29 (dk_at dksX6_readFor_1 4 rfl rfl)
theorem dX6_readFor_27 : decode cX6_readFor 27 = .ok (.iload 4, 2) := dk_21 4 (dk_at dksX6_readFor_1 5 rfl rfl)
theorem dX6_readFor_29 : decode cX6_readFor 29 = .ok (.invokestatic 119, 3) := dk_184 0 119 (dk_at dksX6_readFor_1 7 rfl rfl)
theorem dX6_readFor_32 : decode cX6_readFor 32 = .ok (.ifCond .eq 25, 3) := dk_153 0 25 (dk_at dksX6_readFor_1 10 rfl rfl)
theorem dX6_readFor_35 : decode cX6_readFor 35 = .ok (.aload_n 0, 1) := dk_42 (dk_at dksX6_readFor_1 13 rfl rfl)
theorem dX6_readFor_36 : decode cX6_readFor 36 = .ok (.getfield 24, 3) := dk_180 0 24 (dk_at dksX6_readFor_1 14 rfl rfl)
theorem dX6_readFor_39 : decode cX6_readFor 39 = .ok (.bipush 22, 2) := dk_16 22 (dk_at dksX6_readFor_1 17 rfl rfl)
theorem dX6_readFor_41 : decode cX6_readFor 41 = .ok (.iload 4, 2) := dk_21 4 (dk_at dksX6_readFor_1 19 rfl rfl)
theorem dX6_readFor_43 : decode cX6_readFor 43 = .ok (.iadd, 1) := dk_96 (dk_at dksX6_readFor_1 21 rfl rfl)
theorem dX6_readFor_44 : decode cX6_readFor 44 = .ok (.iaload, 1) := dk_46 (dk_at dksX6_readFor_1 22 rfl rfl)
theorem dX6_readFor_45 : decode cX6_readFor 45 = .ok (.aload_n 0, 1) := dk_42 (dk_at dksX6_readFor_1 23 rfl rfl)
theorem dX6_readFor_46 : decode cX6_readFor 46 = .ok (.getfield 24, 3) := dk_180 0 24 (dk_at dksX6_readFor_2 0 rfl rfl)
theorem dX6_readFor_49 : decode cX6_readFor 49 = .ok (.iconst 0, 1) := dk_3 (dk_at dksX6_readFor_2 3 rfl rfl)
theorem dX6_readFor_50 : decode cX6_readFor 50 = .ok (.iaload, 1) := dk_46 (dk_at dksX6_readFor_2 4 rfl rfl)
theorem dX6_readFor_51 : decode cX6_readFor 51 = .ok (.iconst (-1), 1) := dk_2 (dk_at dksX6_readFor_2 5 rfl rfl)
theorem dX6_readFor_52 : decode cX6_readFor 52 = .ok (.ixor, 1) := dk_130 (dk_at dksX6_readFor_2 6 rfl rfl)
theorem dX6_readFor_53 : decode cX6_readFor 53 = .ok (.iand, 1) := dk_126 (dk_at dksX6_readFor_2 7 rfl rfl)
theorem dX6_readFor_54 : decode cX6_readFor 54 = .ok (.goto 4, 3) := dk_167 0 4 (dk_at dksX6_readFor_2 8 rfl rfl)
theorem dX6_readFor_57 : decode cX6_readFor 57 = .ok (.iconst 0, 1) := dk_3 (dk_at dksX6_readFor_2 11 rfl rfl)
theorem dX6_readFor_58 : decode cX6_readFor 58 = .ok (.ior, 1) := dk_128 (dk_at dksX6_readFor_2 12 rfl rfl)
theorem dX6_readFor_59 : decode cX6_readFor 59 = .ok (.istore_n 2, 1) := dk_61 (dk_at dksX6_readFor_2 13 rfl rfl)
theorem dX6_readFor_60 : decode cX6_readFor 60 = .ok (.iinc 4 1, 3) := dk_132 4 1 (dk_at dksX6_readFor_2 14 rfl rfl)
theorem dX6_readFor_63 : decode cX6_readFor 63 = .ok (.goto (-47), 3) := dk_167 255 209 (dk_at dksX6_readFor_2 17 rfl rfl)
theorem dX6_readFor_66 : decode cX6_readFor 66 = .ok (.goto (-60), 3) := dk_167 255 196 (dk_at dksX6_readFor_2 20 rfl rfl)
theorem dX6_readFor_69 : decode cX6_readFor 69 = .ok (.iload_n 2, 1) := dk_28 (dk_at dksX6_readFor_2 23 rfl rfl)
theorem dX6_readFor_70 : decode cX6_readFor 70 = .ok (.ireturn, 1) := dk_172 (dk_at dksX6_readFor_3 0 rfl rfl)
abbrev cX6_deep : ByteArray := prog_24_method_109_code
def yX6_deep : MethodName := ⟨RX6, "deep", "(I)I"⟩
def dkwX6_deep_1 : List UInt8 := [4, 27, 120, 128, 3, 182, 1, 153, 42, 180, 0, 74, 27, 46, 172]
abbrev dktX6_deep_1 : List UInt8 := dkwX6_deep_1 ++ []
def dkwX6_deep_0 : List UInt8 := [42, 27, 182, 0, 130, 153, 0, 11, 42, 27, 182, 1, 150, 153, 0, 5, 2, 172, 42, 42, 27, 182, 1, 123]
abbrev dktX6_deep_0 : List UInt8 := dkwX6_deep_0 ++ dktX6_deep_1
theorem dksX6_deep_0 : cX6_deep.data.toList.drop 0 = dktX6_deep_0 := by decide +kernel
theorem dksX6_deep_1 : cX6_deep.data.toList.drop 24 = dktX6_deep_1 := dk_seg dksX6_deep_0 24 rfl rfl
theorem dX6_deep_0 : decode cX6_deep 0 = .ok (.aload_n 0, 1) := dk_42 (dk_at dksX6_deep_0 0 rfl rfl)
theorem dX6_deep_1 : decode cX6_deep 1 = .ok (.iload_n 1, 1) := dk_27 (dk_at dksX6_deep_0 1 rfl rfl)
theorem dX6_deep_2 : decode cX6_deep 2 = .ok (.invokevirtual 130, 3) := dk_182 0 130 (dk_at dksX6_deep_0 2 rfl rfl)
theorem dX6_deep_5 : decode cX6_deep 5 = .ok (.ifCond .eq 11, 3) := dk_153 0 11 (dk_at dksX6_deep_0 5 rfl rfl)
theorem dX6_deep_8 : decode cX6_deep 8 = .ok (.aload_n 0, 1) := dk_42 (dk_at dksX6_deep_0 8 rfl rfl)
theorem dX6_deep_9 : decode cX6_deep 9 = .ok (.iload_n 1, 1) := dk_27 (dk_at dksX6_deep_0 9 rfl rfl)
theorem dX6_deep_10 : decode cX6_deep 10 = .ok (.invokevirtual 406, 3) := dk_182 1 150 (dk_at dksX6_deep_0 10 rfl rfl)
theorem dX6_deep_13 : decode cX6_deep 13 = .ok (.ifCond .eq 5, 3) := dk_153 0 5 (dk_at dksX6_deep_0 13 rfl rfl)
theorem dX6_deep_16 : decode cX6_deep 16 = .ok (.iconst (-1), 1) := dk_2 (dk_at dksX6_deep_0 16 rfl rfl)
theorem dX6_deep_17 : decode cX6_deep 17 = .ok (.ireturn, 1) := dk_172 (dk_at dksX6_deep_0 17 rfl rfl)
theorem dX6_deep_18 : decode cX6_deep 18 = .ok (.aload_n 0, 1) := dk_42 (dk_at dksX6_deep_0 18 rfl rfl)
theorem dX6_deep_19 : decode cX6_deep 19 = .ok (.aload_n 0, 1) := dk_42 (dk_at dksX6_deep_0 19 rfl rfl)
theorem dX6_deep_20 : decode cX6_deep 20 = .ok (.iload_n 1, 1) := dk_27 (dk_at dksX6_deep_0 20 rfl rfl)
theorem dX6_deep_21 : decode cX6_deep 21 = .ok (.invokevirtual 379, 3) := dk_182 1 123 (dk_at dksX6_deep_0 21 rfl rfl)
theorem dX6_deep_24 : decode cX6_deep 24 = .ok (.iconst 1, 1) := dk_4 (dk_at dksX6_deep_1 0 rfl rfl)
theorem dX6_deep_25 : decode cX6_deep 25 = .ok (.iload_n 1, 1) := dk_27 (dk_at dksX6_deep_1 1 rfl rfl)
theorem dX6_deep_26 : decode cX6_deep 26 = .ok (.ishl, 1) := dk_120 (dk_at dksX6_deep_1 2 rfl rfl)
theorem dX6_deep_27 : decode cX6_deep 27 = .ok (.ior, 1) := dk_128 (dk_at dksX6_deep_1 3 rfl rfl)
theorem dX6_deep_28 : decode cX6_deep 28 = .ok (.iconst 0, 1) := dk_3 (dk_at dksX6_deep_1 4 rfl rfl)
theorem dX6_deep_29 : decode cX6_deep 29 = .ok (.invokevirtual 409, 3) := dk_182 1 153 (dk_at dksX6_deep_1 5 rfl rfl)
theorem dX6_deep_32 : decode cX6_deep 32 = .ok (.aload_n 0, 1) := dk_42 (dk_at dksX6_deep_1 8 rfl rfl)
theorem dX6_deep_33 : decode cX6_deep 33 = .ok (.getfield 74, 3) := dk_180 0 74 (dk_at dksX6_deep_1 9 rfl rfl)
theorem dX6_deep_36 : decode cX6_deep 36 = .ok (.iload_n 1, 1) := dk_27 (dk_at dksX6_deep_1 12 rfl rfl)
theorem dX6_deep_37 : decode cX6_deep 37 = .ok (.iaload, 1) := dk_46 (dk_at dksX6_deep_1 13 rfl rfl)
theorem dX6_deep_38 : decode cX6_deep 38 = .ok (.ireturn, 1) := dk_172 (dk_at dksX6_deep_1 14 rfl rfl)
abbrev cX6_hasRing : ByteArray := prog_24_method_107_code
def yX6_hasRing : MethodName := ⟨RX6, "hasRing", "(I)Z"⟩
def dkwX6_hasRing_2 : List UInt8 := [167, 0, 4, 3, 62, 132, 4, 1, 167, 255, 211, 29, 172]
abbrev dktX6_hasRing_2 : List UInt8 := dkwX6_hasRing_2 ++ []
def dkwX6_hasRing_1 : List UInt8 := [28, 21, 4, 184, 0, 119, 153, 0, 21, 42, 21, 4, 182, 1, 123, 21, 4, 184, 0, 119, 153, 0, 7, 4]
abbrev dktX6_hasRing_1 : List UInt8 := dkwX6_hasRing_1 ++ dktX6_hasRing_2
def dkwX6_hasRing_0 : List UInt8 := [42, 27, 182, 1, 123, 61, 3, 62, 3, 54, 4, 21, 4, 42, 182, 0, 112, 162, 0, 42, 29, 154, 0, 26]
abbrev dktX6_hasRing_0 : List UInt8 := dkwX6_hasRing_0 ++ dktX6_hasRing_1
theorem dksX6_hasRing_0 : cX6_hasRing.data.toList.drop 0 = dktX6_hasRing_0 := by decide +kernel
theorem dksX6_hasRing_1 : cX6_hasRing.data.toList.drop 24 = dktX6_hasRing_1 := dk_seg dksX6_hasRing_0 24 rfl rfl
theorem dksX6_hasRing_2 : cX6_hasRing.data.toList.drop 48 = dktX6_hasRing_2 := dk_seg dksX6_hasRing_1 24 rfl rfl
theorem dX6_hasRing_0 : decode cX6_hasRing 0 = .ok (.aload_n 0, 1) := dk_42 (dk_at dksX6_hasRing_0 0 rfl rfl)
theorem dX6_hasRing_1 : decode cX6_hasRing 1 = .ok (.iload_n 1, 1) := dk_27 (dk_at dksX6_hasRing_0 1 rfl rfl)
theorem dX6_hasRing_2 : decode cX6_hasRing 2 = .ok (.invokevirtual 379, 3) := dk_182 1 123 (dk_at dksX6_hasRing_0 2 rfl rfl)
theorem dX6_hasRing_5 : decode cX6_hasRing 5 = .ok (.istore_n 2, 1) := dk_61 (dk_at dksX6_hasRing_0 5 rfl rfl)
theorem dX6_hasRing_6 : decode cX6_hasRing 6 = .ok (.iconst 0, 1) := dk_3 (dk_at dksX6_hasRing_0 6 rfl rfl)
theorem dX6_hasRing_7 : decode cX6_hasRing 7 = .ok (.istore_n 3, 1) := dk_62 (dk_at dksX6_hasRing_0 7 rfl rfl)
theorem dX6_hasRing_8 : decode cX6_hasRing 8 = .ok (.iconst 0, 1) := dk_3 (dk_at dksX6_hasRing_0 8 rfl rfl)
theorem dX6_hasRing_9 : decode cX6_hasRing 9 = .ok (.istore 4, 2) := dk_54 4 (dk_at dksX6_hasRing_0 9 rfl rfl)
theorem dX6_hasRing_11 : decode cX6_hasRing 11 = .ok (.iload 4, 2) := dk_21 4 (dk_at dksX6_hasRing_0 11 rfl rfl)
theorem dX6_hasRing_13 : decode cX6_hasRing 13 = .ok (.aload_n 0, 1) := dk_42 (dk_at dksX6_hasRing_0 13 rfl rfl)
theorem dX6_hasRing_14 : decode cX6_hasRing 14 = .ok (.invokevirtual 112, 3) := dk_182 0 112 (dk_at dksX6_hasRing_0 14 rfl rfl)
theorem dX6_hasRing_17 : decode cX6_hasRing 17 = .ok (.if_icmp .ge 42, 3) := dk_162 0 42 (dk_at dksX6_hasRing_0 17 rfl rfl)
theorem dX6_hasRing_20 : decode cX6_hasRing 20 = .ok (.iload_n 3, 1) := dk_29 (dk_at dksX6_hasRing_0 20 rfl rfl)
theorem dX6_hasRing_21 : decode cX6_hasRing 21 = .ok (.ifCond .ne 26, 3) := dk_154 0 26 (dk_at dksX6_hasRing_0 21 rfl rfl)
theorem dX6_hasRing_24 : decode cX6_hasRing 24 = .ok (.iload_n 2, 1) := dk_28 (dk_at dksX6_hasRing_1 0 rfl rfl)
theorem dX6_hasRing_25 : decode cX6_hasRing 25 = .ok (.iload 4, 2) := dk_21 4 (dk_at dksX6_hasRing_1 1 rfl rfl)
theorem dX6_hasRing_27 : decode cX6_hasRing 27 = .ok (.invokestatic 119, 3) := dk_184 0 119 (dk_at dksX6_hasRing_1 3 rfl rfl)
theorem dX6_hasRing_30 : decode cX6_hasRing 30 = .ok (.ifCond .eq 21, 3) := dk_153 0 21 (dk_at dksX6_hasRing_1 6 rfl rfl)
theorem dX6_hasRing_33 : decode cX6_hasRing 33 = .ok (.aload_n 0, 1) := dk_42 (dk_at dksX6_hasRing_1 9 rfl rfl)
theorem dX6_hasRing_34 : decode cX6_hasRing 34 = .ok (.iload 4, 2) := dk_21 4 (dk_at dksX6_hasRing_1 10 rfl rfl)
theorem dX6_hasRing_36 : decode cX6_hasRing 36 = .ok (.invokevirtual 379, 3) := dk_182 1 123 (dk_at dksX6_hasRing_1 12 rfl rfl)
theorem dX6_hasRing_39 : decode cX6_hasRing 39 = .ok (.iload 4, 2) := dk_21 4 (dk_at dksX6_hasRing_1 15 rfl rfl)
theorem dX6_hasRing_41 : decode cX6_hasRing 41 = .ok (.invokestatic 119, 3) := dk_184 0 119 (dk_at dksX6_hasRing_1 17 rfl rfl)
theorem dX6_hasRing_44 : decode cX6_hasRing 44 = .ok (.ifCond .eq 7, 3) := dk_153 0 7 (dk_at dksX6_hasRing_1 20 rfl rfl)
theorem dX6_hasRing_47 : decode cX6_hasRing 47 = .ok (.iconst 1, 1) := dk_4 (dk_at dksX6_hasRing_1 23 rfl rfl)
theorem dX6_hasRing_48 : decode cX6_hasRing 48 = .ok (.goto 4, 3) := dk_167 0 4 (dk_at dksX6_hasRing_2 0 rfl rfl)
theorem dX6_hasRing_51 : decode cX6_hasRing 51 = .ok (.iconst 0, 1) := dk_3 (dk_at dksX6_hasRing_2 3 rfl rfl)
theorem dX6_hasRing_52 : decode cX6_hasRing 52 = .ok (.istore_n 3, 1) := dk_62 (dk_at dksX6_hasRing_2 4 rfl rfl)
theorem dX6_hasRing_53 : decode cX6_hasRing 53 = .ok (.iinc 4 1, 3) := dk_132 4 1 (dk_at dksX6_hasRing_2 5 rfl rfl)
theorem dX6_hasRing_56 : decode cX6_hasRing 56 = .ok (.goto (-45), 3) := dk_167 255 211 (dk_at dksX6_hasRing_2 8 rfl rfl)
theorem dX6_hasRing_59 : decode cX6_hasRing 59 = .ok (.iload_n 3, 1) := dk_29 (dk_at dksX6_hasRing_2 11 rfl rfl)
theorem dX6_hasRing_60 : decode cX6_hasRing 60 = .ok (.ireturn, 1) := dk_172 (dk_at dksX6_hasRing_2 12 rfl rfl)
abbrev cX6_laysDepth : ByteArray := prog_24_method_108_code
def yX6_laysDepth : MethodName := ⟨RX6, "laysDepth", "(IZ)V"⟩
def dkwX6_laysDepth_6 : List UInt8 := [167, 0, 4, 4, 96, 167, 0, 4, 3, 79, 132, 4, 1, 167, 255, 136, 132, 3, 1, 167, 255, 121, 177]
abbrev dktX6_laysDepth_6 : List UInt8 := dkwX6_laysDepth_6 ++ []
def dkwX6_laysDepth_5 : List UInt8 := [21, 4, 184, 0, 119, 153, 0, 27, 21, 5, 28, 153, 0, 16, 42, 180, 0, 24, 16, 6, 21, 4, 96, 46]
abbrev dktX6_laysDepth_5 : List UInt8 := dkwX6_laysDepth_5 ++ dktX6_laysDepth_6
def dkwX6_laysDepth_4 : List UInt8 := [184, 1, 90, 167, 0, 5, 21, 5, 54, 5, 132, 6, 1, 167, 255, 198, 42, 180, 0, 74, 21, 4, 27]
abbrev dktX6_laysDepth_4 : List UInt8 := dkwX6_laysDepth_4 ++ dktX6_laysDepth_5
def dkwX6_laysDepth_3 : List UInt8 := [16, 22, 21, 4, 96, 46, 21, 6, 184, 0, 119, 153, 0, 18, 21, 5, 42, 180, 0, 74, 21, 6, 46]
abbrev dktX6_laysDepth_3 : List UInt8 := dkwX6_laysDepth_3 ++ dktX6_laysDepth_4
def dkwX6_laysDepth_2 : List UInt8 := [54, 6, 21, 6, 42, 182, 0, 112, 162, 0, 55, 27, 21, 6, 184, 0, 119, 153, 0, 36, 42, 180, 0, 24]
abbrev dktX6_laysDepth_2 : List UInt8 := dkwX6_laysDepth_2 ++ dktX6_laysDepth_3
def dkwX6_laysDepth_1 : List UInt8 := [62, 29, 16, 8, 162, 0, 135, 3, 54, 4, 21, 4, 42, 182, 0, 112, 162, 0, 117, 3, 54, 5, 3]
abbrev dktX6_laysDepth_1 : List UInt8 := dkwX6_laysDepth_1 ++ dktX6_laysDepth_2
def dkwX6_laysDepth_0 : List UInt8 := [3, 62, 29, 42, 182, 0, 112, 162, 0, 16, 42, 180, 0, 74, 29, 3, 79, 132, 3, 1, 167, 255, 238, 3]
abbrev dktX6_laysDepth_0 : List UInt8 := dkwX6_laysDepth_0 ++ dktX6_laysDepth_1
theorem dksX6_laysDepth_0 : cX6_laysDepth.data.toList.drop 0 = dktX6_laysDepth_0 := by decide +kernel
theorem dksX6_laysDepth_1 : cX6_laysDepth.data.toList.drop 24 = dktX6_laysDepth_1 := dk_seg dksX6_laysDepth_0 24 rfl rfl
theorem dksX6_laysDepth_2 : cX6_laysDepth.data.toList.drop 47 = dktX6_laysDepth_2 := dk_seg dksX6_laysDepth_1 23 rfl rfl
theorem dksX6_laysDepth_3 : cX6_laysDepth.data.toList.drop 71 = dktX6_laysDepth_3 := dk_seg dksX6_laysDepth_2 24 rfl rfl
theorem dksX6_laysDepth_4 : cX6_laysDepth.data.toList.drop 94 = dktX6_laysDepth_4 := dk_seg dksX6_laysDepth_3 23 rfl rfl
theorem dksX6_laysDepth_5 : cX6_laysDepth.data.toList.drop 117 = dktX6_laysDepth_5 := dk_seg dksX6_laysDepth_4 23 rfl rfl
theorem dksX6_laysDepth_6 : cX6_laysDepth.data.toList.drop 141 = dktX6_laysDepth_6 := dk_seg dksX6_laysDepth_5 24 rfl rfl
theorem dX6_laysDepth_0 : decode cX6_laysDepth 0 = .ok (.iconst 0, 1) := dk_3 (dk_at dksX6_laysDepth_0 0 rfl rfl)
theorem dX6_laysDepth_1 : decode cX6_laysDepth 1 = .ok (.istore_n 3, 1) := dk_62 (dk_at dksX6_laysDepth_0 1 rfl rfl)
theorem dX6_laysDepth_2 : decode cX6_laysDepth 2 = .ok (.iload_n 3, 1) := dk_29 (dk_at dksX6_laysDepth_0 2 rfl rfl)
theorem dX6_laysDepth_3 : decode cX6_laysDepth 3 = .ok (.aload_n 0, 1) := dk_42 (dk_at dksX6_laysDepth_0 3 rfl rfl)
theorem dX6_laysDepth_4 : decode cX6_laysDepth 4 = .ok (.invokevirtual 112, 3) := dk_182 0 112 (dk_at dksX6_laysDepth_0 4 rfl rfl)
theorem dX6_laysDepth_7 : decode cX6_laysDepth 7 = .ok (.if_icmp .ge 16, 3) := dk_162 0 16 (dk_at dksX6_laysDepth_0 7 rfl rfl)
theorem dX6_laysDepth_10 : decode cX6_laysDepth 10 = .ok (.aload_n 0, 1) := dk_42 (dk_at dksX6_laysDepth_0 10 rfl rfl)
theorem dX6_laysDepth_11 : decode cX6_laysDepth 11 = .ok (.getfield 74, 3) := dk_180 0 74 (dk_at dksX6_laysDepth_0 11 rfl rfl)
theorem dX6_laysDepth_14 : decode cX6_laysDepth 14 = .ok (.iload_n 3, 1) := dk_29 (dk_at dksX6_laysDepth_0 14 rfl rfl)
theorem dX6_laysDepth_15 : decode cX6_laysDepth 15 = .ok (.iconst 0, 1) := dk_3 (dk_at dksX6_laysDepth_0 15 rfl rfl)
theorem dX6_laysDepth_16 : decode cX6_laysDepth 16 = .ok (.iastore, 1) := dk_79 (dk_at dksX6_laysDepth_0 16 rfl rfl)
theorem dX6_laysDepth_17 : decode cX6_laysDepth 17 = .ok (.iinc 3 1, 3) := dk_132 3 1 (dk_at dksX6_laysDepth_0 17 rfl rfl)
theorem dX6_laysDepth_20 : decode cX6_laysDepth 20 = .ok (.goto (-18), 3) := dk_167 255 238 (dk_at dksX6_laysDepth_0 20 rfl rfl)
theorem dX6_laysDepth_23 : decode cX6_laysDepth 23 = .ok (.iconst 0, 1) := dk_3 (dk_at dksX6_laysDepth_0 23 rfl rfl)
theorem dX6_laysDepth_24 : decode cX6_laysDepth 24 = .ok (.istore_n 3, 1) := dk_62 (dk_at dksX6_laysDepth_1 0 rfl rfl)
theorem dX6_laysDepth_25 : decode cX6_laysDepth 25 = .ok (.iload_n 3, 1) := dk_29 (dk_at dksX6_laysDepth_1 1 rfl rfl)
theorem dX6_laysDepth_26 : decode cX6_laysDepth 26 = .ok (.bipush 8, 2) := dk_16 8 (dk_at dksX6_laysDepth_1 2 rfl rfl)
theorem dX6_laysDepth_28 : decode cX6_laysDepth 28 = .ok (.if_icmp .ge 135, 3) := dk_162 0 135 (dk_at dksX6_laysDepth_1 4 rfl rfl)
theorem dX6_laysDepth_31 : decode cX6_laysDepth 31 = .ok (.iconst 0, 1) := dk_3 (dk_at dksX6_laysDepth_1 7 rfl rfl)
theorem dX6_laysDepth_32 : decode cX6_laysDepth 32 = .ok (.istore 4, 2) := dk_54 4 (dk_at dksX6_laysDepth_1 8 rfl rfl)
theorem dX6_laysDepth_34 : decode cX6_laysDepth 34 = .ok (.iload 4, 2) := dk_21 4 (dk_at dksX6_laysDepth_1 10 rfl rfl)
theorem dX6_laysDepth_36 : decode cX6_laysDepth 36 = .ok (.aload_n 0, 1) := dk_42 (dk_at dksX6_laysDepth_1 12 rfl rfl)
theorem dX6_laysDepth_37 : decode cX6_laysDepth 37 = .ok (.invokevirtual 112, 3) := dk_182 0 112 (dk_at dksX6_laysDepth_1 13 rfl rfl)
theorem dX6_laysDepth_40 : decode cX6_laysDepth 40 = .ok (.if_icmp .ge 117, 3) := dk_162 0 117 (dk_at dksX6_laysDepth_1 16 rfl rfl)
theorem dX6_laysDepth_43 : decode cX6_laysDepth 43 = .ok (.iconst 0, 1) := dk_3 (dk_at dksX6_laysDepth_1 19 rfl rfl)
theorem dX6_laysDepth_44 : decode cX6_laysDepth 44 = .ok (.istore 5, 2) := dk_54 5 (dk_at dksX6_laysDepth_1 20 rfl rfl)
theorem dX6_laysDepth_46 : decode cX6_laysDepth 46 = .ok (.iconst 0, 1) := dk_3 (dk_at dksX6_laysDepth_1 22 rfl rfl)
theorem dX6_laysDepth_47 : decode cX6_laysDepth 47 = .ok (.istore 6, 2) := dk_54 6 (dk_at dksX6_laysDepth_2 0 rfl rfl)
theorem dX6_laysDepth_49 : decode cX6_laysDepth 49 = .ok (.iload 6, 2) := dk_21 6 (dk_at dksX6_laysDepth_2 2 rfl rfl)
theorem dX6_laysDepth_51 : decode cX6_laysDepth 51 = .ok (.aload_n 0, 1) := dk_42 (dk_at dksX6_laysDepth_2 4 rfl rfl)
theorem dX6_laysDepth_52 : decode cX6_laysDepth 52 = .ok (.invokevirtual 112, 3) := dk_182 0 112 (dk_at dksX6_laysDepth_2 5 rfl rfl)
theorem dX6_laysDepth_55 : decode cX6_laysDepth 55 = .ok (.if_icmp .ge 55, 3) := dk_162 0 55 (dk_at dksX6_laysDepth_2 8 rfl rfl)
theorem dX6_laysDepth_58 : decode cX6_laysDepth 58 = .ok (.iload_n 1, 1) := dk_27 (dk_at dksX6_laysDepth_2 11 rfl rfl)
theorem dX6_laysDepth_59 : decode cX6_laysDepth 59 = .ok (.iload 6, 2) := dk_21 6 (dk_at dksX6_laysDepth_2 12 rfl rfl)
theorem dX6_laysDepth_61 : decode cX6_laysDepth 61 = .ok (.invokestatic 119, 3) := dk_184 0 119 (dk_at dksX6_laysDepth_2 14 rfl rfl)
theorem dX6_laysDepth_64 : decode cX6_laysDepth 64 = .ok (.ifCond .eq 36, 3) := dk_153 0 36 (dk_at dksX6_laysDepth_2 17 rfl rfl)
theorem dX6_laysDepth_67 : decode cX6_laysDepth 67 = .ok (.aload_n 0, 1) := dk_42 (dk_at dksX6_laysDepth_2 20 rfl rfl)
theorem dX6_laysDepth_68 : decode cX6_laysDepth 68 = .ok (.getfield 24, 3) := dk_180 0 24 (dk_at dksX6_laysDepth_2 21 rfl rfl)
theorem dX6_laysDepth_71 : decode cX6_laysDepth 71 = .ok (.bipush 22, 2) := dk_16 22 (dk_at dksX6_laysDepth_3 0 rfl rfl)
theorem dX6_laysDepth_73 : decode cX6_laysDepth 73 = .ok (.iload 4, 2) := dk_21 4 (dk_at dksX6_laysDepth_3 2 rfl rfl)
theorem dX6_laysDepth_75 : decode cX6_laysDepth 75 = .ok (.iadd, 1) := dk_96 (dk_at dksX6_laysDepth_3 4 rfl rfl)
theorem dX6_laysDepth_76 : decode cX6_laysDepth 76 = .ok (.iaload, 1) := dk_46 (dk_at dksX6_laysDepth_3 5 rfl rfl)
theorem dX6_laysDepth_77 : decode cX6_laysDepth 77 = .ok (.iload 6, 2) := dk_21 6 (dk_at dksX6_laysDepth_3 6 rfl rfl)
theorem dX6_laysDepth_79 : decode cX6_laysDepth 79 = .ok (.invokestatic 119, 3) := dk_184 0 119 (dk_at dksX6_laysDepth_3 8 rfl rfl)
theorem dX6_laysDepth_82 : decode cX6_laysDepth 82 = .ok (.ifCond .eq 18, 3) := dk_153 0 18 (dk_at dksX6_laysDepth_3 11 rfl rfl)
theorem dX6_laysDepth_85 : decode cX6_laysDepth 85 = .ok (.iload 5, 2) := dk_21 5 (dk_at dksX6_laysDepth_3 14 rfl rfl)
theorem dX6_laysDepth_87 : decode cX6_laysDepth 87 = .ok (.aload_n 0, 1) := dk_42 (dk_at dksX6_laysDepth_3 16 rfl rfl)
theorem dX6_laysDepth_88 : decode cX6_laysDepth 88 = .ok (.getfield 74, 3) := dk_180 0 74 (dk_at dksX6_laysDepth_3 17 rfl rfl)
theorem dX6_laysDepth_91 : decode cX6_laysDepth 91 = .ok (.iload 6, 2) := dk_21 6 (dk_at dksX6_laysDepth_3 20 rfl rfl)
theorem dX6_laysDepth_93 : decode cX6_laysDepth 93 = .ok (.iaload, 1) := dk_46 (dk_at dksX6_laysDepth_3 22 rfl rfl)
theorem dX6_laysDepth_94 : decode cX6_laysDepth 94 = .ok (.invokestatic 346, 3) := dk_184 1 90 (dk_at dksX6_laysDepth_4 0 rfl rfl)
theorem dX6_laysDepth_97 : decode cX6_laysDepth 97 = .ok (.goto 5, 3) := dk_167 0 5 (dk_at dksX6_laysDepth_4 3 rfl rfl)
theorem dX6_laysDepth_100 : decode cX6_laysDepth 100 = .ok (.iload 5, 2) := dk_21 5 (dk_at dksX6_laysDepth_4 6 rfl rfl)
theorem dX6_laysDepth_102 : decode cX6_laysDepth 102 = .ok (.istore 5, 2) := dk_54 5 (dk_at dksX6_laysDepth_4 8 rfl rfl)
theorem dX6_laysDepth_104 : decode cX6_laysDepth 104 = .ok (.iinc 6 1, 3) := dk_132 6 1 (dk_at dksX6_laysDepth_4 10 rfl rfl)
theorem dX6_laysDepth_107 : decode cX6_laysDepth 107 = .ok (.goto (-58), 3) := dk_167 255 198 (dk_at dksX6_laysDepth_4 13 rfl rfl)
theorem dX6_laysDepth_110 : decode cX6_laysDepth 110 = .ok (.aload_n 0, 1) := dk_42 (dk_at dksX6_laysDepth_4 16 rfl rfl)
theorem dX6_laysDepth_111 : decode cX6_laysDepth 111 = .ok (.getfield 74, 3) := dk_180 0 74 (dk_at dksX6_laysDepth_4 17 rfl rfl)
theorem dX6_laysDepth_114 : decode cX6_laysDepth 114 = .ok (.iload 4, 2) := dk_21 4 (dk_at dksX6_laysDepth_4 20 rfl rfl)
theorem dX6_laysDepth_116 : decode cX6_laysDepth 116 = .ok (.iload_n 1, 1) := dk_27 (dk_at dksX6_laysDepth_4 22 rfl rfl)
theorem dX6_laysDepth_117 : decode cX6_laysDepth 117 = .ok (.iload 4, 2) := dk_21 4 (dk_at dksX6_laysDepth_5 0 rfl rfl)
theorem dX6_laysDepth_119 : decode cX6_laysDepth 119 = .ok (.invokestatic 119, 3) := dk_184 0 119 (dk_at dksX6_laysDepth_5 2 rfl rfl)
theorem dX6_laysDepth_122 : decode cX6_laysDepth 122 = .ok (.ifCond .eq 27, 3) := dk_153 0 27 (dk_at dksX6_laysDepth_5 5 rfl rfl)
theorem dX6_laysDepth_125 : decode cX6_laysDepth 125 = .ok (.iload 5, 2) := dk_21 5 (dk_at dksX6_laysDepth_5 8 rfl rfl)
theorem dX6_laysDepth_127 : decode cX6_laysDepth 127 = .ok (.iload_n 2, 1) := dk_28 (dk_at dksX6_laysDepth_5 10 rfl rfl)
theorem dX6_laysDepth_128 : decode cX6_laysDepth 128 = .ok (.ifCond .eq 16, 3) := dk_153 0 16 (dk_at dksX6_laysDepth_5 11 rfl rfl)
theorem dX6_laysDepth_131 : decode cX6_laysDepth 131 = .ok (.aload_n 0, 1) := dk_42 (dk_at dksX6_laysDepth_5 14 rfl rfl)
theorem dX6_laysDepth_132 : decode cX6_laysDepth 132 = .ok (.getfield 24, 3) := dk_180 0 24 (dk_at dksX6_laysDepth_5 15 rfl rfl)
theorem dX6_laysDepth_135 : decode cX6_laysDepth 135 = .ok (.bipush 6, 2) := dk_16 6 (dk_at dksX6_laysDepth_5 18 rfl rfl)
theorem dX6_laysDepth_137 : decode cX6_laysDepth 137 = .ok (.iload 4, 2) := dk_21 4 (dk_at dksX6_laysDepth_5 20 rfl rfl)
theorem dX6_laysDepth_139 : decode cX6_laysDepth 139 = .ok (.iadd, 1) := dk_96 (dk_at dksX6_laysDepth_5 22 rfl rfl)
theorem dX6_laysDepth_140 : decode cX6_laysDepth 140 = .ok (.iaload, 1) := dk_46 (dk_at dksX6_laysDepth_5 23 rfl rfl)
theorem dX6_laysDepth_141 : decode cX6_laysDepth 141 = .ok (.goto 4, 3) := dk_167 0 4 (dk_at dksX6_laysDepth_6 0 rfl rfl)
theorem dX6_laysDepth_144 : decode cX6_laysDepth 144 = .ok (.iconst 1, 1) := dk_4 (dk_at dksX6_laysDepth_6 3 rfl rfl)
theorem dX6_laysDepth_145 : decode cX6_laysDepth 145 = .ok (.iadd, 1) := dk_96 (dk_at dksX6_laysDepth_6 4 rfl rfl)
theorem dX6_laysDepth_146 : decode cX6_laysDepth 146 = .ok (.goto 4, 3) := dk_167 0 4 (dk_at dksX6_laysDepth_6 5 rfl rfl)
theorem dX6_laysDepth_149 : decode cX6_laysDepth 149 = .ok (.iconst 0, 1) := dk_3 (dk_at dksX6_laysDepth_6 8 rfl rfl)
theorem dX6_laysDepth_150 : decode cX6_laysDepth 150 = .ok (.iastore, 1) := dk_79 (dk_at dksX6_laysDepth_6 9 rfl rfl)
theorem dX6_laysDepth_151 : decode cX6_laysDepth 151 = .ok (.iinc 4 1, 3) := dk_132 4 1 (dk_at dksX6_laysDepth_6 10 rfl rfl)
theorem dX6_laysDepth_154 : decode cX6_laysDepth 154 = .ok (.goto (-120), 3) := dk_167 255 136 (dk_at dksX6_laysDepth_6 13 rfl rfl)
theorem dX6_laysDepth_157 : decode cX6_laysDepth 157 = .ok (.iinc 3 1, 3) := dk_132 3 1 (dk_at dksX6_laysDepth_6 16 rfl rfl)
theorem dX6_laysDepth_160 : decode cX6_laysDepth 160 = .ok (.goto (-135), 3) := dk_167 255 121 (dk_at dksX6_laysDepth_6 19 rfl rfl)
theorem dX6_laysDepth_163 : decode cX6_laysDepth 163 = .ok (.return_, 1) := dk_177 (dk_at dksX6_laysDepth_6 22 rfl rfl)
abbrev cX6_atOnce : ByteArray := prog_24_method_110_code
def yX6_atOnce : MethodName := ⟨RX6, "atOnce", "()I"⟩
def dkwX6_atOnce_1 : List UInt8 := [180, 0, 74, 28, 46, 184, 1, 90, 60, 132, 2, 1, 167, 255, 234, 27, 172]
abbrev dktX6_atOnce_1 : List UInt8 := dkwX6_atOnce_1 ++ []
def dkwX6_atOnce_0 : List UInt8 := [42, 42, 182, 1, 138, 4, 182, 1, 153, 3, 60, 3, 61, 28, 42, 182, 0, 112, 162, 0, 20, 27, 42]
abbrev dktX6_atOnce_0 : List UInt8 := dkwX6_atOnce_0 ++ dktX6_atOnce_1
theorem dksX6_atOnce_0 : cX6_atOnce.data.toList.drop 0 = dktX6_atOnce_0 := by decide +kernel
theorem dksX6_atOnce_1 : cX6_atOnce.data.toList.drop 23 = dktX6_atOnce_1 := dk_seg dksX6_atOnce_0 23 rfl rfl
theorem dX6_atOnce_0 : decode cX6_atOnce 0 = .ok (.aload_n 0, 1) := dk_42 (dk_at dksX6_atOnce_0 0 rfl rfl)
theorem dX6_atOnce_1 : decode cX6_atOnce 1 = .ok (.aload_n 0, 1) := dk_42 (dk_at dksX6_atOnce_0 1 rfl rfl)
theorem dX6_atOnce_2 : decode cX6_atOnce 2 = .ok (.invokevirtual 394, 3) := dk_182 1 138 (dk_at dksX6_atOnce_0 2 rfl rfl)
theorem dX6_atOnce_5 : decode cX6_atOnce 5 = .ok (.iconst 1, 1) := dk_4 (dk_at dksX6_atOnce_0 5 rfl rfl)
theorem dX6_atOnce_6 : decode cX6_atOnce 6 = .ok (.invokevirtual 409, 3) := dk_182 1 153 (dk_at dksX6_atOnce_0 6 rfl rfl)
theorem dX6_atOnce_9 : decode cX6_atOnce 9 = .ok (.iconst 0, 1) := dk_3 (dk_at dksX6_atOnce_0 9 rfl rfl)
theorem dX6_atOnce_10 : decode cX6_atOnce 10 = .ok (.istore_n 1, 1) := dk_60 (dk_at dksX6_atOnce_0 10 rfl rfl)
theorem dX6_atOnce_11 : decode cX6_atOnce 11 = .ok (.iconst 0, 1) := dk_3 (dk_at dksX6_atOnce_0 11 rfl rfl)
theorem dX6_atOnce_12 : decode cX6_atOnce 12 = .ok (.istore_n 2, 1) := dk_61 (dk_at dksX6_atOnce_0 12 rfl rfl)
theorem dX6_atOnce_13 : decode cX6_atOnce 13 = .ok (.iload_n 2, 1) := dk_28 (dk_at dksX6_atOnce_0 13 rfl rfl)
theorem dX6_atOnce_14 : decode cX6_atOnce 14 = .ok (.aload_n 0, 1) := dk_42 (dk_at dksX6_atOnce_0 14 rfl rfl)
theorem dX6_atOnce_15 : decode cX6_atOnce 15 = .ok (.invokevirtual 112, 3) := dk_182 0 112 (dk_at dksX6_atOnce_0 15 rfl rfl)
theorem dX6_atOnce_18 : decode cX6_atOnce 18 = .ok (.if_icmp .ge 20, 3) := dk_162 0 20 (dk_at dksX6_atOnce_0 18 rfl rfl)
theorem dX6_atOnce_21 : decode cX6_atOnce 21 = .ok (.iload_n 1, 1) := dk_27 (dk_at dksX6_atOnce_0 21 rfl rfl)
theorem dX6_atOnce_22 : decode cX6_atOnce 22 = .ok (.aload_n 0, 1) := dk_42 (dk_at dksX6_atOnce_0 22 rfl rfl)
theorem dX6_atOnce_23 : decode cX6_atOnce 23 = .ok (.getfield 74, 3) := dk_180 0 74 (dk_at dksX6_atOnce_1 0 rfl rfl)
theorem dX6_atOnce_26 : decode cX6_atOnce 26 = .ok (.iload_n 2, 1) := dk_28 (dk_at dksX6_atOnce_1 3 rfl rfl)
theorem dX6_atOnce_27 : decode cX6_atOnce 27 = .ok (.iaload, 1) := dk_46 (dk_at dksX6_atOnce_1 4 rfl rfl)
theorem dX6_atOnce_28 : decode cX6_atOnce 28 = .ok (.invokestatic 346, 3) := dk_184 1 90 (dk_at dksX6_atOnce_1 5 rfl rfl)
theorem dX6_atOnce_31 : decode cX6_atOnce 31 = .ok (.istore_n 1, 1) := dk_60 (dk_at dksX6_atOnce_1 8 rfl rfl)
theorem dX6_atOnce_32 : decode cX6_atOnce 32 = .ok (.iinc 2 1, 3) := dk_132 2 1 (dk_at dksX6_atOnce_1 9 rfl rfl)
theorem dX6_atOnce_35 : decode cX6_atOnce 35 = .ok (.goto (-22), 3) := dk_167 255 234 (dk_at dksX6_atOnce_1 12 rfl rfl)
theorem dX6_atOnce_38 : decode cX6_atOnce 38 = .ok (.iload_n 1, 1) := dk_27 (dk_at dksX6_atOnce_1 15 rfl rfl)
theorem dX6_atOnce_39 : decode cX6_atOnce 39 = .ok (.ireturn, 1) := dk_172 (dk_at dksX6_atOnce_1 16 rfl rfl)
abbrev cX6_key : ByteArray := prog_24_method_112_code
def yX6_key : MethodName := ⟨RX6, "key", "(I)I"⟩
def dkwX6_key_4 : List UInt8 := [172]
abbrev dktX6_key_4 : List UInt8 := dkwX6_key_4 ++ []
def dkwX6_key_3 : List UInt8 := [21, 5, 62, 132, 5, 1, 167, 255, 205, 29, 2, 159, 0, 7, 27, 154, 0, 7, 29, 167, 0, 5, 21, 4]
abbrev dktX6_key_3 : List UInt8 := dkwX6_key_3 ++ dktX6_key_4
def dkwX6_key_2 : List UInt8 := [182, 1, 157, 167, 0, 4, 2, 54, 6, 21, 6, 21, 4, 163, 0, 6, 167, 0, 10, 21, 6, 54, 4]
abbrev dktX6_key_2 : List UInt8 := dkwX6_key_2 ++ dktX6_key_3
def dkwX6_key_1 : List UInt8 := [21, 5, 42, 182, 0, 112, 162, 0, 48, 28, 21, 5, 184, 0, 119, 153, 0, 13, 42, 21, 5, 28]
abbrev dktX6_key_1 : List UInt8 := dkwX6_key_1 ++ dktX6_key_2
def dkwX6_key_0 : List UInt8 := [27, 3, 4, 184, 0, 102, 154, 0, 5, 2, 172, 42, 182, 1, 138, 61, 2, 62, 2, 54, 4, 3, 54, 5]
abbrev dktX6_key_0 : List UInt8 := dkwX6_key_0 ++ dktX6_key_1
theorem dksX6_key_0 : cX6_key.data.toList.drop 0 = dktX6_key_0 := by decide +kernel
theorem dksX6_key_1 : cX6_key.data.toList.drop 24 = dktX6_key_1 := dk_seg dksX6_key_0 24 rfl rfl
theorem dksX6_key_2 : cX6_key.data.toList.drop 46 = dktX6_key_2 := dk_seg dksX6_key_1 22 rfl rfl
theorem dksX6_key_3 : cX6_key.data.toList.drop 69 = dktX6_key_3 := dk_seg dksX6_key_2 23 rfl rfl
theorem dksX6_key_4 : cX6_key.data.toList.drop 93 = dktX6_key_4 := dk_seg dksX6_key_3 24 rfl rfl
theorem dX6_key_0 : decode cX6_key 0 = .ok (.iload_n 1, 1) := dk_27 (dk_at dksX6_key_0 0 rfl rfl)
theorem dX6_key_1 : decode cX6_key 1 = .ok (.iconst 0, 1) := dk_3 (dk_at dksX6_key_0 1 rfl rfl)
theorem dX6_key_2 : decode cX6_key 2 = .ok (.iconst 1, 1) := dk_4 (dk_at dksX6_key_0 2 rfl rfl)
theorem dX6_key_3 : decode cX6_key 3 = .ok (.invokestatic 102, 3) := dk_184 0 102 (dk_at dksX6_key_0 3 rfl rfl)
theorem dX6_key_6 : decode cX6_key 6 = .ok (.ifCond .ne 5, 3) := dk_154 0 5 (dk_at dksX6_key_0 6 rfl rfl)
theorem dX6_key_9 : decode cX6_key 9 = .ok (.iconst (-1), 1) := dk_2 (dk_at dksX6_key_0 9 rfl rfl)
theorem dX6_key_10 : decode cX6_key 10 = .ok (.ireturn, 1) := dk_172 (dk_at dksX6_key_0 10 rfl rfl)
theorem dX6_key_11 : decode cX6_key 11 = .ok (.aload_n 0, 1) := dk_42 (dk_at dksX6_key_0 11 rfl rfl)
theorem dX6_key_12 : decode cX6_key 12 = .ok (.invokevirtual 394, 3) := dk_182 1 138 (dk_at dksX6_key_0 12 rfl rfl)
theorem dX6_key_15 : decode cX6_key 15 = .ok (.istore_n 2, 1) := dk_61 (dk_at dksX6_key_0 15 rfl rfl)
theorem dX6_key_16 : decode cX6_key 16 = .ok (.iconst (-1), 1) := dk_2 (dk_at dksX6_key_0 16 rfl rfl)
theorem dX6_key_17 : decode cX6_key 17 = .ok (.istore_n 3, 1) := dk_62 (dk_at dksX6_key_0 17 rfl rfl)
theorem dX6_key_18 : decode cX6_key 18 = .ok (.iconst (-1), 1) := dk_2 (dk_at dksX6_key_0 18 rfl rfl)
theorem dX6_key_19 : decode cX6_key 19 = .ok (.istore 4, 2) := dk_54 4 (dk_at dksX6_key_0 19 rfl rfl)
theorem dX6_key_21 : decode cX6_key 21 = .ok (.iconst 0, 1) := dk_3 (dk_at dksX6_key_0 21 rfl rfl)
theorem dX6_key_22 : decode cX6_key 22 = .ok (.istore 5, 2) := dk_54 5 (dk_at dksX6_key_0 22 rfl rfl)
theorem dX6_key_24 : decode cX6_key 24 = .ok (.iload 5, 2) := dk_21 5 (dk_at dksX6_key_1 0 rfl rfl)
theorem dX6_key_26 : decode cX6_key 26 = .ok (.aload_n 0, 1) := dk_42 (dk_at dksX6_key_1 2 rfl rfl)
theorem dX6_key_27 : decode cX6_key 27 = .ok (.invokevirtual 112, 3) := dk_182 0 112 (dk_at dksX6_key_1 3 rfl rfl)
theorem dX6_key_30 : decode cX6_key 30 = .ok (.if_icmp .ge 48, 3) := dk_162 0 48 (dk_at dksX6_key_1 6 rfl rfl)
theorem dX6_key_33 : decode cX6_key 33 = .ok (.iload_n 2, 1) := dk_28 (dk_at dksX6_key_1 9 rfl rfl)
theorem dX6_key_34 : decode cX6_key 34 = .ok (.iload 5, 2) := dk_21 5 (dk_at dksX6_key_1 10 rfl rfl)
theorem dX6_key_36 : decode cX6_key 36 = .ok (.invokestatic 119, 3) := dk_184 0 119 (dk_at dksX6_key_1 12 rfl rfl)
theorem dX6_key_39 : decode cX6_key 39 = .ok (.ifCond .eq 13, 3) := dk_153 0 13 (dk_at dksX6_key_1 15 rfl rfl)
theorem dX6_key_42 : decode cX6_key 42 = .ok (.aload_n 0, 1) := dk_42 (dk_at dksX6_key_1 18 rfl rfl)
theorem dX6_key_43 : decode cX6_key 43 = .ok (.iload 5, 2) := dk_21 5 (dk_at dksX6_key_1 19 rfl rfl)
theorem dX6_key_45 : decode cX6_key 45 = .ok (.iload_n 2, 1) := dk_28 (dk_at dksX6_key_1 21 rfl rfl)
theorem dX6_key_46 : decode cX6_key 46 = .ok (.invokevirtual 413, 3) := dk_182 1 157 (dk_at dksX6_key_2 0 rfl rfl)
theorem dX6_key_49 : decode cX6_key 49 = .ok (.goto 4, 3) := dk_167 0 4 (dk_at dksX6_key_2 3 rfl rfl)
theorem dX6_key_52 : decode cX6_key 52 = .ok (.iconst (-1), 1) := dk_2 (dk_at dksX6_key_2 6 rfl rfl)
theorem dX6_key_53 : decode cX6_key 53 = .ok (.istore 6, 2) := dk_54 6 (dk_at dksX6_key_2 7 rfl rfl)
theorem dX6_key_55 : decode cX6_key 55 = .ok (.iload 6, 2) := dk_21 6 (dk_at dksX6_key_2 9 rfl rfl)
theorem dX6_key_57 : decode cX6_key 57 = .ok (.iload 4, 2) := dk_21 4 (dk_at dksX6_key_2 11 rfl rfl)
theorem dX6_key_59 : decode cX6_key 59 = .ok (.if_icmp .gt 6, 3) := dk_163 0 6 (dk_at dksX6_key_2 13 rfl rfl)
theorem dX6_key_62 : decode cX6_key 62 = .ok (.goto 10, 3) := dk_167 0 10 (dk_at dksX6_key_2 16 rfl rfl)
theorem dX6_key_65 : decode cX6_key 65 = .ok (.iload 6, 2) := dk_21 6 (dk_at dksX6_key_2 19 rfl rfl)
theorem dX6_key_67 : decode cX6_key 67 = .ok (.istore 4, 2) := dk_54 4 (dk_at dksX6_key_2 21 rfl rfl)
theorem dX6_key_69 : decode cX6_key 69 = .ok (.iload 5, 2) := dk_21 5 (dk_at dksX6_key_3 0 rfl rfl)
theorem dX6_key_71 : decode cX6_key 71 = .ok (.istore_n 3, 1) := dk_62 (dk_at dksX6_key_3 2 rfl rfl)
theorem dX6_key_72 : decode cX6_key 72 = .ok (.iinc 5 1, 3) := dk_132 5 1 (dk_at dksX6_key_3 3 rfl rfl)
theorem dX6_key_75 : decode cX6_key 75 = .ok (.goto (-51), 3) := dk_167 255 205 (dk_at dksX6_key_3 6 rfl rfl)
theorem dX6_key_78 : decode cX6_key 78 = .ok (.iload_n 3, 1) := dk_29 (dk_at dksX6_key_3 9 rfl rfl)
theorem dX6_key_79 : decode cX6_key 79 = .ok (.iconst (-1), 1) := dk_2 (dk_at dksX6_key_3 10 rfl rfl)
theorem dX6_key_80 : decode cX6_key 80 = .ok (.if_icmp .eq 7, 3) := dk_159 0 7 (dk_at dksX6_key_3 11 rfl rfl)
theorem dX6_key_83 : decode cX6_key 83 = .ok (.iload_n 1, 1) := dk_27 (dk_at dksX6_key_3 14 rfl rfl)
theorem dX6_key_84 : decode cX6_key 84 = .ok (.ifCond .ne 7, 3) := dk_154 0 7 (dk_at dksX6_key_3 15 rfl rfl)
theorem dX6_key_87 : decode cX6_key 87 = .ok (.iload_n 3, 1) := dk_29 (dk_at dksX6_key_3 18 rfl rfl)
theorem dX6_key_88 : decode cX6_key 88 = .ok (.goto 5, 3) := dk_167 0 5 (dk_at dksX6_key_3 19 rfl rfl)
theorem dX6_key_91 : decode cX6_key 91 = .ok (.iload 4, 2) := dk_21 4 (dk_at dksX6_key_3 22 rfl rfl)
theorem dX6_key_93 : decode cX6_key 93 = .ok (.ireturn, 1) := dk_172 (dk_at dksX6_key_4 0 rfl rfl)
abbrev cX6_needIt : ByteArray := prog_24_method_111_code
def yX6_needIt : MethodName := ⟨RX6, "needIt", "(II)I"⟩
def dkwX6_needIt_2 : List UInt8 := [96, 62, 132, 4, 1, 167, 255, 208, 29, 172]
abbrev dktX6_needIt_2 : List UInt8 := dkwX6_needIt_2 ++ []
def dkwX6_needIt_1 : List UInt8 := [184, 0, 119, 153, 0, 20, 42, 21, 4, 182, 1, 123, 27, 184, 0, 119, 153, 0, 7, 4, 167, 0, 4, 3]
abbrev dktX6_needIt_1 : List UInt8 := dkwX6_needIt_1 ++ dktX6_needIt_2
def dkwX6_needIt_0 : List UInt8 := [3, 62, 3, 54, 4, 21, 4, 42, 182, 0, 112, 162, 0, 45, 29, 21, 4, 27, 159, 0, 29, 28, 21, 4]
abbrev dktX6_needIt_0 : List UInt8 := dkwX6_needIt_0 ++ dktX6_needIt_1
theorem dksX6_needIt_0 : cX6_needIt.data.toList.drop 0 = dktX6_needIt_0 := by decide +kernel
theorem dksX6_needIt_1 : cX6_needIt.data.toList.drop 24 = dktX6_needIt_1 := dk_seg dksX6_needIt_0 24 rfl rfl
theorem dksX6_needIt_2 : cX6_needIt.data.toList.drop 48 = dktX6_needIt_2 := dk_seg dksX6_needIt_1 24 rfl rfl
theorem dX6_needIt_0 : decode cX6_needIt 0 = .ok (.iconst 0, 1) := dk_3 (dk_at dksX6_needIt_0 0 rfl rfl)
theorem dX6_needIt_1 : decode cX6_needIt 1 = .ok (.istore_n 3, 1) := dk_62 (dk_at dksX6_needIt_0 1 rfl rfl)
theorem dX6_needIt_2 : decode cX6_needIt 2 = .ok (.iconst 0, 1) := dk_3 (dk_at dksX6_needIt_0 2 rfl rfl)
theorem dX6_needIt_3 : decode cX6_needIt 3 = .ok (.istore 4, 2) := dk_54 4 (dk_at dksX6_needIt_0 3 rfl rfl)
theorem dX6_needIt_5 : decode cX6_needIt 5 = .ok (.iload 4, 2) := dk_21 4 (dk_at dksX6_needIt_0 5 rfl rfl)
theorem dX6_needIt_7 : decode cX6_needIt 7 = .ok (.aload_n 0, 1) := dk_42 (dk_at dksX6_needIt_0 7 rfl rfl)
theorem dX6_needIt_8 : decode cX6_needIt 8 = .ok (.invokevirtual 112, 3) := dk_182 0 112 (dk_at dksX6_needIt_0 8 rfl rfl)
theorem dX6_needIt_11 : decode cX6_needIt 11 = .ok (.if_icmp .ge 45, 3) := dk_162 0 45 (dk_at dksX6_needIt_0 11 rfl rfl)
theorem dX6_needIt_14 : decode cX6_needIt 14 = .ok (.iload_n 3, 1) := dk_29 (dk_at dksX6_needIt_0 14 rfl rfl)
theorem dX6_needIt_15 : decode cX6_needIt 15 = .ok (.iload 4, 2) := dk_21 4 (dk_at dksX6_needIt_0 15 rfl rfl)
theorem dX6_needIt_17 : decode cX6_needIt 17 = .ok (.iload_n 1, 1) := dk_27 (dk_at dksX6_needIt_0 17 rfl rfl)
theorem dX6_needIt_18 : decode cX6_needIt 18 = .ok (.if_icmp .eq 29, 3) := dk_159 0 29 (dk_at dksX6_needIt_0 18 rfl rfl)
theorem dX6_needIt_21 : decode cX6_needIt 21 = .ok (.iload_n 2, 1) := dk_28 (dk_at dksX6_needIt_0 21 rfl rfl)
theorem dX6_needIt_22 : decode cX6_needIt 22 = .ok (.iload 4, 2) := dk_21 4 (dk_at dksX6_needIt_0 22 rfl rfl)
theorem dX6_needIt_24 : decode cX6_needIt 24 = .ok (.invokestatic 119, 3) := dk_184 0 119 (dk_at dksX6_needIt_1 0 rfl rfl)
theorem dX6_needIt_27 : decode cX6_needIt 27 = .ok (.ifCond .eq 20, 3) := dk_153 0 20 (dk_at dksX6_needIt_1 3 rfl rfl)
theorem dX6_needIt_30 : decode cX6_needIt 30 = .ok (.aload_n 0, 1) := dk_42 (dk_at dksX6_needIt_1 6 rfl rfl)
theorem dX6_needIt_31 : decode cX6_needIt 31 = .ok (.iload 4, 2) := dk_21 4 (dk_at dksX6_needIt_1 7 rfl rfl)
theorem dX6_needIt_33 : decode cX6_needIt 33 = .ok (.invokevirtual 379, 3) := dk_182 1 123 (dk_at dksX6_needIt_1 9 rfl rfl)
theorem dX6_needIt_36 : decode cX6_needIt 36 = .ok (.iload_n 1, 1) := dk_27 (dk_at dksX6_needIt_1 12 rfl rfl)
theorem dX6_needIt_37 : decode cX6_needIt 37 = .ok (.invokestatic 119, 3) := dk_184 0 119 (dk_at dksX6_needIt_1 13 rfl rfl)
theorem dX6_needIt_40 : decode cX6_needIt 40 = .ok (.ifCond .eq 7, 3) := dk_153 0 7 (dk_at dksX6_needIt_1 16 rfl rfl)
theorem dX6_needIt_43 : decode cX6_needIt 43 = .ok (.iconst 1, 1) := dk_4 (dk_at dksX6_needIt_1 19 rfl rfl)
theorem dX6_needIt_44 : decode cX6_needIt 44 = .ok (.goto 4, 3) := dk_167 0 4 (dk_at dksX6_needIt_1 20 rfl rfl)
theorem dX6_needIt_47 : decode cX6_needIt 47 = .ok (.iconst 0, 1) := dk_3 (dk_at dksX6_needIt_1 23 rfl rfl)
theorem dX6_needIt_48 : decode cX6_needIt 48 = .ok (.iadd, 1) := dk_96 (dk_at dksX6_needIt_2 0 rfl rfl)
theorem dX6_needIt_49 : decode cX6_needIt 49 = .ok (.istore_n 3, 1) := dk_62 (dk_at dksX6_needIt_2 1 rfl rfl)
theorem dX6_needIt_50 : decode cX6_needIt 50 = .ok (.iinc 4 1, 3) := dk_132 4 1 (dk_at dksX6_needIt_2 2 rfl rfl)
theorem dX6_needIt_53 : decode cX6_needIt 53 = .ok (.goto (-48), 3) := dk_167 255 208 (dk_at dksX6_needIt_2 5 rfl rfl)
theorem dX6_needIt_56 : decode cX6_needIt 56 = .ok (.iload_n 3, 1) := dk_29 (dk_at dksX6_needIt_2 8 rfl rfl)
theorem dX6_needIt_57 : decode cX6_needIt 57 = .ok (.ireturn, 1) := dk_172 (dk_at dksX6_needIt_2 9 rfl rfl)
abbrev cX6_tallest : ByteArray := prog_24_method_118_code
def yX6_tallest : MethodName := ⟨RX6, "tallest", "(III)I"⟩
def dkwX6_tallest_2 : List UInt8 := [180, 1, 172, 162, 0, 12, 42, 180, 0, 83, 29, 46, 167, 0, 4, 2, 172]
abbrev dktX6_tallest_2 : List UInt8 := dkwX6_tallest_2 ++ []
def dkwX6_tallest_1 : List UInt8 := [172, 42, 27, 28, 18, 177, 182, 1, 187, 29, 2, 160, 0, 10, 42, 180, 1, 169, 167, 0, 21, 29, 42]
abbrev dktX6_tallest_1 : List UInt8 := dkwX6_tallest_1 ++ dktX6_tallest_2
def dkwX6_tallest_0 : List UInt8 := [42, 27, 182, 0, 143, 153, 0, 18, 28, 3, 16, 60, 184, 0, 102, 153, 0, 8, 29, 2, 162, 0, 5, 2]
abbrev dktX6_tallest_0 : List UInt8 := dkwX6_tallest_0 ++ dktX6_tallest_1
theorem dksX6_tallest_0 : cX6_tallest.data.toList.drop 0 = dktX6_tallest_0 := by decide +kernel
theorem dksX6_tallest_1 : cX6_tallest.data.toList.drop 24 = dktX6_tallest_1 := dk_seg dksX6_tallest_0 24 rfl rfl
theorem dksX6_tallest_2 : cX6_tallest.data.toList.drop 47 = dktX6_tallest_2 := dk_seg dksX6_tallest_1 23 rfl rfl
theorem dX6_tallest_0 : decode cX6_tallest 0 = .ok (.aload_n 0, 1) := dk_42 (dk_at dksX6_tallest_0 0 rfl rfl)
theorem dX6_tallest_1 : decode cX6_tallest 1 = .ok (.iload_n 1, 1) := dk_27 (dk_at dksX6_tallest_0 1 rfl rfl)
theorem dX6_tallest_2 : decode cX6_tallest 2 = .ok (.invokevirtual 143, 3) := dk_182 0 143 (dk_at dksX6_tallest_0 2 rfl rfl)
theorem dX6_tallest_5 : decode cX6_tallest 5 = .ok (.ifCond .eq 18, 3) := dk_153 0 18 (dk_at dksX6_tallest_0 5 rfl rfl)
theorem dX6_tallest_8 : decode cX6_tallest 8 = .ok (.iload_n 2, 1) := dk_28 (dk_at dksX6_tallest_0 8 rfl rfl)
theorem dX6_tallest_9 : decode cX6_tallest 9 = .ok (.iconst 0, 1) := dk_3 (dk_at dksX6_tallest_0 9 rfl rfl)
theorem dX6_tallest_10 : decode cX6_tallest 10 = .ok (.bipush 60, 2) := dk_16 60 (dk_at dksX6_tallest_0 10 rfl rfl)
theorem dX6_tallest_12 : decode cX6_tallest 12 = .ok (.invokestatic 102, 3) := dk_184 0 102 (dk_at dksX6_tallest_0 12 rfl rfl)
theorem dX6_tallest_15 : decode cX6_tallest 15 = .ok (.ifCond .eq 8, 3) := dk_153 0 8 (dk_at dksX6_tallest_0 15 rfl rfl)
theorem dX6_tallest_18 : decode cX6_tallest 18 = .ok (.iload_n 3, 1) := dk_29 (dk_at dksX6_tallest_0 18 rfl rfl)
theorem dX6_tallest_19 : decode cX6_tallest 19 = .ok (.iconst (-1), 1) := dk_2 (dk_at dksX6_tallest_0 19 rfl rfl)
theorem dX6_tallest_20 : decode cX6_tallest 20 = .ok (.if_icmp .ge 5, 3) := dk_162 0 5 (dk_at dksX6_tallest_0 20 rfl rfl)
theorem dX6_tallest_23 : decode cX6_tallest 23 = .ok (.iconst (-1), 1) := dk_2 (dk_at dksX6_tallest_0 23 rfl rfl)
theorem dX6_tallest_24 : decode cX6_tallest 24 = .ok (.ireturn, 1) := dk_172 (dk_at dksX6_tallest_1 0 rfl rfl)
theorem dX6_tallest_25 : decode cX6_tallest 25 = .ok (.aload_n 0, 1) := dk_42 (dk_at dksX6_tallest_1 1 rfl rfl)
theorem dX6_tallest_26 : decode cX6_tallest 26 = .ok (.iload_n 1, 1) := dk_27 (dk_at dksX6_tallest_1 2 rfl rfl)
theorem dX6_tallest_27 : decode cX6_tallest 27 = .ok (.iload_n 2, 1) := dk_28 (dk_at dksX6_tallest_1 3 rfl rfl)
theorem dX6_tallest_28 : decode cX6_tallest 28 = .ok (.ldc 177, 2) := dk_18 177 (dk_at dksX6_tallest_1 4 rfl rfl)
theorem dX6_tallest_30 : decode cX6_tallest 30 = .ok (.invokevirtual 443, 3) := dk_182 1 187 (dk_at dksX6_tallest_1 6 rfl rfl)
theorem dX6_tallest_33 : decode cX6_tallest 33 = .ok (.iload_n 3, 1) := dk_29 (dk_at dksX6_tallest_1 9 rfl rfl)
theorem dX6_tallest_34 : decode cX6_tallest 34 = .ok (.iconst (-1), 1) := dk_2 (dk_at dksX6_tallest_1 10 rfl rfl)
theorem dX6_tallest_35 : decode cX6_tallest 35 = .ok (.if_icmp .ne 10, 3) := dk_160 0 10 (dk_at dksX6_tallest_1 11 rfl rfl)
theorem dX6_tallest_38 : decode cX6_tallest 38 = .ok (.aload_n 0, 1) := dk_42 (dk_at dksX6_tallest_1 14 rfl rfl)
theorem dX6_tallest_39 : decode cX6_tallest 39 = .ok (.getfield 425, 3) := dk_180 1 169 (dk_at dksX6_tallest_1 15 rfl rfl)
theorem dX6_tallest_42 : decode cX6_tallest 42 = .ok (.goto 21, 3) := dk_167 0 21 (dk_at dksX6_tallest_1 18 rfl rfl)
theorem dX6_tallest_45 : decode cX6_tallest 45 = .ok (.iload_n 3, 1) := dk_29 (dk_at dksX6_tallest_1 21 rfl rfl)
theorem dX6_tallest_46 : decode cX6_tallest 46 = .ok (.aload_n 0, 1) := dk_42 (dk_at dksX6_tallest_1 22 rfl rfl)
theorem dX6_tallest_47 : decode cX6_tallest 47 = .ok (.getfield 428, 3) := dk_180 1 172 (dk_at dksX6_tallest_2 0 rfl rfl)
theorem dX6_tallest_50 : decode cX6_tallest 50 = .ok (.if_icmp .ge 12, 3) := dk_162 0 12 (dk_at dksX6_tallest_2 3 rfl rfl)
theorem dX6_tallest_53 : decode cX6_tallest 53 = .ok (.aload_n 0, 1) := dk_42 (dk_at dksX6_tallest_2 6 rfl rfl)
theorem dX6_tallest_54 : decode cX6_tallest 54 = .ok (.getfield 83, 3) := dk_180 0 83 (dk_at dksX6_tallest_2 7 rfl rfl)
theorem dX6_tallest_57 : decode cX6_tallest 57 = .ok (.iload_n 3, 1) := dk_29 (dk_at dksX6_tallest_2 10 rfl rfl)
theorem dX6_tallest_58 : decode cX6_tallest 58 = .ok (.iaload, 1) := dk_46 (dk_at dksX6_tallest_2 11 rfl rfl)
theorem dX6_tallest_59 : decode cX6_tallest 59 = .ok (.goto 4, 3) := dk_167 0 4 (dk_at dksX6_tallest_2 12 rfl rfl)
theorem dX6_tallest_62 : decode cX6_tallest 62 = .ok (.iconst (-1), 1) := dk_2 (dk_at dksX6_tallest_2 15 rfl rfl)
theorem dX6_tallest_63 : decode cX6_tallest 63 = .ok (.ireturn, 1) := dk_172 (dk_at dksX6_tallest_2 16 rfl rfl)
abbrev cX6_goesThrough : ByteArray := prog_24_method_117_code
def yX6_goesThrough : MethodName := ⟨RX6, "goesThrough", "(III)V"⟩
def dkwX6_goesThrough_2 : List UInt8 := [182, 1, 181, 177]
abbrev dktX6_goesThrough_2 : List UInt8 := dkwX6_goesThrough_2 ++ []
def dkwX6_goesThrough_1 : List UInt8 := [42, 18, 177, 181, 1, 166, 42, 27, 42, 180, 0, 24, 3, 46, 3, 42, 180, 0, 24, 4, 27, 96, 46, 3]
abbrev dktX6_goesThrough_1 : List UInt8 := dkwX6_goesThrough_1 ++ dktX6_goesThrough_2
def dkwX6_goesThrough_0 : List UInt8 := [42, 182, 1, 184, 42, 28, 181, 1, 178, 42, 29, 181, 1, 163, 42, 2, 181, 1, 169, 42, 3, 181, 1, 172]
abbrev dktX6_goesThrough_0 : List UInt8 := dkwX6_goesThrough_0 ++ dktX6_goesThrough_1
theorem dksX6_goesThrough_0 : cX6_goesThrough.data.toList.drop 0 = dktX6_goesThrough_0 := by decide +kernel
theorem dksX6_goesThrough_1 : cX6_goesThrough.data.toList.drop 24 = dktX6_goesThrough_1 := dk_seg dksX6_goesThrough_0 24 rfl rfl
theorem dksX6_goesThrough_2 : cX6_goesThrough.data.toList.drop 48 = dktX6_goesThrough_2 := dk_seg dksX6_goesThrough_1 24 rfl rfl
theorem dX6_goesThrough_0 : decode cX6_goesThrough 0 = .ok (.aload_n 0, 1) := dk_42 (dk_at dksX6_goesThrough_0 0 rfl rfl)
theorem dX6_goesThrough_1 : decode cX6_goesThrough 1 = .ok (.invokevirtual 440, 3) := dk_182 1 184 (dk_at dksX6_goesThrough_0 1 rfl rfl)
theorem dX6_goesThrough_4 : decode cX6_goesThrough 4 = .ok (.aload_n 0, 1) := dk_42 (dk_at dksX6_goesThrough_0 4 rfl rfl)
theorem dX6_goesThrough_5 : decode cX6_goesThrough 5 = .ok (.iload_n 2, 1) := dk_28 (dk_at dksX6_goesThrough_0 5 rfl rfl)
theorem dX6_goesThrough_6 : decode cX6_goesThrough 6 = .ok (.putfield 434, 3) := dk_181 1 178 (dk_at dksX6_goesThrough_0 6 rfl rfl)
theorem dX6_goesThrough_9 : decode cX6_goesThrough 9 = .ok (.aload_n 0, 1) := dk_42 (dk_at dksX6_goesThrough_0 9 rfl rfl)
theorem dX6_goesThrough_10 : decode cX6_goesThrough 10 = .ok (.iload_n 3, 1) := dk_29 (dk_at dksX6_goesThrough_0 10 rfl rfl)
theorem dX6_goesThrough_11 : decode cX6_goesThrough 11 = .ok (.putfield 419, 3) := dk_181 1 163 (dk_at dksX6_goesThrough_0 11 rfl rfl)
theorem dX6_goesThrough_14 : decode cX6_goesThrough 14 = .ok (.aload_n 0, 1) := dk_42 (dk_at dksX6_goesThrough_0 14 rfl rfl)
theorem dX6_goesThrough_15 : decode cX6_goesThrough 15 = .ok (.iconst (-1), 1) := dk_2 (dk_at dksX6_goesThrough_0 15 rfl rfl)
theorem dX6_goesThrough_16 : decode cX6_goesThrough 16 = .ok (.putfield 425, 3) := dk_181 1 169 (dk_at dksX6_goesThrough_0 16 rfl rfl)
theorem dX6_goesThrough_19 : decode cX6_goesThrough 19 = .ok (.aload_n 0, 1) := dk_42 (dk_at dksX6_goesThrough_0 19 rfl rfl)
theorem dX6_goesThrough_20 : decode cX6_goesThrough 20 = .ok (.iconst 0, 1) := dk_3 (dk_at dksX6_goesThrough_0 20 rfl rfl)
theorem dX6_goesThrough_21 : decode cX6_goesThrough 21 = .ok (.putfield 428, 3) := dk_181 1 172 (dk_at dksX6_goesThrough_0 21 rfl rfl)
theorem dX6_goesThrough_24 : decode cX6_goesThrough 24 = .ok (.aload_n 0, 1) := dk_42 (dk_at dksX6_goesThrough_1 0 rfl rfl)
theorem dX6_goesThrough_25 : decode cX6_goesThrough 25 = .ok (.ldc 177, 2) := dk_18 177 (dk_at dksX6_goesThrough_1 1 rfl rfl)
theorem dX6_goesThrough_27 : decode cX6_goesThrough 27 = .ok (.putfield 422, 3) := dk_181 1 166 (dk_at dksX6_goesThrough_1 3 rfl rfl)
theorem dX6_goesThrough_30 : decode cX6_goesThrough 30 = .ok (.aload_n 0, 1) := dk_42 (dk_at dksX6_goesThrough_1 6 rfl rfl)
theorem dX6_goesThrough_31 : decode cX6_goesThrough 31 = .ok (.iload_n 1, 1) := dk_27 (dk_at dksX6_goesThrough_1 7 rfl rfl)
theorem dX6_goesThrough_32 : decode cX6_goesThrough 32 = .ok (.aload_n 0, 1) := dk_42 (dk_at dksX6_goesThrough_1 8 rfl rfl)
theorem dX6_goesThrough_33 : decode cX6_goesThrough 33 = .ok (.getfield 24, 3) := dk_180 0 24 (dk_at dksX6_goesThrough_1 9 rfl rfl)
theorem dX6_goesThrough_36 : decode cX6_goesThrough 36 = .ok (.iconst 0, 1) := dk_3 (dk_at dksX6_goesThrough_1 12 rfl rfl)
theorem dX6_goesThrough_37 : decode cX6_goesThrough 37 = .ok (.iaload, 1) := dk_46 (dk_at dksX6_goesThrough_1 13 rfl rfl)
theorem dX6_goesThrough_38 : decode cX6_goesThrough 38 = .ok (.iconst 0, 1) := dk_3 (dk_at dksX6_goesThrough_1 14 rfl rfl)
theorem dX6_goesThrough_39 : decode cX6_goesThrough 39 = .ok (.aload_n 0, 1) := dk_42 (dk_at dksX6_goesThrough_1 15 rfl rfl)
theorem dX6_goesThrough_40 : decode cX6_goesThrough 40 = .ok (.getfield 24, 3) := dk_180 0 24 (dk_at dksX6_goesThrough_1 16 rfl rfl)
theorem dX6_goesThrough_43 : decode cX6_goesThrough 43 = .ok (.iconst 1, 1) := dk_4 (dk_at dksX6_goesThrough_1 19 rfl rfl)
theorem dX6_goesThrough_44 : decode cX6_goesThrough 44 = .ok (.iload_n 1, 1) := dk_27 (dk_at dksX6_goesThrough_1 20 rfl rfl)
theorem dX6_goesThrough_45 : decode cX6_goesThrough 45 = .ok (.iadd, 1) := dk_96 (dk_at dksX6_goesThrough_1 21 rfl rfl)
theorem dX6_goesThrough_46 : decode cX6_goesThrough 46 = .ok (.iaload, 1) := dk_46 (dk_at dksX6_goesThrough_1 22 rfl rfl)
theorem dX6_goesThrough_47 : decode cX6_goesThrough 47 = .ok (.iconst 0, 1) := dk_3 (dk_at dksX6_goesThrough_1 23 rfl rfl)
theorem dX6_goesThrough_48 : decode cX6_goesThrough 48 = .ok (.invokevirtual 437, 3) := dk_182 1 181 (dk_at dksX6_goesThrough_2 0 rfl rfl)
theorem dX6_goesThrough_51 : decode cX6_goesThrough 51 = .ok (.return_, 1) := dk_177 (dk_at dksX6_goesThrough_2 3 rfl rfl)
abbrev cX6_laysBarred : ByteArray := prog_24_method_114_code
def yX6_laysBarred : MethodName := ⟨RX6, "laysBarred", "()V"⟩
def dkwX6_laysBarred_4 : List UInt8 := [167, 255, 192, 132, 2, 1, 167, 255, 165, 177]
abbrev dktX6_laysBarred_4 : List UInt8 := dkwX6_laysBarred_4 ++ []
def dkwX6_laysBarred_3 : List UInt8 := [28, 27, 2, 130, 126, 182, 1, 160, 96, 182, 1, 84, 153, 0, 7, 4, 167, 0, 4, 3, 84, 132, 3, 1]
abbrev dktX6_laysBarred_3 : List UInt8 := dkwX6_laysBarred_3 ++ dktX6_laysBarred_4
def dkwX6_laysBarred_2 : List UInt8 := [29, 96, 42, 28, 29, 182, 0, 137, 153, 0, 35, 42, 29, 28, 184, 1, 48, 42, 180, 0, 24, 8, 46, 42]
abbrev dktX6_laysBarred_2 : List UInt8 := dkwX6_laysBarred_2 ++ dktX6_laysBarred_3
def dkwX6_laysBarred_1 : List UInt8 := [153, 0, 6, 167, 0, 72, 3, 62, 29, 42, 182, 0, 112, 162, 0, 62, 42, 180, 0, 77, 16, 8, 28, 104]
abbrev dktX6_laysBarred_1 : List UInt8 := dkwX6_laysBarred_1 ++ dktX6_laysBarred_2
def dkwX6_laysBarred_0 : List UInt8 := [42, 180, 0, 24, 3, 46, 60, 27, 61, 28, 42, 182, 1, 126, 163, 0, 89, 27, 28, 2, 130, 126]
abbrev dktX6_laysBarred_0 : List UInt8 := dkwX6_laysBarred_0 ++ dktX6_laysBarred_1
theorem dksX6_laysBarred_0 : cX6_laysBarred.data.toList.drop 0 = dktX6_laysBarred_0 := by decide +kernel
theorem dksX6_laysBarred_1 : cX6_laysBarred.data.toList.drop 22 = dktX6_laysBarred_1 := dk_seg dksX6_laysBarred_0 22 rfl rfl
theorem dksX6_laysBarred_2 : cX6_laysBarred.data.toList.drop 46 = dktX6_laysBarred_2 := dk_seg dksX6_laysBarred_1 24 rfl rfl
theorem dksX6_laysBarred_3 : cX6_laysBarred.data.toList.drop 70 = dktX6_laysBarred_3 := dk_seg dksX6_laysBarred_2 24 rfl rfl
theorem dksX6_laysBarred_4 : cX6_laysBarred.data.toList.drop 94 = dktX6_laysBarred_4 := dk_seg dksX6_laysBarred_3 24 rfl rfl
theorem dX6_laysBarred_0 : decode cX6_laysBarred 0 = .ok (.aload_n 0, 1) := dk_42 (dk_at dksX6_laysBarred_0 0 rfl rfl)
theorem dX6_laysBarred_1 : decode cX6_laysBarred 1 = .ok (.getfield 24, 3) := dk_180 0 24 (dk_at dksX6_laysBarred_0 1 rfl rfl)
theorem dX6_laysBarred_4 : decode cX6_laysBarred 4 = .ok (.iconst 0, 1) := dk_3 (dk_at dksX6_laysBarred_0 4 rfl rfl)
theorem dX6_laysBarred_5 : decode cX6_laysBarred 5 = .ok (.iaload, 1) := dk_46 (dk_at dksX6_laysBarred_0 5 rfl rfl)
theorem dX6_laysBarred_6 : decode cX6_laysBarred 6 = .ok (.istore_n 1, 1) := dk_60 (dk_at dksX6_laysBarred_0 6 rfl rfl)
theorem dX6_laysBarred_7 : decode cX6_laysBarred 7 = .ok (.iload_n 1, 1) := dk_27 (dk_at dksX6_laysBarred_0 7 rfl rfl)
theorem dX6_laysBarred_8 : decode cX6_laysBarred 8 = .ok (.istore_n 2, 1) := dk_61 (dk_at dksX6_laysBarred_0 8 rfl rfl)
theorem dX6_laysBarred_9 : decode cX6_laysBarred 9 = .ok (.iload_n 2, 1) := dk_28 (dk_at dksX6_laysBarred_0 9 rfl rfl)
theorem dX6_laysBarred_10 : decode cX6_laysBarred 10 = .ok (.aload_n 0, 1) := dk_42 (dk_at dksX6_laysBarred_0 10 rfl rfl)
theorem dX6_laysBarred_11 : decode cX6_laysBarred 11 = .ok (.invokevirtual 382, 3) := dk_182 1 126 (dk_at dksX6_laysBarred_0 11 rfl rfl)
theorem dX6_laysBarred_14 : decode cX6_laysBarred 14 = .ok (.if_icmp .gt 89, 3) := dk_163 0 89 (dk_at dksX6_laysBarred_0 14 rfl rfl)
theorem dX6_laysBarred_17 : decode cX6_laysBarred 17 = .ok (.iload_n 1, 1) := dk_27 (dk_at dksX6_laysBarred_0 17 rfl rfl)
theorem dX6_laysBarred_18 : decode cX6_laysBarred 18 = .ok (.iload_n 2, 1) := dk_28 (dk_at dksX6_laysBarred_0 18 rfl rfl)
theorem dX6_laysBarred_19 : decode cX6_laysBarred 19 = .ok (.iconst (-1), 1) := dk_2 (dk_at dksX6_laysBarred_0 19 rfl rfl)
theorem dX6_laysBarred_20 : decode cX6_laysBarred 20 = .ok (.ixor, 1) := dk_130 (dk_at dksX6_laysBarred_0 20 rfl rfl)
theorem dX6_laysBarred_21 : decode cX6_laysBarred 21 = .ok (.iand, 1) := dk_126 (dk_at dksX6_laysBarred_0 21 rfl rfl)
theorem dX6_laysBarred_22 : decode cX6_laysBarred 22 = .ok (.ifCond .eq 6, 3) := dk_153 0 6 (dk_at dksX6_laysBarred_1 0 rfl rfl)
theorem dX6_laysBarred_25 : decode cX6_laysBarred 25 = .ok (.goto 72, 3) := dk_167 0 72 (dk_at dksX6_laysBarred_1 3 rfl rfl)
theorem dX6_laysBarred_28 : decode cX6_laysBarred 28 = .ok (.iconst 0, 1) := dk_3 (dk_at dksX6_laysBarred_1 6 rfl rfl)
theorem dX6_laysBarred_29 : decode cX6_laysBarred 29 = .ok (.istore_n 3, 1) := dk_62 (dk_at dksX6_laysBarred_1 7 rfl rfl)
theorem dX6_laysBarred_30 : decode cX6_laysBarred 30 = .ok (.iload_n 3, 1) := dk_29 (dk_at dksX6_laysBarred_1 8 rfl rfl)
theorem dX6_laysBarred_31 : decode cX6_laysBarred 31 = .ok (.aload_n 0, 1) := dk_42 (dk_at dksX6_laysBarred_1 9 rfl rfl)
theorem dX6_laysBarred_32 : decode cX6_laysBarred 32 = .ok (.invokevirtual 112, 3) := dk_182 0 112 (dk_at dksX6_laysBarred_1 10 rfl rfl)
theorem dX6_laysBarred_35 : decode cX6_laysBarred 35 = .ok (.if_icmp .ge 62, 3) := dk_162 0 62 (dk_at dksX6_laysBarred_1 13 rfl rfl)
theorem dX6_laysBarred_38 : decode cX6_laysBarred 38 = .ok (.aload_n 0, 1) := dk_42 (dk_at dksX6_laysBarred_1 16 rfl rfl)
theorem dX6_laysBarred_39 : decode cX6_laysBarred 39 = .ok (.getfield 77, 3) := dk_180 0 77 (dk_at dksX6_laysBarred_1 17 rfl rfl)
theorem dX6_laysBarred_42 : decode cX6_laysBarred 42 = .ok (.bipush 8, 2) := dk_16 8 (dk_at dksX6_laysBarred_1 20 rfl rfl)
theorem dX6_laysBarred_44 : decode cX6_laysBarred 44 = .ok (.iload_n 2, 1) := dk_28 (dk_at dksX6_laysBarred_1 22 rfl rfl)
theorem dX6_laysBarred_45 : decode cX6_laysBarred 45 = .ok (.imul, 1) := dk_104 (dk_at dksX6_laysBarred_1 23 rfl rfl)
theorem dX6_laysBarred_46 : decode cX6_laysBarred 46 = .ok (.iload_n 3, 1) := dk_29 (dk_at dksX6_laysBarred_2 0 rfl rfl)
theorem dX6_laysBarred_47 : decode cX6_laysBarred 47 = .ok (.iadd, 1) := dk_96 (dk_at dksX6_laysBarred_2 1 rfl rfl)
theorem dX6_laysBarred_48 : decode cX6_laysBarred 48 = .ok (.aload_n 0, 1) := dk_42 (dk_at dksX6_laysBarred_2 2 rfl rfl)
theorem dX6_laysBarred_49 : decode cX6_laysBarred 49 = .ok (.iload_n 2, 1) := dk_28 (dk_at dksX6_laysBarred_2 3 rfl rfl)
theorem dX6_laysBarred_50 : decode cX6_laysBarred 50 = .ok (.iload_n 3, 1) := dk_29 (dk_at dksX6_laysBarred_2 4 rfl rfl)
theorem dX6_laysBarred_51 : decode cX6_laysBarred 51 = .ok (.invokevirtual 137, 3) := dk_182 0 137 (dk_at dksX6_laysBarred_2 5 rfl rfl)
theorem dX6_laysBarred_54 : decode cX6_laysBarred 54 = .ok (.ifCond .eq 35, 3) := dk_153 0 35 (dk_at dksX6_laysBarred_2 8 rfl rfl)
theorem dX6_laysBarred_57 : decode cX6_laysBarred 57 = .ok (.aload_n 0, 1) := dk_42 (dk_at dksX6_laysBarred_2 11 rfl rfl)
theorem dX6_laysBarred_58 : decode cX6_laysBarred 58 = .ok (.iload_n 3, 1) := dk_29 (dk_at dksX6_laysBarred_2 12 rfl rfl)
theorem dX6_laysBarred_59 : decode cX6_laysBarred 59 = .ok (.iload_n 2, 1) := dk_28 (dk_at dksX6_laysBarred_2 13 rfl rfl)
theorem dX6_laysBarred_60 : decode cX6_laysBarred 60 = .ok (.invokestatic 304, 3) := dk_184 1 48 (dk_at dksX6_laysBarred_2 14 rfl rfl)
theorem dX6_laysBarred_63 : decode cX6_laysBarred 63 = .ok (.aload_n 0, 1) := dk_42 (dk_at dksX6_laysBarred_2 17 rfl rfl)
theorem dX6_laysBarred_64 : decode cX6_laysBarred 64 = .ok (.getfield 24, 3) := dk_180 0 24 (dk_at dksX6_laysBarred_2 18 rfl rfl)
theorem dX6_laysBarred_67 : decode cX6_laysBarred 67 = .ok (.iconst 5, 1) := dk_8 (dk_at dksX6_laysBarred_2 21 rfl rfl)
theorem dX6_laysBarred_68 : decode cX6_laysBarred 68 = .ok (.iaload, 1) := dk_46 (dk_at dksX6_laysBarred_2 22 rfl rfl)
theorem dX6_laysBarred_69 : decode cX6_laysBarred 69 = .ok (.aload_n 0, 1) := dk_42 (dk_at dksX6_laysBarred_2 23 rfl rfl)
theorem dX6_laysBarred_70 : decode cX6_laysBarred 70 = .ok (.iload_n 2, 1) := dk_28 (dk_at dksX6_laysBarred_3 0 rfl rfl)
theorem dX6_laysBarred_71 : decode cX6_laysBarred 71 = .ok (.iload_n 1, 1) := dk_27 (dk_at dksX6_laysBarred_3 1 rfl rfl)
theorem dX6_laysBarred_72 : decode cX6_laysBarred 72 = .ok (.iconst (-1), 1) := dk_2 (dk_at dksX6_laysBarred_3 2 rfl rfl)
theorem dX6_laysBarred_73 : decode cX6_laysBarred 73 = .ok (.ixor, 1) := dk_130 (dk_at dksX6_laysBarred_3 3 rfl rfl)
theorem dX6_laysBarred_74 : decode cX6_laysBarred 74 = .ok (.iand, 1) := dk_126 (dk_at dksX6_laysBarred_3 4 rfl rfl)
theorem dX6_laysBarred_75 : decode cX6_laysBarred 75 = .ok (.invokevirtual 416, 3) := dk_182 1 160 (dk_at dksX6_laysBarred_3 5 rfl rfl)
theorem dX6_laysBarred_78 : decode cX6_laysBarred 78 = .ok (.iadd, 1) := dk_96 (dk_at dksX6_laysBarred_3 8 rfl rfl)
theorem dX6_laysBarred_79 : decode cX6_laysBarred 79 = .ok (.invokevirtual 340, 3) := dk_182 1 84 (dk_at dksX6_laysBarred_3 9 rfl rfl)
theorem dX6_laysBarred_82 : decode cX6_laysBarred 82 = .ok (.ifCond .eq 7, 3) := dk_153 0 7 (dk_at dksX6_laysBarred_3 12 rfl rfl)
theorem dX6_laysBarred_85 : decode cX6_laysBarred 85 = .ok (.iconst 1, 1) := dk_4 (dk_at dksX6_laysBarred_3 15 rfl rfl)
theorem dX6_laysBarred_86 : decode cX6_laysBarred 86 = .ok (.goto 4, 3) := dk_167 0 4 (dk_at dksX6_laysBarred_3 16 rfl rfl)
theorem dX6_laysBarred_89 : decode cX6_laysBarred 89 = .ok (.iconst 0, 1) := dk_3 (dk_at dksX6_laysBarred_3 19 rfl rfl)
theorem dX6_laysBarred_90 : decode cX6_laysBarred 90 = .ok (.bastore, 1) := dk_84 (dk_at dksX6_laysBarred_3 20 rfl rfl)
theorem dX6_laysBarred_91 : decode cX6_laysBarred 91 = .ok (.iinc 3 1, 3) := dk_132 3 1 (dk_at dksX6_laysBarred_3 21 rfl rfl)
theorem dX6_laysBarred_94 : decode cX6_laysBarred 94 = .ok (.goto (-64), 3) := dk_167 255 192 (dk_at dksX6_laysBarred_4 0 rfl rfl)
theorem dX6_laysBarred_97 : decode cX6_laysBarred 97 = .ok (.iinc 2 1, 3) := dk_132 2 1 (dk_at dksX6_laysBarred_4 3 rfl rfl)
theorem dX6_laysBarred_100 : decode cX6_laysBarred 100 = .ok (.goto (-91), 3) := dk_167 255 165 (dk_at dksX6_laysBarred_4 6 rfl rfl)
theorem dX6_laysBarred_103 : decode cX6_laysBarred 103 = .ok (.return_, 1) := dk_177 (dk_at dksX6_laysBarred_4 9 rfl rfl)
abbrev cX6_daysOf : ByteArray := prog_24_method_113_code
def yX6_daysOf : MethodName := ⟨RX6, "daysOf", "(I)I"⟩
def dkwX6_daysOf_1 : List UInt8 := [180, 0, 24, 16, 6, 29, 96, 46, 167, 0, 4, 3, 96, 61, 132, 3, 1, 167, 255, 221, 28, 172]
abbrev dktX6_daysOf_1 : List UInt8 := dkwX6_daysOf_1 ++ []
def dkwX6_daysOf_0 : List UInt8 := [3, 61, 3, 62, 29, 42, 182, 0, 112, 162, 0, 33, 28, 27, 29, 184, 0, 119, 153, 0, 15, 42]
abbrev dktX6_daysOf_0 : List UInt8 := dkwX6_daysOf_0 ++ dktX6_daysOf_1
theorem dksX6_daysOf_0 : cX6_daysOf.data.toList.drop 0 = dktX6_daysOf_0 := by decide +kernel
theorem dksX6_daysOf_1 : cX6_daysOf.data.toList.drop 22 = dktX6_daysOf_1 := dk_seg dksX6_daysOf_0 22 rfl rfl
theorem dX6_daysOf_0 : decode cX6_daysOf 0 = .ok (.iconst 0, 1) := dk_3 (dk_at dksX6_daysOf_0 0 rfl rfl)
theorem dX6_daysOf_1 : decode cX6_daysOf 1 = .ok (.istore_n 2, 1) := dk_61 (dk_at dksX6_daysOf_0 1 rfl rfl)
theorem dX6_daysOf_2 : decode cX6_daysOf 2 = .ok (.iconst 0, 1) := dk_3 (dk_at dksX6_daysOf_0 2 rfl rfl)
theorem dX6_daysOf_3 : decode cX6_daysOf 3 = .ok (.istore_n 3, 1) := dk_62 (dk_at dksX6_daysOf_0 3 rfl rfl)
theorem dX6_daysOf_4 : decode cX6_daysOf 4 = .ok (.iload_n 3, 1) := dk_29 (dk_at dksX6_daysOf_0 4 rfl rfl)
theorem dX6_daysOf_5 : decode cX6_daysOf 5 = .ok (.aload_n 0, 1) := dk_42 (dk_at dksX6_daysOf_0 5 rfl rfl)
theorem dX6_daysOf_6 : decode cX6_daysOf 6 = .ok (.invokevirtual 112, 3) := dk_182 0 112 (dk_at dksX6_daysOf_0 6 rfl rfl)
theorem dX6_daysOf_9 : decode cX6_daysOf 9 = .ok (.if_icmp .ge 33, 3) := dk_162 0 33 (dk_at dksX6_daysOf_0 9 rfl rfl)
theorem dX6_daysOf_12 : decode cX6_daysOf 12 = .ok (.iload_n 2, 1) := dk_28 (dk_at dksX6_daysOf_0 12 rfl rfl)
theorem dX6_daysOf_13 : decode cX6_daysOf 13 = .ok (.iload_n 1, 1) := dk_27 (dk_at dksX6_daysOf_0 13 rfl rfl)
theorem dX6_daysOf_14 : decode cX6_daysOf 14 = .ok (.iload_n 3, 1) := dk_29 (dk_at dksX6_daysOf_0 14 rfl rfl)
theorem dX6_daysOf_15 : decode cX6_daysOf 15 = .ok (.invokestatic 119, 3) := dk_184 0 119 (dk_at dksX6_daysOf_0 15 rfl rfl)
theorem dX6_daysOf_18 : decode cX6_daysOf 18 = .ok (.ifCond .eq 15, 3) := dk_153 0 15 (dk_at dksX6_daysOf_0 18 rfl rfl)
theorem dX6_daysOf_21 : decode cX6_daysOf 21 = .ok (.aload_n 0, 1) := dk_42 (dk_at dksX6_daysOf_0 21 rfl rfl)
theorem dX6_daysOf_22 : decode cX6_daysOf 22 = .ok (.getfield 24, 3) := dk_180 0 24 (dk_at dksX6_daysOf_1 0 rfl rfl)
theorem dX6_daysOf_25 : decode cX6_daysOf 25 = .ok (.bipush 6, 2) := dk_16 6 (dk_at dksX6_daysOf_1 3 rfl rfl)
theorem dX6_daysOf_27 : decode cX6_daysOf 27 = .ok (.iload_n 3, 1) := dk_29 (dk_at dksX6_daysOf_1 5 rfl rfl)
theorem dX6_daysOf_28 : decode cX6_daysOf 28 = .ok (.iadd, 1) := dk_96 (dk_at dksX6_daysOf_1 6 rfl rfl)
theorem dX6_daysOf_29 : decode cX6_daysOf 29 = .ok (.iaload, 1) := dk_46 (dk_at dksX6_daysOf_1 7 rfl rfl)
theorem dX6_daysOf_30 : decode cX6_daysOf 30 = .ok (.goto 4, 3) := dk_167 0 4 (dk_at dksX6_daysOf_1 8 rfl rfl)
theorem dX6_daysOf_33 : decode cX6_daysOf 33 = .ok (.iconst 0, 1) := dk_3 (dk_at dksX6_daysOf_1 11 rfl rfl)
theorem dX6_daysOf_34 : decode cX6_daysOf 34 = .ok (.iadd, 1) := dk_96 (dk_at dksX6_daysOf_1 12 rfl rfl)
theorem dX6_daysOf_35 : decode cX6_daysOf 35 = .ok (.istore_n 2, 1) := dk_61 (dk_at dksX6_daysOf_1 13 rfl rfl)
theorem dX6_daysOf_36 : decode cX6_daysOf 36 = .ok (.iinc 3 1, 3) := dk_132 3 1 (dk_at dksX6_daysOf_1 14 rfl rfl)
theorem dX6_daysOf_39 : decode cX6_daysOf 39 = .ok (.goto (-35), 3) := dk_167 255 221 (dk_at dksX6_daysOf_1 17 rfl rfl)
theorem dX6_daysOf_42 : decode cX6_daysOf 42 = .ok (.iload_n 2, 1) := dk_28 (dk_at dksX6_daysOf_1 20 rfl rfl)
theorem dX6_daysOf_43 : decode cX6_daysOf 43 = .ok (.ireturn, 1) := dk_172 (dk_at dksX6_daysOf_1 21 rfl rfl)
abbrev cX6_goesOn : ByteArray := prog_24_method_116_code
def yX6_goesOn : MethodName := ⟨RX6, "goesOn", "(IIIII)V"⟩
def dkwX6_goesOn_5 : List UInt8 := [17, 3, 231, 21, 4, 21, 8, 96, 184, 1, 87, 21, 7, 182, 1, 181, 132, 6, 1, 167, 255, 133, 177]
abbrev dktX6_goesOn_5 : List UInt8 := dkwX6_goesOn_5 ++ []
def dkwX6_goesOn_4 : List UInt8 := [180, 0, 24, 8, 46, 21, 5, 96, 182, 1, 80, 54, 8, 42, 27, 28, 4, 21, 6, 120, 128, 29, 4, 96]
abbrev dktX6_goesOn_4 : List UInt8 := dkwX6_goesOn_4 ++ dktX6_goesOn_5
def dkwX6_goesOn_3 : List UInt8 := [167, 0, 62, 42, 180, 0, 80, 29, 21, 6, 79, 42, 27, 21, 6, 21, 4, 28, 184, 1, 48, 42]
abbrev dktX6_goesOn_3 : List UInt8 := dkwX6_goesOn_3 ++ dktX6_goesOn_4
def dkwX6_goesOn_2 : List UInt8 := [180, 0, 77, 16, 8, 28, 104, 21, 6, 96, 51, 154, 0, 74, 21, 7, 42, 180, 1, 178, 164, 0, 6]
abbrev dktX6_goesOn_2 : List UInt8 := dkwX6_goesOn_2 ++ dktX6_goesOn_3
def dkwX6_goesOn_1 : List UInt8 := [180, 0, 24, 16, 6, 21, 6, 96, 46, 96, 54, 7, 42, 28, 21, 6, 182, 0, 137, 153, 0, 89, 42]
abbrev dktX6_goesOn_1 : List UInt8 := dkwX6_goesOn_1 ++ dktX6_goesOn_2
def dkwX6_goesOn_0 : List UInt8 := [42, 29, 21, 4, 21, 5, 182, 1, 175, 3, 54, 6, 21, 6, 42, 182, 0, 112, 162, 0, 120, 21, 5, 42]
abbrev dktX6_goesOn_0 : List UInt8 := dkwX6_goesOn_0 ++ dktX6_goesOn_1
theorem dksX6_goesOn_0 : cX6_goesOn.data.toList.drop 0 = dktX6_goesOn_0 := by decide +kernel
theorem dksX6_goesOn_1 : cX6_goesOn.data.toList.drop 24 = dktX6_goesOn_1 := dk_seg dksX6_goesOn_0 24 rfl rfl
theorem dksX6_goesOn_2 : cX6_goesOn.data.toList.drop 47 = dktX6_goesOn_2 := dk_seg dksX6_goesOn_1 23 rfl rfl
theorem dksX6_goesOn_3 : cX6_goesOn.data.toList.drop 70 = dktX6_goesOn_3 := dk_seg dksX6_goesOn_2 23 rfl rfl
theorem dksX6_goesOn_4 : cX6_goesOn.data.toList.drop 92 = dktX6_goesOn_4 := dk_seg dksX6_goesOn_3 22 rfl rfl
theorem dksX6_goesOn_5 : cX6_goesOn.data.toList.drop 116 = dktX6_goesOn_5 := dk_seg dksX6_goesOn_4 24 rfl rfl
theorem dX6_goesOn_0 : decode cX6_goesOn 0 = .ok (.aload_n 0, 1) := dk_42 (dk_at dksX6_goesOn_0 0 rfl rfl)
theorem dX6_goesOn_1 : decode cX6_goesOn 1 = .ok (.iload_n 3, 1) := dk_29 (dk_at dksX6_goesOn_0 1 rfl rfl)
theorem dX6_goesOn_2 : decode cX6_goesOn 2 = .ok (.iload 4, 2) := dk_21 4 (dk_at dksX6_goesOn_0 2 rfl rfl)
theorem dX6_goesOn_4 : decode cX6_goesOn 4 = .ok (.iload 5, 2) := dk_21 5 (dk_at dksX6_goesOn_0 4 rfl rfl)
theorem dX6_goesOn_6 : decode cX6_goesOn 6 = .ok (.invokevirtual 431, 3) := dk_182 1 175 (dk_at dksX6_goesOn_0 6 rfl rfl)
theorem dX6_goesOn_9 : decode cX6_goesOn 9 = .ok (.iconst 0, 1) := dk_3 (dk_at dksX6_goesOn_0 9 rfl rfl)
theorem dX6_goesOn_10 : decode cX6_goesOn 10 = .ok (.istore 6, 2) := dk_54 6 (dk_at dksX6_goesOn_0 10 rfl rfl)
theorem dX6_goesOn_12 : decode cX6_goesOn 12 = .ok (.iload 6, 2) := dk_21 6 (dk_at dksX6_goesOn_0 12 rfl rfl)
theorem dX6_goesOn_14 : decode cX6_goesOn 14 = .ok (.aload_n 0, 1) := dk_42 (dk_at dksX6_goesOn_0 14 rfl rfl)
theorem dX6_goesOn_15 : decode cX6_goesOn 15 = .ok (.invokevirtual 112, 3) := dk_182 0 112 (dk_at dksX6_goesOn_0 15 rfl rfl)
theorem dX6_goesOn_18 : decode cX6_goesOn 18 = .ok (.if_icmp .ge 120, 3) := dk_162 0 120 (dk_at dksX6_goesOn_0 18 rfl rfl)
theorem dX6_goesOn_21 : decode cX6_goesOn 21 = .ok (.iload 5, 2) := dk_21 5 (dk_at dksX6_goesOn_0 21 rfl rfl)
theorem dX6_goesOn_23 : decode cX6_goesOn 23 = .ok (.aload_n 0, 1) := dk_42 (dk_at dksX6_goesOn_0 23 rfl rfl)
theorem dX6_goesOn_24 : decode cX6_goesOn 24 = .ok (.getfield 24, 3) := dk_180 0 24 (dk_at dksX6_goesOn_1 0 rfl rfl)
theorem dX6_goesOn_27 : decode cX6_goesOn 27 = .ok (.bipush 6, 2) := dk_16 6 (dk_at dksX6_goesOn_1 3 rfl rfl)
theorem dX6_goesOn_29 : decode cX6_goesOn 29 = .ok (.iload 6, 2) := dk_21 6 (dk_at dksX6_goesOn_1 5 rfl rfl)
theorem dX6_goesOn_31 : decode cX6_goesOn 31 = .ok (.iadd, 1) := dk_96 (dk_at dksX6_goesOn_1 7 rfl rfl)
theorem dX6_goesOn_32 : decode cX6_goesOn 32 = .ok (.iaload, 1) := dk_46 (dk_at dksX6_goesOn_1 8 rfl rfl)
theorem dX6_goesOn_33 : decode cX6_goesOn 33 = .ok (.iadd, 1) := dk_96 (dk_at dksX6_goesOn_1 9 rfl rfl)
theorem dX6_goesOn_34 : decode cX6_goesOn 34 = .ok (.istore 7, 2) := dk_54 7 (dk_at dksX6_goesOn_1 10 rfl rfl)
theorem dX6_goesOn_36 : decode cX6_goesOn 36 = .ok (.aload_n 0, 1) := dk_42 (dk_at dksX6_goesOn_1 12 rfl rfl)
theorem dX6_goesOn_37 : decode cX6_goesOn 37 = .ok (.iload_n 2, 1) := dk_28 (dk_at dksX6_goesOn_1 13 rfl rfl)
theorem dX6_goesOn_38 : decode cX6_goesOn 38 = .ok (.iload 6, 2) := dk_21 6 (dk_at dksX6_goesOn_1 14 rfl rfl)
theorem dX6_goesOn_40 : decode cX6_goesOn 40 = .ok (.invokevirtual 137, 3) := dk_182 0 137 (dk_at dksX6_goesOn_1 16 rfl rfl)
theorem dX6_goesOn_43 : decode cX6_goesOn 43 = .ok (.ifCond .eq 89, 3) := dk_153 0 89 (dk_at dksX6_goesOn_1 19 rfl rfl)
theorem dX6_goesOn_46 : decode cX6_goesOn 46 = .ok (.aload_n 0, 1) := dk_42 (dk_at dksX6_goesOn_1 22 rfl rfl)
theorem dX6_goesOn_47 : decode cX6_goesOn 47 = .ok (.getfield 77, 3) := dk_180 0 77 (dk_at dksX6_goesOn_2 0 rfl rfl)
theorem dX6_goesOn_50 : decode cX6_goesOn 50 = .ok (.bipush 8, 2) := dk_16 8 (dk_at dksX6_goesOn_2 3 rfl rfl)
theorem dX6_goesOn_52 : decode cX6_goesOn 52 = .ok (.iload_n 2, 1) := dk_28 (dk_at dksX6_goesOn_2 5 rfl rfl)
theorem dX6_goesOn_53 : decode cX6_goesOn 53 = .ok (.imul, 1) := dk_104 (dk_at dksX6_goesOn_2 6 rfl rfl)
theorem dX6_goesOn_54 : decode cX6_goesOn 54 = .ok (.iload 6, 2) := dk_21 6 (dk_at dksX6_goesOn_2 7 rfl rfl)
theorem dX6_goesOn_56 : decode cX6_goesOn 56 = .ok (.iadd, 1) := dk_96 (dk_at dksX6_goesOn_2 9 rfl rfl)
theorem dX6_goesOn_57 : decode cX6_goesOn 57 = .ok (.baload, 1) := dk_51 (dk_at dksX6_goesOn_2 10 rfl rfl)
theorem dX6_goesOn_58 : decode cX6_goesOn 58 = .ok (.ifCond .ne 74, 3) := dk_154 0 74 (dk_at dksX6_goesOn_2 11 rfl rfl)
theorem dX6_goesOn_61 : decode cX6_goesOn 61 = .ok (.iload 7, 2) := dk_21 7 (dk_at dksX6_goesOn_2 14 rfl rfl)
theorem dX6_goesOn_63 : decode cX6_goesOn 63 = .ok (.aload_n 0, 1) := dk_42 (dk_at dksX6_goesOn_2 16 rfl rfl)
theorem dX6_goesOn_64 : decode cX6_goesOn 64 = .ok (.getfield 434, 3) := dk_180 1 178 (dk_at dksX6_goesOn_2 17 rfl rfl)
theorem dX6_goesOn_67 : decode cX6_goesOn 67 = .ok (.if_icmp .le 6, 3) := dk_164 0 6 (dk_at dksX6_goesOn_2 20 rfl rfl)
theorem dX6_goesOn_70 : decode cX6_goesOn 70 = .ok (.goto 62, 3) := dk_167 0 62 (dk_at dksX6_goesOn_3 0 rfl rfl)
theorem dX6_goesOn_73 : decode cX6_goesOn 73 = .ok (.aload_n 0, 1) := dk_42 (dk_at dksX6_goesOn_3 3 rfl rfl)
theorem dX6_goesOn_74 : decode cX6_goesOn 74 = .ok (.getfield 80, 3) := dk_180 0 80 (dk_at dksX6_goesOn_3 4 rfl rfl)
theorem dX6_goesOn_77 : decode cX6_goesOn 77 = .ok (.iload_n 3, 1) := dk_29 (dk_at dksX6_goesOn_3 7 rfl rfl)
theorem dX6_goesOn_78 : decode cX6_goesOn 78 = .ok (.iload 6, 2) := dk_21 6 (dk_at dksX6_goesOn_3 8 rfl rfl)
theorem dX6_goesOn_80 : decode cX6_goesOn 80 = .ok (.iastore, 1) := dk_79 (dk_at dksX6_goesOn_3 10 rfl rfl)
theorem dX6_goesOn_81 : decode cX6_goesOn 81 = .ok (.aload_n 0, 1) := dk_42 (dk_at dksX6_goesOn_3 11 rfl rfl)
theorem dX6_goesOn_82 : decode cX6_goesOn 82 = .ok (.iload_n 1, 1) := dk_27 (dk_at dksX6_goesOn_3 12 rfl rfl)
theorem dX6_goesOn_83 : decode cX6_goesOn 83 = .ok (.iload 6, 2) := dk_21 6 (dk_at dksX6_goesOn_3 13 rfl rfl)
theorem dX6_goesOn_85 : decode cX6_goesOn 85 = .ok (.iload 4, 2) := dk_21 4 (dk_at dksX6_goesOn_3 15 rfl rfl)
theorem dX6_goesOn_87 : decode cX6_goesOn 87 = .ok (.iload_n 2, 1) := dk_28 (dk_at dksX6_goesOn_3 17 rfl rfl)
theorem dX6_goesOn_88 : decode cX6_goesOn 88 = .ok (.invokestatic 304, 3) := dk_184 1 48 (dk_at dksX6_goesOn_3 18 rfl rfl)
theorem dX6_goesOn_91 : decode cX6_goesOn 91 = .ok (.aload_n 0, 1) := dk_42 (dk_at dksX6_goesOn_3 21 rfl rfl)
theorem dX6_goesOn_92 : decode cX6_goesOn 92 = .ok (.getfield 24, 3) := dk_180 0 24 (dk_at dksX6_goesOn_4 0 rfl rfl)
theorem dX6_goesOn_95 : decode cX6_goesOn 95 = .ok (.iconst 5, 1) := dk_8 (dk_at dksX6_goesOn_4 3 rfl rfl)
theorem dX6_goesOn_96 : decode cX6_goesOn 96 = .ok (.iaload, 1) := dk_46 (dk_at dksX6_goesOn_4 4 rfl rfl)
theorem dX6_goesOn_97 : decode cX6_goesOn 97 = .ok (.iload 5, 2) := dk_21 5 (dk_at dksX6_goesOn_4 5 rfl rfl)
theorem dX6_goesOn_99 : decode cX6_goesOn 99 = .ok (.iadd, 1) := dk_96 (dk_at dksX6_goesOn_4 7 rfl rfl)
theorem dX6_goesOn_100 : decode cX6_goesOn 100 = .ok (.invokevirtual 336, 3) := dk_182 1 80 (dk_at dksX6_goesOn_4 8 rfl rfl)
theorem dX6_goesOn_103 : decode cX6_goesOn 103 = .ok (.istore 8, 2) := dk_54 8 (dk_at dksX6_goesOn_4 11 rfl rfl)
theorem dX6_goesOn_105 : decode cX6_goesOn 105 = .ok (.aload_n 0, 1) := dk_42 (dk_at dksX6_goesOn_4 13 rfl rfl)
theorem dX6_goesOn_106 : decode cX6_goesOn 106 = .ok (.iload_n 1, 1) := dk_27 (dk_at dksX6_goesOn_4 14 rfl rfl)
theorem dX6_goesOn_107 : decode cX6_goesOn 107 = .ok (.iload_n 2, 1) := dk_28 (dk_at dksX6_goesOn_4 15 rfl rfl)
theorem dX6_goesOn_108 : decode cX6_goesOn 108 = .ok (.iconst 1, 1) := dk_4 (dk_at dksX6_goesOn_4 16 rfl rfl)
theorem dX6_goesOn_109 : decode cX6_goesOn 109 = .ok (.iload 6, 2) := dk_21 6 (dk_at dksX6_goesOn_4 17 rfl rfl)
theorem dX6_goesOn_111 : decode cX6_goesOn 111 = .ok (.ishl, 1) := dk_120 (dk_at dksX6_goesOn_4 19 rfl rfl)
theorem dX6_goesOn_112 : decode cX6_goesOn 112 = .ok (.ior, 1) := dk_128 (dk_at dksX6_goesOn_4 20 rfl rfl)
theorem dX6_goesOn_113 : decode cX6_goesOn 113 = .ok (.iload_n 3, 1) := dk_29 (dk_at dksX6_goesOn_4 21 rfl rfl)
theorem dX6_goesOn_114 : decode cX6_goesOn 114 = .ok (.iconst 1, 1) := dk_4 (dk_at dksX6_goesOn_4 22 rfl rfl)
theorem dX6_goesOn_115 : decode cX6_goesOn 115 = .ok (.iadd, 1) := dk_96 (dk_at dksX6_goesOn_4 23 rfl rfl)
theorem dX6_goesOn_116 : decode cX6_goesOn 116 = .ok (.sipush 999, 3) := dk_17 3 231 (dk_at dksX6_goesOn_5 0 rfl rfl)
theorem dX6_goesOn_119 : decode cX6_goesOn 119 = .ok (.iload 4, 2) := dk_21 4 (dk_at dksX6_goesOn_5 3 rfl rfl)
theorem dX6_goesOn_121 : decode cX6_goesOn 121 = .ok (.iload 8, 2) := dk_21 8 (dk_at dksX6_goesOn_5 5 rfl rfl)
theorem dX6_goesOn_123 : decode cX6_goesOn 123 = .ok (.iadd, 1) := dk_96 (dk_at dksX6_goesOn_5 7 rfl rfl)
theorem dX6_goesOn_124 : decode cX6_goesOn 124 = .ok (.invokestatic 343, 3) := dk_184 1 87 (dk_at dksX6_goesOn_5 8 rfl rfl)
theorem dX6_goesOn_127 : decode cX6_goesOn 127 = .ok (.iload 7, 2) := dk_21 7 (dk_at dksX6_goesOn_5 11 rfl rfl)
theorem dX6_goesOn_129 : decode cX6_goesOn 129 = .ok (.invokevirtual 437, 3) := dk_182 1 181 (dk_at dksX6_goesOn_5 13 rfl rfl)
theorem dX6_goesOn_132 : decode cX6_goesOn 132 = .ok (.iinc 6 1, 3) := dk_132 6 1 (dk_at dksX6_goesOn_5 16 rfl rfl)
theorem dX6_goesOn_135 : decode cX6_goesOn 135 = .ok (.goto (-123), 3) := dk_167 255 133 (dk_at dksX6_goesOn_5 19 rfl rfl)
theorem dX6_goesOn_138 : decode cX6_goesOn 138 = .ok (.return_, 1) := dk_177 (dk_at dksX6_goesOn_5 22 rfl rfl)
abbrev cX6_isRow : ByteArray := prog_24_method_115_code
def yX6_isRow : MethodName := ⟨RX6, "isRow", "(III)V"⟩
def dkwX6_isRow_2 : List UInt8 := [162, 0, 23, 42, 180, 0, 83, 21, 4, 42, 180, 0, 80, 21, 4, 46, 79, 132, 4, 1, 167, 255, 233, 177]
abbrev dktX6_isRow_2 : List UInt8 := dkwX6_isRow_2 ++ []
def dkwX6_isRow_1 : List UInt8 := [180, 1, 169, 163, 0, 4, 177, 42, 28, 181, 1, 169, 42, 27, 181, 1, 172, 3, 54, 4, 21, 4, 27]
abbrev dktX6_isRow_1 : List UInt8 := dkwX6_isRow_1 ++ dktX6_isRow_2
def dkwX6_isRow_0 : List UInt8 := [28, 42, 180, 1, 163, 161, 0, 15, 42, 42, 180, 1, 166, 29, 184, 1, 87, 181, 1, 166, 28, 42]
abbrev dktX6_isRow_0 : List UInt8 := dkwX6_isRow_0 ++ dktX6_isRow_1
theorem dksX6_isRow_0 : cX6_isRow.data.toList.drop 0 = dktX6_isRow_0 := by decide +kernel
theorem dksX6_isRow_1 : cX6_isRow.data.toList.drop 22 = dktX6_isRow_1 := dk_seg dksX6_isRow_0 22 rfl rfl
theorem dksX6_isRow_2 : cX6_isRow.data.toList.drop 45 = dktX6_isRow_2 := dk_seg dksX6_isRow_1 23 rfl rfl
theorem dX6_isRow_0 : decode cX6_isRow 0 = .ok (.iload_n 2, 1) := dk_28 (dk_at dksX6_isRow_0 0 rfl rfl)
theorem dX6_isRow_1 : decode cX6_isRow 1 = .ok (.aload_n 0, 1) := dk_42 (dk_at dksX6_isRow_0 1 rfl rfl)
theorem dX6_isRow_2 : decode cX6_isRow 2 = .ok (.getfield 419, 3) := dk_180 1 163 (dk_at dksX6_isRow_0 2 rfl rfl)
theorem dX6_isRow_5 : decode cX6_isRow 5 = .ok (.if_icmp .lt 15, 3) := dk_161 0 15 (dk_at dksX6_isRow_0 5 rfl rfl)
theorem dX6_isRow_8 : decode cX6_isRow 8 = .ok (.aload_n 0, 1) := dk_42 (dk_at dksX6_isRow_0 8 rfl rfl)
theorem dX6_isRow_9 : decode cX6_isRow 9 = .ok (.aload_n 0, 1) := dk_42 (dk_at dksX6_isRow_0 9 rfl rfl)
theorem dX6_isRow_10 : decode cX6_isRow 10 = .ok (.getfield 422, 3) := dk_180 1 166 (dk_at dksX6_isRow_0 10 rfl rfl)
theorem dX6_isRow_13 : decode cX6_isRow 13 = .ok (.iload_n 3, 1) := dk_29 (dk_at dksX6_isRow_0 13 rfl rfl)
theorem dX6_isRow_14 : decode cX6_isRow 14 = .ok (.invokestatic 343, 3) := dk_184 1 87 (dk_at dksX6_isRow_0 14 rfl rfl)
theorem dX6_isRow_17 : decode cX6_isRow 17 = .ok (.putfield 422, 3) := dk_181 1 166 (dk_at dksX6_isRow_0 17 rfl rfl)
theorem dX6_isRow_20 : decode cX6_isRow 20 = .ok (.iload_n 2, 1) := dk_28 (dk_at dksX6_isRow_0 20 rfl rfl)
theorem dX6_isRow_21 : decode cX6_isRow 21 = .ok (.aload_n 0, 1) := dk_42 (dk_at dksX6_isRow_0 21 rfl rfl)
theorem dX6_isRow_22 : decode cX6_isRow 22 = .ok (.getfield 425, 3) := dk_180 1 169 (dk_at dksX6_isRow_1 0 rfl rfl)
theorem dX6_isRow_25 : decode cX6_isRow 25 = .ok (.if_icmp .gt 4, 3) := dk_163 0 4 (dk_at dksX6_isRow_1 3 rfl rfl)
theorem dX6_isRow_28 : decode cX6_isRow 28 = .ok (.return_, 1) := dk_177 (dk_at dksX6_isRow_1 6 rfl rfl)
theorem dX6_isRow_29 : decode cX6_isRow 29 = .ok (.aload_n 0, 1) := dk_42 (dk_at dksX6_isRow_1 7 rfl rfl)
theorem dX6_isRow_30 : decode cX6_isRow 30 = .ok (.iload_n 2, 1) := dk_28 (dk_at dksX6_isRow_1 8 rfl rfl)
theorem dX6_isRow_31 : decode cX6_isRow 31 = .ok (.putfield 425, 3) := dk_181 1 169 (dk_at dksX6_isRow_1 9 rfl rfl)
theorem dX6_isRow_34 : decode cX6_isRow 34 = .ok (.aload_n 0, 1) := dk_42 (dk_at dksX6_isRow_1 12 rfl rfl)
theorem dX6_isRow_35 : decode cX6_isRow 35 = .ok (.iload_n 1, 1) := dk_27 (dk_at dksX6_isRow_1 13 rfl rfl)
theorem dX6_isRow_36 : decode cX6_isRow 36 = .ok (.putfield 428, 3) := dk_181 1 172 (dk_at dksX6_isRow_1 14 rfl rfl)
theorem dX6_isRow_39 : decode cX6_isRow 39 = .ok (.iconst 0, 1) := dk_3 (dk_at dksX6_isRow_1 17 rfl rfl)
theorem dX6_isRow_40 : decode cX6_isRow 40 = .ok (.istore 4, 2) := dk_54 4 (dk_at dksX6_isRow_1 18 rfl rfl)
theorem dX6_isRow_42 : decode cX6_isRow 42 = .ok (.iload 4, 2) := dk_21 4 (dk_at dksX6_isRow_1 20 rfl rfl)
theorem dX6_isRow_44 : decode cX6_isRow 44 = .ok (.iload_n 1, 1) := dk_27 (dk_at dksX6_isRow_1 22 rfl rfl)
theorem dX6_isRow_45 : decode cX6_isRow 45 = .ok (.if_icmp .ge 23, 3) := dk_162 0 23 (dk_at dksX6_isRow_2 0 rfl rfl)
theorem dX6_isRow_48 : decode cX6_isRow 48 = .ok (.aload_n 0, 1) := dk_42 (dk_at dksX6_isRow_2 3 rfl rfl)
theorem dX6_isRow_49 : decode cX6_isRow 49 = .ok (.getfield 83, 3) := dk_180 0 83 (dk_at dksX6_isRow_2 4 rfl rfl)
theorem dX6_isRow_52 : decode cX6_isRow 52 = .ok (.iload 4, 2) := dk_21 4 (dk_at dksX6_isRow_2 7 rfl rfl)
theorem dX6_isRow_54 : decode cX6_isRow 54 = .ok (.aload_n 0, 1) := dk_42 (dk_at dksX6_isRow_2 9 rfl rfl)
theorem dX6_isRow_55 : decode cX6_isRow 55 = .ok (.getfield 80, 3) := dk_180 0 80 (dk_at dksX6_isRow_2 10 rfl rfl)
theorem dX6_isRow_58 : decode cX6_isRow 58 = .ok (.iload 4, 2) := dk_21 4 (dk_at dksX6_isRow_2 13 rfl rfl)
theorem dX6_isRow_60 : decode cX6_isRow 60 = .ok (.iaload, 1) := dk_46 (dk_at dksX6_isRow_2 15 rfl rfl)
theorem dX6_isRow_61 : decode cX6_isRow 61 = .ok (.iastore, 1) := dk_79 (dk_at dksX6_isRow_2 16 rfl rfl)
theorem dX6_isRow_62 : decode cX6_isRow 62 = .ok (.iinc 4 1, 3) := dk_132 4 1 (dk_at dksX6_isRow_2 17 rfl rfl)
theorem dX6_isRow_65 : decode cX6_isRow 65 = .ok (.goto (-23), 3) := dk_167 255 233 (dk_at dksX6_isRow_2 20 rfl rfl)
theorem dX6_isRow_68 : decode cX6_isRow 68 = .ok (.return_, 1) := dk_177 (dk_at dksX6_isRow_2 23 rfl rfl)
abbrev cX6_soon : ByteArray := prog_24_method_119_code
def yX6_soon : MethodName := ⟨RX6, "soon", "(II)I"⟩
def dkwX6_soon_1 : List UInt8 := [18, 177, 28, 182, 1, 187, 42, 180, 1, 166, 18, 177, 160, 0, 7, 2, 167, 0, 7, 42, 180, 1, 166, 172]
abbrev dktX6_soon_1 : List UInt8 := dkwX6_soon_1 ++ []
def dkwX6_soon_0 : List UInt8 := [42, 27, 182, 0, 143, 153, 0, 14, 28, 3, 17, 3, 231, 184, 0, 102, 154, 0, 5, 2, 172, 42, 27]
abbrev dktX6_soon_0 : List UInt8 := dkwX6_soon_0 ++ dktX6_soon_1
theorem dksX6_soon_0 : cX6_soon.data.toList.drop 0 = dktX6_soon_0 := by decide +kernel
theorem dksX6_soon_1 : cX6_soon.data.toList.drop 23 = dktX6_soon_1 := dk_seg dksX6_soon_0 23 rfl rfl
theorem dX6_soon_0 : decode cX6_soon 0 = .ok (.aload_n 0, 1) := dk_42 (dk_at dksX6_soon_0 0 rfl rfl)
theorem dX6_soon_1 : decode cX6_soon 1 = .ok (.iload_n 1, 1) := dk_27 (dk_at dksX6_soon_0 1 rfl rfl)
theorem dX6_soon_2 : decode cX6_soon 2 = .ok (.invokevirtual 143, 3) := dk_182 0 143 (dk_at dksX6_soon_0 2 rfl rfl)
theorem dX6_soon_5 : decode cX6_soon 5 = .ok (.ifCond .eq 14, 3) := dk_153 0 14 (dk_at dksX6_soon_0 5 rfl rfl)
theorem dX6_soon_8 : decode cX6_soon 8 = .ok (.iload_n 2, 1) := dk_28 (dk_at dksX6_soon_0 8 rfl rfl)
theorem dX6_soon_9 : decode cX6_soon 9 = .ok (.iconst 0, 1) := dk_3 (dk_at dksX6_soon_0 9 rfl rfl)
theorem dX6_soon_10 : decode cX6_soon 10 = .ok (.sipush 999, 3) := dk_17 3 231 (dk_at dksX6_soon_0 10 rfl rfl)
theorem dX6_soon_13 : decode cX6_soon 13 = .ok (.invokestatic 102, 3) := dk_184 0 102 (dk_at dksX6_soon_0 13 rfl rfl)
theorem dX6_soon_16 : decode cX6_soon 16 = .ok (.ifCond .ne 5, 3) := dk_154 0 5 (dk_at dksX6_soon_0 16 rfl rfl)
theorem dX6_soon_19 : decode cX6_soon 19 = .ok (.iconst (-1), 1) := dk_2 (dk_at dksX6_soon_0 19 rfl rfl)
theorem dX6_soon_20 : decode cX6_soon 20 = .ok (.ireturn, 1) := dk_172 (dk_at dksX6_soon_0 20 rfl rfl)
theorem dX6_soon_21 : decode cX6_soon 21 = .ok (.aload_n 0, 1) := dk_42 (dk_at dksX6_soon_0 21 rfl rfl)
theorem dX6_soon_22 : decode cX6_soon 22 = .ok (.iload_n 1, 1) := dk_27 (dk_at dksX6_soon_0 22 rfl rfl)
theorem dX6_soon_23 : decode cX6_soon 23 = .ok (.ldc 177, 2) := dk_18 177 (dk_at dksX6_soon_1 0 rfl rfl)
theorem dX6_soon_25 : decode cX6_soon 25 = .ok (.iload_n 2, 1) := dk_28 (dk_at dksX6_soon_1 2 rfl rfl)
theorem dX6_soon_26 : decode cX6_soon 26 = .ok (.invokevirtual 443, 3) := dk_182 1 187 (dk_at dksX6_soon_1 3 rfl rfl)
theorem dX6_soon_29 : decode cX6_soon 29 = .ok (.aload_n 0, 1) := dk_42 (dk_at dksX6_soon_1 6 rfl rfl)
theorem dX6_soon_30 : decode cX6_soon 30 = .ok (.getfield 422, 3) := dk_180 1 166 (dk_at dksX6_soon_1 7 rfl rfl)
theorem dX6_soon_33 : decode cX6_soon 33 = .ok (.ldc 177, 2) := dk_18 177 (dk_at dksX6_soon_1 10 rfl rfl)
theorem dX6_soon_35 : decode cX6_soon 35 = .ok (.if_icmp .ne 7, 3) := dk_160 0 7 (dk_at dksX6_soon_1 12 rfl rfl)
theorem dX6_soon_38 : decode cX6_soon 38 = .ok (.iconst (-1), 1) := dk_2 (dk_at dksX6_soon_1 15 rfl rfl)
theorem dX6_soon_39 : decode cX6_soon 39 = .ok (.goto 7, 3) := dk_167 0 7 (dk_at dksX6_soon_1 16 rfl rfl)
theorem dX6_soon_42 : decode cX6_soon 42 = .ok (.aload_n 0, 1) := dk_42 (dk_at dksX6_soon_1 19 rfl rfl)
theorem dX6_soon_43 : decode cX6_soon 43 = .ok (.getfield 422, 3) := dk_180 1 166 (dk_at dksX6_soon_1 20 rfl rfl)
theorem dX6_soon_46 : decode cX6_soon 46 = .ok (.ireturn, 1) := dk_172 (dk_at dksX6_soon_1 23 rfl rfl)
abbrev cX6_seen : ByteArray := prog_24_method_120_code
def yX6_seen : MethodName := ⟨RX6, "seen", "(II)I"⟩
def dkwX6_seen_4 : List UInt8 := [16, 50, 46, 182, 0, 14, 172]
abbrev dktX6_seen_4 : List UInt8 := dkwX6_seen_4 ++ []
def dkwX6_seen_3 : List UInt8 := [180, 0, 24, 29, 4, 96, 28, 79, 42, 180, 0, 24, 16, 50, 92, 46, 4, 96, 79, 42, 42, 180, 0, 24]
abbrev dktX6_seen_3 : List UInt8 := dkwX6_seen_3 ++ dktX6_seen_4
def dkwX6_seen_2 : List UInt8 := [16, 50, 46, 16, 6, 160, 0, 10, 42, 16, 251, 182, 0, 106, 172, 42, 180, 0, 24, 29, 27, 79, 42]
abbrev dktX6_seen_2 : List UInt8 := dkwX6_seen_2 ++ dktX6_seen_3
def dkwX6_seen_1 : List UInt8 := [42, 16, 254, 182, 0, 106, 172, 16, 34, 5, 42, 180, 0, 24, 16, 50, 46, 104, 96, 62, 42, 180, 0, 24]
abbrev dktX6_seen_1 : List UInt8 := dkwX6_seen_1 ++ dktX6_seen_2
def dkwX6_seen_0 : List UInt8 := [28, 3, 16, 99, 184, 0, 102, 154, 0, 9, 42, 2, 182, 0, 106, 172, 42, 27, 182, 0, 143, 154, 0, 10]
abbrev dktX6_seen_0 : List UInt8 := dkwX6_seen_0 ++ dktX6_seen_1
theorem dksX6_seen_0 : cX6_seen.data.toList.drop 0 = dktX6_seen_0 := by decide +kernel
theorem dksX6_seen_1 : cX6_seen.data.toList.drop 24 = dktX6_seen_1 := dk_seg dksX6_seen_0 24 rfl rfl
theorem dksX6_seen_2 : cX6_seen.data.toList.drop 48 = dktX6_seen_2 := dk_seg dksX6_seen_1 24 rfl rfl
theorem dksX6_seen_3 : cX6_seen.data.toList.drop 71 = dktX6_seen_3 := dk_seg dksX6_seen_2 23 rfl rfl
theorem dksX6_seen_4 : cX6_seen.data.toList.drop 95 = dktX6_seen_4 := dk_seg dksX6_seen_3 24 rfl rfl
theorem dX6_seen_0 : decode cX6_seen 0 = .ok (.iload_n 2, 1) := dk_28 (dk_at dksX6_seen_0 0 rfl rfl)
theorem dX6_seen_1 : decode cX6_seen 1 = .ok (.iconst 0, 1) := dk_3 (dk_at dksX6_seen_0 1 rfl rfl)
theorem dX6_seen_2 : decode cX6_seen 2 = .ok (.bipush 99, 2) := dk_16 99 (dk_at dksX6_seen_0 2 rfl rfl)
theorem dX6_seen_4 : decode cX6_seen 4 = .ok (.invokestatic 102, 3) := dk_184 0 102 (dk_at dksX6_seen_0 4 rfl rfl)
theorem dX6_seen_7 : decode cX6_seen 7 = .ok (.ifCond .ne 9, 3) := dk_154 0 9 (dk_at dksX6_seen_0 7 rfl rfl)
theorem dX6_seen_10 : decode cX6_seen 10 = .ok (.aload_n 0, 1) := dk_42 (dk_at dksX6_seen_0 10 rfl rfl)
theorem dX6_seen_11 : decode cX6_seen 11 = .ok (.iconst (-1), 1) := dk_2 (dk_at dksX6_seen_0 11 rfl rfl)
theorem dX6_seen_12 : decode cX6_seen 12 = .ok (.invokevirtual 106, 3) := dk_182 0 106 (dk_at dksX6_seen_0 12 rfl rfl)
theorem dX6_seen_15 : decode cX6_seen 15 = .ok (.ireturn, 1) := dk_172 (dk_at dksX6_seen_0 15 rfl rfl)
theorem dX6_seen_16 : decode cX6_seen 16 = .ok (.aload_n 0, 1) := dk_42 (dk_at dksX6_seen_0 16 rfl rfl)
theorem dX6_seen_17 : decode cX6_seen 17 = .ok (.iload_n 1, 1) := dk_27 (dk_at dksX6_seen_0 17 rfl rfl)
theorem dX6_seen_18 : decode cX6_seen 18 = .ok (.invokevirtual 143, 3) := dk_182 0 143 (dk_at dksX6_seen_0 18 rfl rfl)
theorem dX6_seen_21 : decode cX6_seen 21 = .ok (.ifCond .ne 10, 3) := dk_154 0 10 (dk_at dksX6_seen_0 21 rfl rfl)
theorem dX6_seen_24 : decode cX6_seen 24 = .ok (.aload_n 0, 1) := dk_42 (dk_at dksX6_seen_1 0 rfl rfl)
theorem dX6_seen_25 : decode cX6_seen 25 = .ok (.bipush (-2), 2) := dk_16 254 (dk_at dksX6_seen_1 1 rfl rfl)
theorem dX6_seen_27 : decode cX6_seen 27 = .ok (.invokevirtual 106, 3) := dk_182 0 106 (dk_at dksX6_seen_1 3 rfl rfl)
theorem dX6_seen_30 : decode cX6_seen 30 = .ok (.ireturn, 1) := dk_172 (dk_at dksX6_seen_1 6 rfl rfl)
theorem dX6_seen_31 : decode cX6_seen 31 = .ok (.bipush 34, 2) := dk_16 34 (dk_at dksX6_seen_1 7 rfl rfl)
theorem dX6_seen_33 : decode cX6_seen 33 = .ok (.iconst 2, 1) := dk_5 (dk_at dksX6_seen_1 9 rfl rfl)
theorem dX6_seen_34 : decode cX6_seen 34 = .ok (.aload_n 0, 1) := dk_42 (dk_at dksX6_seen_1 10 rfl rfl)
theorem dX6_seen_35 : decode cX6_seen 35 = .ok (.getfield 24, 3) := dk_180 0 24 (dk_at dksX6_seen_1 11 rfl rfl)
theorem dX6_seen_38 : decode cX6_seen 38 = .ok (.bipush 50, 2) := dk_16 50 (dk_at dksX6_seen_1 14 rfl rfl)
theorem dX6_seen_40 : decode cX6_seen 40 = .ok (.iaload, 1) := dk_46 (dk_at dksX6_seen_1 16 rfl rfl)
theorem dX6_seen_41 : decode cX6_seen 41 = .ok (.imul, 1) := dk_104 (dk_at dksX6_seen_1 17 rfl rfl)
theorem dX6_seen_42 : decode cX6_seen 42 = .ok (.iadd, 1) := dk_96 (dk_at dksX6_seen_1 18 rfl rfl)
theorem dX6_seen_43 : decode cX6_seen 43 = .ok (.istore_n 3, 1) := dk_62 (dk_at dksX6_seen_1 19 rfl rfl)
theorem dX6_seen_44 : decode cX6_seen 44 = .ok (.aload_n 0, 1) := dk_42 (dk_at dksX6_seen_1 20 rfl rfl)
theorem dX6_seen_45 : decode cX6_seen 45 = .ok (.getfield 24, 3) := dk_180 0 24 (dk_at dksX6_seen_1 21 rfl rfl)
theorem dX6_seen_48 : decode cX6_seen 48 = .ok (.bipush 50, 2) := dk_16 50 (dk_at dksX6_seen_2 0 rfl rfl)
theorem dX6_seen_50 : decode cX6_seen 50 = .ok (.iaload, 1) := dk_46 (dk_at dksX6_seen_2 2 rfl rfl)
theorem dX6_seen_51 : decode cX6_seen 51 = .ok (.bipush 6, 2) := dk_16 6 (dk_at dksX6_seen_2 3 rfl rfl)
theorem dX6_seen_53 : decode cX6_seen 53 = .ok (.if_icmp .ne 10, 3) := dk_160 0 10 (dk_at dksX6_seen_2 5 rfl rfl)
theorem dX6_seen_56 : decode cX6_seen 56 = .ok (.aload_n 0, 1) := dk_42 (dk_at dksX6_seen_2 8 rfl rfl)
theorem dX6_seen_57 : decode cX6_seen 57 = .ok (.bipush (-5), 2) := dk_16 251 (dk_at dksX6_seen_2 9 rfl rfl)
theorem dX6_seen_59 : decode cX6_seen 59 = .ok (.invokevirtual 106, 3) := dk_182 0 106 (dk_at dksX6_seen_2 11 rfl rfl)
theorem dX6_seen_62 : decode cX6_seen 62 = .ok (.ireturn, 1) := dk_172 (dk_at dksX6_seen_2 14 rfl rfl)
theorem dX6_seen_63 : decode cX6_seen 63 = .ok (.aload_n 0, 1) := dk_42 (dk_at dksX6_seen_2 15 rfl rfl)
theorem dX6_seen_64 : decode cX6_seen 64 = .ok (.getfield 24, 3) := dk_180 0 24 (dk_at dksX6_seen_2 16 rfl rfl)
theorem dX6_seen_67 : decode cX6_seen 67 = .ok (.iload_n 3, 1) := dk_29 (dk_at dksX6_seen_2 19 rfl rfl)
theorem dX6_seen_68 : decode cX6_seen 68 = .ok (.iload_n 1, 1) := dk_27 (dk_at dksX6_seen_2 20 rfl rfl)
theorem dX6_seen_69 : decode cX6_seen 69 = .ok (.iastore, 1) := dk_79 (dk_at dksX6_seen_2 21 rfl rfl)
theorem dX6_seen_70 : decode cX6_seen 70 = .ok (.aload_n 0, 1) := dk_42 (dk_at dksX6_seen_2 22 rfl rfl)
theorem dX6_seen_71 : decode cX6_seen 71 = .ok (.getfield 24, 3) := dk_180 0 24 (dk_at dksX6_seen_3 0 rfl rfl)
theorem dX6_seen_74 : decode cX6_seen 74 = .ok (.iload_n 3, 1) := dk_29 (dk_at dksX6_seen_3 3 rfl rfl)
theorem dX6_seen_75 : decode cX6_seen 75 = .ok (.iconst 1, 1) := dk_4 (dk_at dksX6_seen_3 4 rfl rfl)
theorem dX6_seen_76 : decode cX6_seen 76 = .ok (.iadd, 1) := dk_96 (dk_at dksX6_seen_3 5 rfl rfl)
theorem dX6_seen_77 : decode cX6_seen 77 = .ok (.iload_n 2, 1) := dk_28 (dk_at dksX6_seen_3 6 rfl rfl)
theorem dX6_seen_78 : decode cX6_seen 78 = .ok (.iastore, 1) := dk_79 (dk_at dksX6_seen_3 7 rfl rfl)
theorem dX6_seen_79 : decode cX6_seen 79 = .ok (.aload_n 0, 1) := dk_42 (dk_at dksX6_seen_3 8 rfl rfl)
theorem dX6_seen_80 : decode cX6_seen 80 = .ok (.getfield 24, 3) := dk_180 0 24 (dk_at dksX6_seen_3 9 rfl rfl)
theorem dX6_seen_83 : decode cX6_seen 83 = .ok (.bipush 50, 2) := dk_16 50 (dk_at dksX6_seen_3 12 rfl rfl)
theorem dX6_seen_85 : decode cX6_seen 85 = .ok (.dup2, 1) := dk_92 (dk_at dksX6_seen_3 14 rfl rfl)
theorem dX6_seen_86 : decode cX6_seen 86 = .ok (.iaload, 1) := dk_46 (dk_at dksX6_seen_3 15 rfl rfl)
theorem dX6_seen_87 : decode cX6_seen 87 = .ok (.iconst 1, 1) := dk_4 (dk_at dksX6_seen_3 16 rfl rfl)
theorem dX6_seen_88 : decode cX6_seen 88 = .ok (.iadd, 1) := dk_96 (dk_at dksX6_seen_3 17 rfl rfl)
theorem dX6_seen_89 : decode cX6_seen 89 = .ok (.iastore, 1) := dk_79 (dk_at dksX6_seen_3 18 rfl rfl)
theorem dX6_seen_90 : decode cX6_seen 90 = .ok (.aload_n 0, 1) := dk_42 (dk_at dksX6_seen_3 19 rfl rfl)
theorem dX6_seen_91 : decode cX6_seen 91 = .ok (.aload_n 0, 1) := dk_42 (dk_at dksX6_seen_3 20 rfl rfl)
theorem dX6_seen_92 : decode cX6_seen 92 = .ok (.getfield 24, 3) := dk_180 0 24 (dk_at dksX6_seen_3 21 rfl rfl)
theorem dX6_seen_95 : decode cX6_seen 95 = .ok (.bipush 50, 2) := dk_16 50 (dk_at dksX6_seen_4 0 rfl rfl)
theorem dX6_seen_97 : decode cX6_seen 97 = .ok (.iaload, 1) := dk_46 (dk_at dksX6_seen_4 2 rfl rfl)
theorem dX6_seen_98 : decode cX6_seen 98 = .ok (.invokevirtual 14, 3) := dk_182 0 14 (dk_at dksX6_seen_4 3 rfl rfl)
theorem dX6_seen_101 : decode cX6_seen 101 = .ok (.ireturn, 1) := dk_172 (dk_at dksX6_seen_4 6 rfl rfl)
abbrev cX6_forget : ByteArray := prog_24_method_121_code
def yX6_forget : MethodName := ⟨RX6, "forget", "()I"⟩
def dkwX6_forget_0 : List UInt8 := [42, 180, 0, 24, 16, 50, 46, 60, 42, 180, 0, 24, 16, 50, 3, 79, 27, 172]
abbrev dktX6_forget_0 : List UInt8 := dkwX6_forget_0 ++ []
theorem dksX6_forget_0 : cX6_forget.data.toList.drop 0 = dktX6_forget_0 := by decide +kernel
theorem dX6_forget_0 : decode cX6_forget 0 = .ok (.aload_n 0, 1) := dk_42 (dk_at dksX6_forget_0 0 rfl rfl)
theorem dX6_forget_1 : decode cX6_forget 1 = .ok (.getfield 24, 3) := dk_180 0 24 (dk_at dksX6_forget_0 1 rfl rfl)
theorem dX6_forget_4 : decode cX6_forget 4 = .ok (.bipush 50, 2) := dk_16 50 (dk_at dksX6_forget_0 4 rfl rfl)
theorem dX6_forget_6 : decode cX6_forget 6 = .ok (.iaload, 1) := dk_46 (dk_at dksX6_forget_0 6 rfl rfl)
theorem dX6_forget_7 : decode cX6_forget 7 = .ok (.istore_n 1, 1) := dk_60 (dk_at dksX6_forget_0 7 rfl rfl)
theorem dX6_forget_8 : decode cX6_forget 8 = .ok (.aload_n 0, 1) := dk_42 (dk_at dksX6_forget_0 8 rfl rfl)
theorem dX6_forget_9 : decode cX6_forget 9 = .ok (.getfield 24, 3) := dk_180 0 24 (dk_at dksX6_forget_0 9 rfl rfl)
theorem dX6_forget_12 : decode cX6_forget 12 = .ok (.bipush 50, 2) := dk_16 50 (dk_at dksX6_forget_0 12 rfl rfl)
theorem dX6_forget_14 : decode cX6_forget 14 = .ok (.iconst 0, 1) := dk_3 (dk_at dksX6_forget_0 14 rfl rfl)
theorem dX6_forget_15 : decode cX6_forget 15 = .ok (.iastore, 1) := dk_79 (dk_at dksX6_forget_0 15 rfl rfl)
theorem dX6_forget_16 : decode cX6_forget 16 = .ok (.iload_n 1, 1) := dk_27 (dk_at dksX6_forget_0 16 rfl rfl)
theorem dX6_forget_17 : decode cX6_forget 17 = .ok (.ireturn, 1) := dk_172 (dk_at dksX6_forget_0 17 rfl rfl)
abbrev cX6_canBe : ByteArray := prog_24_method_124_code
def yX6_canBe : MethodName := ⟨RX6, "canBe", "()I"⟩
def dkwX6_canBe_1 : List UInt8 := [153, 0, 9, 4, 28, 120, 167, 0, 4, 3, 128, 60, 132, 2, 1, 167, 255, 227, 27, 172]
abbrev dktX6_canBe_1 : List UInt8 := dkwX6_canBe_1 ++ []
def dkwX6_canBe_0 : List UInt8 := [42, 182, 1, 190, 3, 60, 3, 61, 28, 42, 182, 0, 112, 162, 0, 27, 27, 42, 28, 182, 1, 193]
abbrev dktX6_canBe_0 : List UInt8 := dkwX6_canBe_0 ++ dktX6_canBe_1
theorem dksX6_canBe_0 : cX6_canBe.data.toList.drop 0 = dktX6_canBe_0 := by decide +kernel
theorem dksX6_canBe_1 : cX6_canBe.data.toList.drop 22 = dktX6_canBe_1 := dk_seg dksX6_canBe_0 22 rfl rfl
theorem dX6_canBe_0 : decode cX6_canBe 0 = .ok (.aload_n 0, 1) := dk_42 (dk_at dksX6_canBe_0 0 rfl rfl)
theorem dX6_canBe_1 : decode cX6_canBe 1 = .ok (.invokevirtual 446, 3) := dk_182 1 190 (dk_at dksX6_canBe_0 1 rfl rfl)
theorem dX6_canBe_4 : decode cX6_canBe 4 = .ok (.iconst 0, 1) := dk_3 (dk_at dksX6_canBe_0 4 rfl rfl)
theorem dX6_canBe_5 : decode cX6_canBe 5 = .ok (.istore_n 1, 1) := dk_60 (dk_at dksX6_canBe_0 5 rfl rfl)
theorem dX6_canBe_6 : decode cX6_canBe 6 = .ok (.iconst 0, 1) := dk_3 (dk_at dksX6_canBe_0 6 rfl rfl)
theorem dX6_canBe_7 : decode cX6_canBe 7 = .ok (.istore_n 2, 1) := dk_61 (dk_at dksX6_canBe_0 7 rfl rfl)
theorem dX6_canBe_8 : decode cX6_canBe 8 = .ok (.iload_n 2, 1) := dk_28 (dk_at dksX6_canBe_0 8 rfl rfl)
theorem dX6_canBe_9 : decode cX6_canBe 9 = .ok (.aload_n 0, 1) := dk_42 (dk_at dksX6_canBe_0 9 rfl rfl)
theorem dX6_canBe_10 : decode cX6_canBe 10 = .ok (.invokevirtual 112, 3) := dk_182 0 112 (dk_at dksX6_canBe_0 10 rfl rfl)
theorem dX6_canBe_13 : decode cX6_canBe 13 = .ok (.if_icmp .ge 27, 3) := dk_162 0 27 (dk_at dksX6_canBe_0 13 rfl rfl)
theorem dX6_canBe_16 : decode cX6_canBe 16 = .ok (.iload_n 1, 1) := dk_27 (dk_at dksX6_canBe_0 16 rfl rfl)
theorem dX6_canBe_17 : decode cX6_canBe 17 = .ok (.aload_n 0, 1) := dk_42 (dk_at dksX6_canBe_0 17 rfl rfl)
theorem dX6_canBe_18 : decode cX6_canBe 18 = .ok (.iload_n 2, 1) := dk_28 (dk_at dksX6_canBe_0 18 rfl rfl)
theorem dX6_canBe_19 : decode cX6_canBe 19 = .ok (.invokevirtual 449, 3) := dk_182 1 193 (dk_at dksX6_canBe_0 19 rfl rfl)
theorem dX6_canBe_22 : decode cX6_canBe 22 = .ok (.ifCond .eq 9, 3) := dk_153 0 9 (dk_at dksX6_canBe_1 0 rfl rfl)
theorem dX6_canBe_25 : decode cX6_canBe 25 = .ok (.iconst 1, 1) := dk_4 (dk_at dksX6_canBe_1 3 rfl rfl)
theorem dX6_canBe_26 : decode cX6_canBe 26 = .ok (.iload_n 2, 1) := dk_28 (dk_at dksX6_canBe_1 4 rfl rfl)
theorem dX6_canBe_27 : decode cX6_canBe 27 = .ok (.ishl, 1) := dk_120 (dk_at dksX6_canBe_1 5 rfl rfl)
theorem dX6_canBe_28 : decode cX6_canBe 28 = .ok (.goto 4, 3) := dk_167 0 4 (dk_at dksX6_canBe_1 6 rfl rfl)
theorem dX6_canBe_31 : decode cX6_canBe 31 = .ok (.iconst 0, 1) := dk_3 (dk_at dksX6_canBe_1 9 rfl rfl)
theorem dX6_canBe_32 : decode cX6_canBe 32 = .ok (.ior, 1) := dk_128 (dk_at dksX6_canBe_1 10 rfl rfl)
theorem dX6_canBe_33 : decode cX6_canBe 33 = .ok (.istore_n 1, 1) := dk_60 (dk_at dksX6_canBe_1 11 rfl rfl)
theorem dX6_canBe_34 : decode cX6_canBe 34 = .ok (.iinc 2 1, 3) := dk_132 2 1 (dk_at dksX6_canBe_1 12 rfl rfl)
theorem dX6_canBe_37 : decode cX6_canBe 37 = .ok (.goto (-29), 3) := dk_167 255 227 (dk_at dksX6_canBe_1 15 rfl rfl)
theorem dX6_canBe_40 : decode cX6_canBe 40 = .ok (.iload_n 1, 1) := dk_27 (dk_at dksX6_canBe_1 18 rfl rfl)
theorem dX6_canBe_41 : decode cX6_canBe 41 = .ok (.ireturn, 1) := dk_172 (dk_at dksX6_canBe_1 19 rfl rfl)
abbrev cX6_laysGrowth : ByteArray := prog_24_method_122_code
def yX6_laysGrowth : MethodName := ⟨RX6, "laysGrowth", "()V"⟩
def dkwX6_laysGrowth_2 : List UInt8 := [167, 255, 212, 177]
abbrev dktX6_laysGrowth_2 : List UInt8 := dkwX6_laysGrowth_2 ++ []
def dkwX6_laysGrowth_1 : List UInt8 := [16, 8, 27, 104, 28, 96, 42, 27, 28, 182, 0, 146, 79, 132, 2, 1, 167, 255, 228, 132, 1, 1]
abbrev dktX6_laysGrowth_1 : List UInt8 := dkwX6_laysGrowth_1 ++ dktX6_laysGrowth_2
def dkwX6_laysGrowth_0 : List UInt8 := [3, 60, 27, 42, 182, 0, 116, 162, 0, 42, 3, 61, 28, 42, 182, 0, 112, 162, 0, 26, 42, 180, 0, 86]
abbrev dktX6_laysGrowth_0 : List UInt8 := dkwX6_laysGrowth_0 ++ dktX6_laysGrowth_1
theorem dksX6_laysGrowth_0 : cX6_laysGrowth.data.toList.drop 0 = dktX6_laysGrowth_0 := by decide +kernel
theorem dksX6_laysGrowth_1 : cX6_laysGrowth.data.toList.drop 24 = dktX6_laysGrowth_1 := dk_seg dksX6_laysGrowth_0 24 rfl rfl
theorem dksX6_laysGrowth_2 : cX6_laysGrowth.data.toList.drop 46 = dktX6_laysGrowth_2 := dk_seg dksX6_laysGrowth_1 22 rfl rfl
theorem dX6_laysGrowth_0 : decode cX6_laysGrowth 0 = .ok (.iconst 0, 1) := dk_3 (dk_at dksX6_laysGrowth_0 0 rfl rfl)
theorem dX6_laysGrowth_1 : decode cX6_laysGrowth 1 = .ok (.istore_n 1, 1) := dk_60 (dk_at dksX6_laysGrowth_0 1 rfl rfl)
theorem dX6_laysGrowth_2 : decode cX6_laysGrowth 2 = .ok (.iload_n 1, 1) := dk_27 (dk_at dksX6_laysGrowth_0 2 rfl rfl)
theorem dX6_laysGrowth_3 : decode cX6_laysGrowth 3 = .ok (.aload_n 0, 1) := dk_42 (dk_at dksX6_laysGrowth_0 3 rfl rfl)
theorem dX6_laysGrowth_4 : decode cX6_laysGrowth 4 = .ok (.invokevirtual 116, 3) := dk_182 0 116 (dk_at dksX6_laysGrowth_0 4 rfl rfl)
theorem dX6_laysGrowth_7 : decode cX6_laysGrowth 7 = .ok (.if_icmp .ge 42, 3) := dk_162 0 42 (dk_at dksX6_laysGrowth_0 7 rfl rfl)
theorem dX6_laysGrowth_10 : decode cX6_laysGrowth 10 = .ok (.iconst 0, 1) := dk_3 (dk_at dksX6_laysGrowth_0 10 rfl rfl)
theorem dX6_laysGrowth_11 : decode cX6_laysGrowth 11 = .ok (.istore_n 2, 1) := dk_61 (dk_at dksX6_laysGrowth_0 11 rfl rfl)
theorem dX6_laysGrowth_12 : decode cX6_laysGrowth 12 = .ok (.iload_n 2, 1) := dk_28 (dk_at dksX6_laysGrowth_0 12 rfl rfl)
theorem dX6_laysGrowth_13 : decode cX6_laysGrowth 13 = .ok (.aload_n 0, 1) := dk_42 (dk_at dksX6_laysGrowth_0 13 rfl rfl)
theorem dX6_laysGrowth_14 : decode cX6_laysGrowth 14 = .ok (.invokevirtual 112, 3) := dk_182 0 112 (dk_at dksX6_laysGrowth_0 14 rfl rfl)
theorem dX6_laysGrowth_17 : decode cX6_laysGrowth 17 = .ok (.if_icmp .ge 26, 3) := dk_162 0 26 (dk_at dksX6_laysGrowth_0 17 rfl rfl)
theorem dX6_laysGrowth_20 : decode cX6_laysGrowth 20 = .ok (.aload_n 0, 1) := dk_42 (dk_at dksX6_laysGrowth_0 20 rfl rfl)
theorem dX6_laysGrowth_21 : decode cX6_laysGrowth 21 = .ok (.getfield 86, 3) := dk_180 0 86 (dk_at dksX6_laysGrowth_0 21 rfl rfl)
theorem dX6_laysGrowth_24 : decode cX6_laysGrowth 24 = .ok (.bipush 8, 2) := dk_16 8 (dk_at dksX6_laysGrowth_1 0 rfl rfl)
theorem dX6_laysGrowth_26 : decode cX6_laysGrowth 26 = .ok (.iload_n 1, 1) := dk_27 (dk_at dksX6_laysGrowth_1 2 rfl rfl)
theorem dX6_laysGrowth_27 : decode cX6_laysGrowth 27 = .ok (.imul, 1) := dk_104 (dk_at dksX6_laysGrowth_1 3 rfl rfl)
theorem dX6_laysGrowth_28 : decode cX6_laysGrowth 28 = .ok (.iload_n 2, 1) := dk_28 (dk_at dksX6_laysGrowth_1 4 rfl rfl)
theorem dX6_laysGrowth_29 : decode cX6_laysGrowth 29 = .ok (.iadd, 1) := dk_96 (dk_at dksX6_laysGrowth_1 5 rfl rfl)
theorem dX6_laysGrowth_30 : decode cX6_laysGrowth 30 = .ok (.aload_n 0, 1) := dk_42 (dk_at dksX6_laysGrowth_1 6 rfl rfl)
theorem dX6_laysGrowth_31 : decode cX6_laysGrowth 31 = .ok (.iload_n 1, 1) := dk_27 (dk_at dksX6_laysGrowth_1 7 rfl rfl)
theorem dX6_laysGrowth_32 : decode cX6_laysGrowth 32 = .ok (.iload_n 2, 1) := dk_28 (dk_at dksX6_laysGrowth_1 8 rfl rfl)
theorem dX6_laysGrowth_33 : decode cX6_laysGrowth 33 = .ok (.invokevirtual 146, 3) := dk_182 0 146 (dk_at dksX6_laysGrowth_1 9 rfl rfl)
theorem dX6_laysGrowth_36 : decode cX6_laysGrowth 36 = .ok (.iastore, 1) := dk_79 (dk_at dksX6_laysGrowth_1 12 rfl rfl)
theorem dX6_laysGrowth_37 : decode cX6_laysGrowth 37 = .ok (.iinc 2 1, 3) := dk_132 2 1 (dk_at dksX6_laysGrowth_1 13 rfl rfl)
theorem dX6_laysGrowth_40 : decode cX6_laysGrowth 40 = .ok (.goto (-28), 3) := dk_167 255 228 (dk_at dksX6_laysGrowth_1 16 rfl rfl)
theorem dX6_laysGrowth_43 : decode cX6_laysGrowth 43 = .ok (.iinc 1 1, 3) := dk_132 1 1 (dk_at dksX6_laysGrowth_1 19 rfl rfl)
theorem dX6_laysGrowth_46 : decode cX6_laysGrowth 46 = .ok (.goto (-44), 3) := dk_167 255 212 (dk_at dksX6_laysGrowth_2 0 rfl rfl)
theorem dX6_laysGrowth_49 : decode cX6_laysGrowth 49 = .ok (.return_, 1) := dk_177 (dk_at dksX6_laysGrowth_2 3 rfl rfl)
abbrev cX6_isSo : ByteArray := prog_24_method_123_code
def yX6_isSo : MethodName := ⟨RX6, "isSo", "(I)Z"⟩
def dkwX6_isSo_2 : List UInt8 := [29, 104, 96, 4, 96, 46, 160, 0, 7, 4, 167, 0, 4, 3, 61, 132, 3, 1, 167, 255, 195, 28, 172]
abbrev dktX6_isSo_2 : List UInt8 := dkwX6_isSo_2 ++ []
def dkwX6_isSo_1 : List UInt8 := [16, 8, 42, 180, 0, 24, 16, 34, 5, 29, 104, 96, 46, 104, 27, 96, 46, 42, 180, 0, 24, 16, 34, 5]
abbrev dktX6_isSo_1 : List UInt8 := dkwX6_isSo_1 ++ dktX6_isSo_2
def dkwX6_isSo_0 : List UInt8 := [4, 61, 3, 62, 29, 42, 180, 0, 24, 16, 50, 46, 162, 0, 56, 28, 153, 0, 44, 42, 180, 0, 86]
abbrev dktX6_isSo_0 : List UInt8 := dkwX6_isSo_0 ++ dktX6_isSo_1
theorem dksX6_isSo_0 : cX6_isSo.data.toList.drop 0 = dktX6_isSo_0 := by decide +kernel
theorem dksX6_isSo_1 : cX6_isSo.data.toList.drop 23 = dktX6_isSo_1 := dk_seg dksX6_isSo_0 23 rfl rfl
theorem dksX6_isSo_2 : cX6_isSo.data.toList.drop 47 = dktX6_isSo_2 := dk_seg dksX6_isSo_1 24 rfl rfl
theorem dX6_isSo_0 : decode cX6_isSo 0 = .ok (.iconst 1, 1) := dk_4 (dk_at dksX6_isSo_0 0 rfl rfl)
theorem dX6_isSo_1 : decode cX6_isSo 1 = .ok (.istore_n 2, 1) := dk_61 (dk_at dksX6_isSo_0 1 rfl rfl)
theorem dX6_isSo_2 : decode cX6_isSo 2 = .ok (.iconst 0, 1) := dk_3 (dk_at dksX6_isSo_0 2 rfl rfl)
theorem dX6_isSo_3 : decode cX6_isSo 3 = .ok (.istore_n 3, 1) := dk_62 (dk_at dksX6_isSo_0 3 rfl rfl)
theorem dX6_isSo_4 : decode cX6_isSo 4 = .ok (.iload_n 3, 1) := dk_29 (dk_at dksX6_isSo_0 4 rfl rfl)
theorem dX6_isSo_5 : decode cX6_isSo 5 = .ok (.aload_n 0, 1) := dk_42 (dk_at dksX6_isSo_0 5 rfl rfl)
theorem dX6_isSo_6 : decode cX6_isSo 6 = .ok (.getfield 24, 3) := dk_180 0 24 (dk_at dksX6_isSo_0 6 rfl rfl)
theorem dX6_isSo_9 : decode cX6_isSo 9 = .ok (.bipush 50, 2) := dk_16 50 (dk_at dksX6_isSo_0 9 rfl rfl)
theorem dX6_isSo_11 : decode cX6_isSo 11 = .ok (.iaload, 1) := dk_46 (dk_at dksX6_isSo_0 11 rfl rfl)
theorem dX6_isSo_12 : decode cX6_isSo 12 = .ok (.if_icmp .ge 56, 3) := dk_162 0 56 (dk_at dksX6_isSo_0 12 rfl rfl)
theorem dX6_isSo_15 : decode cX6_isSo 15 = .ok (.iload_n 2, 1) := dk_28 (dk_at dksX6_isSo_0 15 rfl rfl)
theorem dX6_isSo_16 : decode cX6_isSo 16 = .ok (.ifCond .eq 44, 3) := dk_153 0 44 (dk_at dksX6_isSo_0 16 rfl rfl)
theorem dX6_isSo_19 : decode cX6_isSo 19 = .ok (.aload_n 0, 1) := dk_42 (dk_at dksX6_isSo_0 19 rfl rfl)
theorem dX6_isSo_20 : decode cX6_isSo 20 = .ok (.getfield 86, 3) := dk_180 0 86 (dk_at dksX6_isSo_0 20 rfl rfl)
theorem dX6_isSo_23 : decode cX6_isSo 23 = .ok (.bipush 8, 2) := dk_16 8 (dk_at dksX6_isSo_1 0 rfl rfl)
theorem dX6_isSo_25 : decode cX6_isSo 25 = .ok (.aload_n 0, 1) := dk_42 (dk_at dksX6_isSo_1 2 rfl rfl)
theorem dX6_isSo_26 : decode cX6_isSo 26 = .ok (.getfield 24, 3) := dk_180 0 24 (dk_at dksX6_isSo_1 3 rfl rfl)
theorem dX6_isSo_29 : decode cX6_isSo 29 = .ok (.bipush 34, 2) := dk_16 34 (dk_at dksX6_isSo_1 6 rfl rfl)
theorem dX6_isSo_31 : decode cX6_isSo 31 = .ok (.iconst 2, 1) := dk_5 (dk_at dksX6_isSo_1 8 rfl rfl)
theorem dX6_isSo_32 : decode cX6_isSo 32 = .ok (.iload_n 3, 1) := dk_29 (dk_at dksX6_isSo_1 9 rfl rfl)
theorem dX6_isSo_33 : decode cX6_isSo 33 = .ok (.imul, 1) := dk_104 (dk_at dksX6_isSo_1 10 rfl rfl)
theorem dX6_isSo_34 : decode cX6_isSo 34 = .ok (.iadd, 1) := dk_96 (dk_at dksX6_isSo_1 11 rfl rfl)
theorem dX6_isSo_35 : decode cX6_isSo 35 = .ok (.iaload, 1) := dk_46 (dk_at dksX6_isSo_1 12 rfl rfl)
theorem dX6_isSo_36 : decode cX6_isSo 36 = .ok (.imul, 1) := dk_104 (dk_at dksX6_isSo_1 13 rfl rfl)
theorem dX6_isSo_37 : decode cX6_isSo 37 = .ok (.iload_n 1, 1) := dk_27 (dk_at dksX6_isSo_1 14 rfl rfl)
theorem dX6_isSo_38 : decode cX6_isSo 38 = .ok (.iadd, 1) := dk_96 (dk_at dksX6_isSo_1 15 rfl rfl)
theorem dX6_isSo_39 : decode cX6_isSo 39 = .ok (.iaload, 1) := dk_46 (dk_at dksX6_isSo_1 16 rfl rfl)
theorem dX6_isSo_40 : decode cX6_isSo 40 = .ok (.aload_n 0, 1) := dk_42 (dk_at dksX6_isSo_1 17 rfl rfl)
theorem dX6_isSo_41 : decode cX6_isSo 41 = .ok (.getfield 24, 3) := dk_180 0 24 (dk_at dksX6_isSo_1 18 rfl rfl)
theorem dX6_isSo_44 : decode cX6_isSo 44 = .ok (.bipush 34, 2) := dk_16 34 (dk_at dksX6_isSo_1 21 rfl rfl)
theorem dX6_isSo_46 : decode cX6_isSo 46 = .ok (.iconst 2, 1) := dk_5 (dk_at dksX6_isSo_1 23 rfl rfl)
theorem dX6_isSo_47 : decode cX6_isSo 47 = .ok (.iload_n 3, 1) := dk_29 (dk_at dksX6_isSo_2 0 rfl rfl)
theorem dX6_isSo_48 : decode cX6_isSo 48 = .ok (.imul, 1) := dk_104 (dk_at dksX6_isSo_2 1 rfl rfl)
theorem dX6_isSo_49 : decode cX6_isSo 49 = .ok (.iadd, 1) := dk_96 (dk_at dksX6_isSo_2 2 rfl rfl)
theorem dX6_isSo_50 : decode cX6_isSo 50 = .ok (.iconst 1, 1) := dk_4 (dk_at dksX6_isSo_2 3 rfl rfl)
theorem dX6_isSo_51 : decode cX6_isSo 51 = .ok (.iadd, 1) := dk_96 (dk_at dksX6_isSo_2 4 rfl rfl)
theorem dX6_isSo_52 : decode cX6_isSo 52 = .ok (.iaload, 1) := dk_46 (dk_at dksX6_isSo_2 5 rfl rfl)
theorem dX6_isSo_53 : decode cX6_isSo 53 = .ok (.if_icmp .ne 7, 3) := dk_160 0 7 (dk_at dksX6_isSo_2 6 rfl rfl)
theorem dX6_isSo_56 : decode cX6_isSo 56 = .ok (.iconst 1, 1) := dk_4 (dk_at dksX6_isSo_2 9 rfl rfl)
theorem dX6_isSo_57 : decode cX6_isSo 57 = .ok (.goto 4, 3) := dk_167 0 4 (dk_at dksX6_isSo_2 10 rfl rfl)
theorem dX6_isSo_60 : decode cX6_isSo 60 = .ok (.iconst 0, 1) := dk_3 (dk_at dksX6_isSo_2 13 rfl rfl)
theorem dX6_isSo_61 : decode cX6_isSo 61 = .ok (.istore_n 2, 1) := dk_61 (dk_at dksX6_isSo_2 14 rfl rfl)
theorem dX6_isSo_62 : decode cX6_isSo 62 = .ok (.iinc 3 1, 3) := dk_132 3 1 (dk_at dksX6_isSo_2 15 rfl rfl)
theorem dX6_isSo_65 : decode cX6_isSo 65 = .ok (.goto (-61), 3) := dk_167 255 195 (dk_at dksX6_isSo_2 18 rfl rfl)
theorem dX6_isSo_68 : decode cX6_isSo 68 = .ok (.iload_n 2, 1) := dk_28 (dk_at dksX6_isSo_2 21 rfl rfl)
theorem dX6_isSo_69 : decode cX6_isSo 69 = .ok (.ireturn, 1) := dk_172 (dk_at dksX6_isSo_2 22 rfl rfl)
abbrev cX6_look : ByteArray := prog_24_method_126_code
def yX6_look : MethodName := ⟨RX6, "look", "(I)I"⟩
def dkwX6_look_3 : List UInt8 := [2, 159, 0, 7, 27, 154, 0, 7, 29, 167, 0, 5, 21, 4, 172]
abbrev dktX6_look_3 : List UInt8 := dkwX6_look_3 ++ []
def dkwX6_look_2 : List UInt8 := [21, 6, 21, 4, 161, 0, 6, 167, 0, 10, 21, 6, 54, 4, 21, 5, 62, 132, 5, 1, 167, 255, 214, 29]
abbrev dktX6_look_2 : List UInt8 := dkwX6_look_2 ++ dktX6_look_3
def dkwX6_look_1 : List UInt8 := [54, 5, 21, 5, 42, 182, 0, 116, 162, 0, 39, 28, 153, 0, 35, 42, 28, 21, 5, 182, 1, 199, 54, 6]
abbrev dktX6_look_1 : List UInt8 := dkwX6_look_1 ++ dktX6_look_2
def dkwX6_look_0 : List UInt8 := [27, 3, 4, 184, 0, 102, 154, 0, 5, 2, 172, 42, 182, 1, 196, 61, 2, 62, 18, 177, 54, 4, 3]
abbrev dktX6_look_0 : List UInt8 := dkwX6_look_0 ++ dktX6_look_1
theorem dksX6_look_0 : cX6_look.data.toList.drop 0 = dktX6_look_0 := by decide +kernel
theorem dksX6_look_1 : cX6_look.data.toList.drop 23 = dktX6_look_1 := dk_seg dksX6_look_0 23 rfl rfl
theorem dksX6_look_2 : cX6_look.data.toList.drop 47 = dktX6_look_2 := dk_seg dksX6_look_1 24 rfl rfl
theorem dksX6_look_3 : cX6_look.data.toList.drop 71 = dktX6_look_3 := dk_seg dksX6_look_2 24 rfl rfl
theorem dX6_look_0 : decode cX6_look 0 = .ok (.iload_n 1, 1) := dk_27 (dk_at dksX6_look_0 0 rfl rfl)
theorem dX6_look_1 : decode cX6_look 1 = .ok (.iconst 0, 1) := dk_3 (dk_at dksX6_look_0 1 rfl rfl)
theorem dX6_look_2 : decode cX6_look 2 = .ok (.iconst 1, 1) := dk_4 (dk_at dksX6_look_0 2 rfl rfl)
theorem dX6_look_3 : decode cX6_look 3 = .ok (.invokestatic 102, 3) := dk_184 0 102 (dk_at dksX6_look_0 3 rfl rfl)
theorem dX6_look_6 : decode cX6_look 6 = .ok (.ifCond .ne 5, 3) := dk_154 0 5 (dk_at dksX6_look_0 6 rfl rfl)
theorem dX6_look_9 : decode cX6_look 9 = .ok (.iconst (-1), 1) := dk_2 (dk_at dksX6_look_0 9 rfl rfl)
theorem dX6_look_10 : decode cX6_look 10 = .ok (.ireturn, 1) := dk_172 (dk_at dksX6_look_0 10 rfl rfl)
theorem dX6_look_11 : decode cX6_look 11 = .ok (.aload_n 0, 1) := dk_42 (dk_at dksX6_look_0 11 rfl rfl)
theorem dX6_look_12 : decode cX6_look 12 = .ok (.invokevirtual 452, 3) := dk_182 1 196 (dk_at dksX6_look_0 12 rfl rfl)
theorem dX6_look_15 : decode cX6_look 15 = .ok (.istore_n 2, 1) := dk_61 (dk_at dksX6_look_0 15 rfl rfl)
theorem dX6_look_16 : decode cX6_look 16 = .ok (.iconst (-1), 1) := dk_2 (dk_at dksX6_look_0 16 rfl rfl)
theorem dX6_look_17 : decode cX6_look 17 = .ok (.istore_n 3, 1) := dk_62 (dk_at dksX6_look_0 17 rfl rfl)
theorem dX6_look_18 : decode cX6_look 18 = .ok (.ldc 177, 2) := dk_18 177 (dk_at dksX6_look_0 18 rfl rfl)
theorem dX6_look_20 : decode cX6_look 20 = .ok (.istore 4, 2) := dk_54 4 (dk_at dksX6_look_0 20 rfl rfl)
theorem dX6_look_22 : decode cX6_look 22 = .ok (.iconst 0, 1) := dk_3 (dk_at dksX6_look_0 22 rfl rfl)
theorem dX6_look_23 : decode cX6_look 23 = .ok (.istore 5, 2) := dk_54 5 (dk_at dksX6_look_1 0 rfl rfl)
theorem dX6_look_25 : decode cX6_look 25 = .ok (.iload 5, 2) := dk_21 5 (dk_at dksX6_look_1 2 rfl rfl)
theorem dX6_look_27 : decode cX6_look 27 = .ok (.aload_n 0, 1) := dk_42 (dk_at dksX6_look_1 4 rfl rfl)
theorem dX6_look_28 : decode cX6_look 28 = .ok (.invokevirtual 116, 3) := dk_182 0 116 (dk_at dksX6_look_1 5 rfl rfl)
theorem dX6_look_31 : decode cX6_look 31 = .ok (.if_icmp .ge 39, 3) := dk_162 0 39 (dk_at dksX6_look_1 8 rfl rfl)
theorem dX6_look_34 : decode cX6_look 34 = .ok (.iload_n 2, 1) := dk_28 (dk_at dksX6_look_1 11 rfl rfl)
theorem dX6_look_35 : decode cX6_look 35 = .ok (.ifCond .eq 35, 3) := dk_153 0 35 (dk_at dksX6_look_1 12 rfl rfl)
theorem dX6_look_38 : decode cX6_look 38 = .ok (.aload_n 0, 1) := dk_42 (dk_at dksX6_look_1 15 rfl rfl)
theorem dX6_look_39 : decode cX6_look 39 = .ok (.iload_n 2, 1) := dk_28 (dk_at dksX6_look_1 16 rfl rfl)
theorem dX6_look_40 : decode cX6_look 40 = .ok (.iload 5, 2) := dk_21 5 (dk_at dksX6_look_1 17 rfl rfl)
theorem dX6_look_42 : decode cX6_look 42 = .ok (.invokevirtual 455, 3) := dk_182 1 199 (dk_at dksX6_look_1 19 rfl rfl)
theorem dX6_look_45 : decode cX6_look 45 = .ok (.istore 6, 2) := dk_54 6 (dk_at dksX6_look_1 22 rfl rfl)
theorem dX6_look_47 : decode cX6_look 47 = .ok (.iload 6, 2) := dk_21 6 (dk_at dksX6_look_2 0 rfl rfl)
theorem dX6_look_49 : decode cX6_look 49 = .ok (.iload 4, 2) := dk_21 4 (dk_at dksX6_look_2 2 rfl rfl)
theorem dX6_look_51 : decode cX6_look 51 = .ok (.if_icmp .lt 6, 3) := dk_161 0 6 (dk_at dksX6_look_2 4 rfl rfl)
theorem dX6_look_54 : decode cX6_look 54 = .ok (.goto 10, 3) := dk_167 0 10 (dk_at dksX6_look_2 7 rfl rfl)
theorem dX6_look_57 : decode cX6_look 57 = .ok (.iload 6, 2) := dk_21 6 (dk_at dksX6_look_2 10 rfl rfl)
theorem dX6_look_59 : decode cX6_look 59 = .ok (.istore 4, 2) := dk_54 4 (dk_at dksX6_look_2 12 rfl rfl)
theorem dX6_look_61 : decode cX6_look 61 = .ok (.iload 5, 2) := dk_21 5 (dk_at dksX6_look_2 14 rfl rfl)
theorem dX6_look_63 : decode cX6_look 63 = .ok (.istore_n 3, 1) := dk_62 (dk_at dksX6_look_2 16 rfl rfl)
theorem dX6_look_64 : decode cX6_look 64 = .ok (.iinc 5 1, 3) := dk_132 5 1 (dk_at dksX6_look_2 17 rfl rfl)
theorem dX6_look_67 : decode cX6_look 67 = .ok (.goto (-42), 3) := dk_167 255 214 (dk_at dksX6_look_2 20 rfl rfl)
theorem dX6_look_70 : decode cX6_look 70 = .ok (.iload_n 3, 1) := dk_29 (dk_at dksX6_look_2 23 rfl rfl)
theorem dX6_look_71 : decode cX6_look 71 = .ok (.iconst (-1), 1) := dk_2 (dk_at dksX6_look_3 0 rfl rfl)
theorem dX6_look_72 : decode cX6_look 72 = .ok (.if_icmp .eq 7, 3) := dk_159 0 7 (dk_at dksX6_look_3 1 rfl rfl)
theorem dX6_look_75 : decode cX6_look 75 = .ok (.iload_n 1, 1) := dk_27 (dk_at dksX6_look_3 4 rfl rfl)
theorem dX6_look_76 : decode cX6_look 76 = .ok (.ifCond .ne 7, 3) := dk_154 0 7 (dk_at dksX6_look_3 5 rfl rfl)
theorem dX6_look_79 : decode cX6_look 79 = .ok (.iload_n 3, 1) := dk_29 (dk_at dksX6_look_3 8 rfl rfl)
theorem dX6_look_80 : decode cX6_look 80 = .ok (.goto 5, 3) := dk_167 0 5 (dk_at dksX6_look_3 9 rfl rfl)
theorem dX6_look_83 : decode cX6_look 83 = .ok (.iload 4, 2) := dk_21 4 (dk_at dksX6_look_3 12 rfl rfl)
theorem dX6_look_85 : decode cX6_look 85 = .ok (.ireturn, 1) := dk_172 (dk_at dksX6_look_3 14 rfl rfl)
abbrev cX6_mostAlike : ByteArray := prog_24_method_125_code
def yX6_mostAlike : MethodName := ⟨RX6, "mostAlike", "(II)I"⟩
def dkwX6_mostAlike_4 : List UInt8 := [184, 1, 90, 167, 0, 4, 29, 62, 132, 4, 1, 167, 255, 157, 29, 172]
abbrev dktX6_mostAlike_4 : List UInt8 := dkwX6_mostAlike_4 ++ []
def dkwX6_mostAlike_3 : List UInt8 := [3, 96, 54, 5, 132, 6, 1, 167, 255, 198, 27, 21, 4, 184, 0, 119, 153, 0, 12, 29, 21, 5]
abbrev dktX6_mostAlike_3 : List UInt8 := dkwX6_mostAlike_3 ++ dktX6_mostAlike_4
def dkwX6_mostAlike_2 : List UInt8 := [104, 21, 4, 96, 46, 42, 180, 0, 86, 16, 8, 28, 104, 21, 6, 96, 46, 160, 0, 7, 4, 167, 0, 4]
abbrev dktX6_mostAlike_2 : List UInt8 := dkwX6_mostAlike_2 ++ dktX6_mostAlike_3
def dkwX6_mostAlike_1 : List UInt8 := [182, 0, 112, 162, 0, 55, 21, 5, 27, 21, 6, 184, 0, 119, 153, 0, 34, 42, 180, 0, 86, 16, 8, 28]
abbrev dktX6_mostAlike_1 : List UInt8 := dkwX6_mostAlike_1 ++ dktX6_mostAlike_2
def dkwX6_mostAlike_0 : List UInt8 := [3, 62, 3, 54, 4, 21, 4, 42, 182, 0, 112, 162, 0, 96, 3, 54, 5, 3, 54, 6, 21, 6, 42]
abbrev dktX6_mostAlike_0 : List UInt8 := dkwX6_mostAlike_0 ++ dktX6_mostAlike_1
theorem dksX6_mostAlike_0 : cX6_mostAlike.data.toList.drop 0 = dktX6_mostAlike_0 := by decide +kernel
theorem dksX6_mostAlike_1 : cX6_mostAlike.data.toList.drop 23 = dktX6_mostAlike_1 := dk_seg dksX6_mostAlike_0 23 rfl rfl
theorem dksX6_mostAlike_2 : cX6_mostAlike.data.toList.drop 47 = dktX6_mostAlike_2 := dk_seg dksX6_mostAlike_1 24 rfl rfl
theorem dksX6_mostAlike_3 : cX6_mostAlike.data.toList.drop 71 = dktX6_mostAlike_3 := dk_seg dksX6_mostAlike_2 24 rfl rfl
theorem dksX6_mostAlike_4 : cX6_mostAlike.data.toList.drop 93 = dktX6_mostAlike_4 := dk_seg dksX6_mostAlike_3 22 rfl rfl
theorem dX6_mostAlike_0 : decode cX6_mostAlike 0 = .ok (.iconst 0, 1) := dk_3 (dk_at dksX6_mostAlike_0 0 rfl rfl)
theorem dX6_mostAlike_1 : decode cX6_mostAlike 1 = .ok (.istore_n 3, 1) := dk_62 (dk_at dksX6_mostAlike_0 1 rfl rfl)
theorem dX6_mostAlike_2 : decode cX6_mostAlike 2 = .ok (.iconst 0, 1) := dk_3 (dk_at dksX6_mostAlike_0 2 rfl rfl)
theorem dX6_mostAlike_3 : decode cX6_mostAlike 3 = .ok (.istore 4, 2) := dk_54 4 (dk_at dksX6_mostAlike_0 3 rfl rfl)
theorem dX6_mostAlike_5 : decode cX6_mostAlike 5 = .ok (.iload 4, 2) := dk_21 4 (dk_at dksX6_mostAlike_0 5 rfl rfl)
theorem dX6_mostAlike_7 : decode cX6_mostAlike 7 = .ok (.aload_n 0, 1) := dk_42 (dk_at dksX6_mostAlike_0 7 rfl rfl)
theorem dX6_mostAlike_8 : decode cX6_mostAlike 8 = .ok (.invokevirtual 112, 3) := dk_182 0 112 (dk_at dksX6_mostAlike_0 8 rfl rfl)
theorem dX6_mostAlike_11 : decode cX6_mostAlike 11 = .ok (.if_icmp .ge 96, 3) := dk_162 0 96 (dk_at dksX6_mostAlike_0 11 rfl rfl)
theorem dX6_mostAlike_14 : decode cX6_mostAlike 14 = .ok (.iconst 0, 1) := dk_3 (dk_at dksX6_mostAlike_0 14 rfl rfl)
theorem dX6_mostAlike_15 : decode cX6_mostAlike 15 = .ok (.istore 5, 2) := dk_54 5 (dk_at dksX6_mostAlike_0 15 rfl rfl)
theorem dX6_mostAlike_17 : decode cX6_mostAlike 17 = .ok (.iconst 0, 1) := dk_3 (dk_at dksX6_mostAlike_0 17 rfl rfl)
theorem dX6_mostAlike_18 : decode cX6_mostAlike 18 = .ok (.istore 6, 2) := dk_54 6 (dk_at dksX6_mostAlike_0 18 rfl rfl)
theorem dX6_mostAlike_20 : decode cX6_mostAlike 20 = .ok (.iload 6, 2) := dk_21 6 (dk_at dksX6_mostAlike_0 20 rfl rfl)
theorem dX6_mostAlike_22 : decode cX6_mostAlike 22 = .ok (.aload_n 0, 1) := dk_42 (dk_at dksX6_mostAlike_0 22 rfl rfl)
theorem dX6_mostAlike_23 : decode cX6_mostAlike 23 = .ok (.invokevirtual 112, 3) := dk_182 0 112 (dk_at dksX6_mostAlike_1 0 rfl rfl)
theorem dX6_mostAlike_26 : decode cX6_mostAlike 26 = .ok (.if_icmp .ge 55, 3) := dk_162 0 55 (dk_at dksX6_mostAlike_1 3 rfl rfl)
theorem dX6_mostAlike_29 : decode cX6_mostAlike 29 = .ok (.iload 5, 2) := dk_21 5 (dk_at dksX6_mostAlike_1 6 rfl rfl)
theorem dX6_mostAlike_31 : decode cX6_mostAlike 31 = .ok (.iload_n 1, 1) := dk_27 (dk_at dksX6_mostAlike_1 8 rfl rfl)
theorem dX6_mostAlike_32 : decode cX6_mostAlike 32 = .ok (.iload 6, 2) := dk_21 6 (dk_at dksX6_mostAlike_1 9 rfl rfl)
theorem dX6_mostAlike_34 : decode cX6_mostAlike 34 = .ok (.invokestatic 119, 3) := dk_184 0 119 (dk_at dksX6_mostAlike_1 11 rfl rfl)
theorem dX6_mostAlike_37 : decode cX6_mostAlike 37 = .ok (.ifCond .eq 34, 3) := dk_153 0 34 (dk_at dksX6_mostAlike_1 14 rfl rfl)
theorem dX6_mostAlike_40 : decode cX6_mostAlike 40 = .ok (.aload_n 0, 1) := dk_42 (dk_at dksX6_mostAlike_1 17 rfl rfl)
theorem dX6_mostAlike_41 : decode cX6_mostAlike 41 = .ok (.getfield 86, 3) := dk_180 0 86 (dk_at dksX6_mostAlike_1 18 rfl rfl)
theorem dX6_mostAlike_44 : decode cX6_mostAlike 44 = .ok (.bipush 8, 2) := dk_16 8 (dk_at dksX6_mostAlike_1 21 rfl rfl)
theorem dX6_mostAlike_46 : decode cX6_mostAlike 46 = .ok (.iload_n 2, 1) := dk_28 (dk_at dksX6_mostAlike_1 23 rfl rfl)
theorem dX6_mostAlike_47 : decode cX6_mostAlike 47 = .ok (.imul, 1) := dk_104 (dk_at dksX6_mostAlike_2 0 rfl rfl)
theorem dX6_mostAlike_48 : decode cX6_mostAlike 48 = .ok (.iload 4, 2) := dk_21 4 (dk_at dksX6_mostAlike_2 1 rfl rfl)
theorem dX6_mostAlike_50 : decode cX6_mostAlike 50 = .ok (.iadd, 1) := dk_96 (dk_at dksX6_mostAlike_2 3 rfl rfl)
theorem dX6_mostAlike_51 : decode cX6_mostAlike 51 = .ok (.iaload, 1) := dk_46 (dk_at dksX6_mostAlike_2 4 rfl rfl)
theorem dX6_mostAlike_52 : decode cX6_mostAlike 52 = .ok (.aload_n 0, 1) := dk_42 (dk_at dksX6_mostAlike_2 5 rfl rfl)
theorem dX6_mostAlike_53 : decode cX6_mostAlike 53 = .ok (.getfield 86, 3) := dk_180 0 86 (dk_at dksX6_mostAlike_2 6 rfl rfl)
theorem dX6_mostAlike_56 : decode cX6_mostAlike 56 = .ok (.bipush 8, 2) := dk_16 8 (dk_at dksX6_mostAlike_2 9 rfl rfl)
theorem dX6_mostAlike_58 : decode cX6_mostAlike 58 = .ok (.iload_n 2, 1) := dk_28 (dk_at dksX6_mostAlike_2 11 rfl rfl)
theorem dX6_mostAlike_59 : decode cX6_mostAlike 59 = .ok (.imul, 1) := dk_104 (dk_at dksX6_mostAlike_2 12 rfl rfl)
theorem dX6_mostAlike_60 : decode cX6_mostAlike 60 = .ok (.iload 6, 2) := dk_21 6 (dk_at dksX6_mostAlike_2 13 rfl rfl)
theorem dX6_mostAlike_62 : decode cX6_mostAlike 62 = .ok (.iadd, 1) := dk_96 (dk_at dksX6_mostAlike_2 15 rfl rfl)
theorem dX6_mostAlike_63 : decode cX6_mostAlike 63 = .ok (.iaload, 1) := dk_46 (dk_at dksX6_mostAlike_2 16 rfl rfl)
theorem dX6_mostAlike_64 : decode cX6_mostAlike 64 = .ok (.if_icmp .ne 7, 3) := dk_160 0 7 (dk_at dksX6_mostAlike_2 17 rfl rfl)
theorem dX6_mostAlike_67 : decode cX6_mostAlike 67 = .ok (.iconst 1, 1) := dk_4 (dk_at dksX6_mostAlike_2 20 rfl rfl)
theorem dX6_mostAlike_68 : decode cX6_mostAlike 68 = .ok (.goto 4, 3) := dk_167 0 4 (dk_at dksX6_mostAlike_2 21 rfl rfl)
theorem dX6_mostAlike_71 : decode cX6_mostAlike 71 = .ok (.iconst 0, 1) := dk_3 (dk_at dksX6_mostAlike_3 0 rfl rfl)
theorem dX6_mostAlike_72 : decode cX6_mostAlike 72 = .ok (.iadd, 1) := dk_96 (dk_at dksX6_mostAlike_3 1 rfl rfl)
theorem dX6_mostAlike_73 : decode cX6_mostAlike 73 = .ok (.istore 5, 2) := dk_54 5 (dk_at dksX6_mostAlike_3 2 rfl rfl)
theorem dX6_mostAlike_75 : decode cX6_mostAlike 75 = .ok (.iinc 6 1, 3) := dk_132 6 1 (dk_at dksX6_mostAlike_3 4 rfl rfl)
theorem dX6_mostAlike_78 : decode cX6_mostAlike 78 = .ok (.goto (-58), 3) := dk_167 255 198 (dk_at dksX6_mostAlike_3 7 rfl rfl)
theorem dX6_mostAlike_81 : decode cX6_mostAlike 81 = .ok (.iload_n 1, 1) := dk_27 (dk_at dksX6_mostAlike_3 10 rfl rfl)
theorem dX6_mostAlike_82 : decode cX6_mostAlike 82 = .ok (.iload 4, 2) := dk_21 4 (dk_at dksX6_mostAlike_3 11 rfl rfl)
theorem dX6_mostAlike_84 : decode cX6_mostAlike 84 = .ok (.invokestatic 119, 3) := dk_184 0 119 (dk_at dksX6_mostAlike_3 13 rfl rfl)
theorem dX6_mostAlike_87 : decode cX6_mostAlike 87 = .ok (.ifCond .eq 12, 3) := dk_153 0 12 (dk_at dksX6_mostAlike_3 16 rfl rfl)
theorem dX6_mostAlike_90 : decode cX6_mostAlike 90 = .ok (.iload_n 3, 1) := dk_29 (dk_at dksX6_mostAlike_3 19 rfl rfl)
theorem dX6_mostAlike_91 : decode cX6_mostAlike 91 = .ok (.iload 5, 2) := dk_21 5 (dk_at dksX6_mostAlike_3 20 rfl rfl)
theorem dX6_mostAlike_93 : decode cX6_mostAlike 93 = .ok (.invokestatic 346, 3) := dk_184 1 90 (dk_at dksX6_mostAlike_4 0 rfl rfl)
theorem dX6_mostAlike_96 : decode cX6_mostAlike 96 = .ok (.goto 4, 3) := dk_167 0 4 (dk_at dksX6_mostAlike_4 3 rfl rfl)
theorem dX6_mostAlike_99 : decode cX6_mostAlike 99 = .ok (.iload_n 3, 1) := dk_29 (dk_at dksX6_mostAlike_4 6 rfl rfl)
theorem dX6_mostAlike_100 : decode cX6_mostAlike 100 = .ok (.istore_n 3, 1) := dk_62 (dk_at dksX6_mostAlike_4 7 rfl rfl)
theorem dX6_mostAlike_101 : decode cX6_mostAlike 101 = .ok (.iinc 4 1, 3) := dk_132 4 1 (dk_at dksX6_mostAlike_4 8 rfl rfl)
theorem dX6_mostAlike_104 : decode cX6_mostAlike 104 = .ok (.goto (-99), 3) := dk_167 255 157 (dk_at dksX6_mostAlike_4 11 rfl rfl)
theorem dX6_mostAlike_107 : decode cX6_mostAlike 107 = .ok (.iload_n 3, 1) := dk_29 (dk_at dksX6_mostAlike_4 14 rfl rfl)
theorem dX6_mostAlike_108 : decode cX6_mostAlike 108 = .ok (.ireturn, 1) := dk_172 (dk_at dksX6_mostAlike_4 15 rfl rfl)
abbrev cX6_compare : ByteArray := prog_24_method_127_code
def yX6_compare : MethodName := ⟨RX6, "compare", "(III)I"⟩
def dkwX6_compare_2 : List UInt8 := [182, 0, 146, 54, 5, 42, 180, 0, 24, 16, 52, 21, 4, 79, 21, 5, 172]
abbrev dktX6_compare_2 : List UInt8 := dkwX6_compare_2 ++ []
def dkwX6_compare_1 : List UInt8 := [2, 172, 42, 180, 0, 24, 16, 52, 46, 54, 4, 42, 180, 0, 24, 16, 52, 27, 79, 42, 28, 29]
abbrev dktX6_compare_1 : List UInt8 := dkwX6_compare_1 ++ dktX6_compare_2
def dkwX6_compare_0 : List UInt8 := [42, 27, 182, 1, 6, 153, 0, 19, 42, 28, 182, 0, 143, 153, 0, 11, 42, 29, 182, 0, 130, 154, 0, 5]
abbrev dktX6_compare_0 : List UInt8 := dkwX6_compare_0 ++ dktX6_compare_1
theorem dksX6_compare_0 : cX6_compare.data.toList.drop 0 = dktX6_compare_0 := by decide +kernel
theorem dksX6_compare_1 : cX6_compare.data.toList.drop 24 = dktX6_compare_1 := dk_seg dksX6_compare_0 24 rfl rfl
theorem dksX6_compare_2 : cX6_compare.data.toList.drop 46 = dktX6_compare_2 := dk_seg dksX6_compare_1 22 rfl rfl
theorem dX6_compare_0 : decode cX6_compare 0 = .ok (.aload_n 0, 1) := dk_42 (dk_at dksX6_compare_0 0 rfl rfl)
theorem dX6_compare_1 : decode cX6_compare 1 = .ok (.iload_n 1, 1) := dk_27 (dk_at dksX6_compare_0 1 rfl rfl)
theorem dX6_compare_2 : decode cX6_compare 2 = .ok (.invokevirtual 262, 3) := dk_182 1 6 (dk_at dksX6_compare_0 2 rfl rfl)
theorem dX6_compare_5 : decode cX6_compare 5 = .ok (.ifCond .eq 19, 3) := dk_153 0 19 (dk_at dksX6_compare_0 5 rfl rfl)
theorem dX6_compare_8 : decode cX6_compare 8 = .ok (.aload_n 0, 1) := dk_42 (dk_at dksX6_compare_0 8 rfl rfl)
theorem dX6_compare_9 : decode cX6_compare 9 = .ok (.iload_n 2, 1) := dk_28 (dk_at dksX6_compare_0 9 rfl rfl)
theorem dX6_compare_10 : decode cX6_compare 10 = .ok (.invokevirtual 143, 3) := dk_182 0 143 (dk_at dksX6_compare_0 10 rfl rfl)
theorem dX6_compare_13 : decode cX6_compare 13 = .ok (.ifCond .eq 11, 3) := dk_153 0 11 (dk_at dksX6_compare_0 13 rfl rfl)
theorem dX6_compare_16 : decode cX6_compare 16 = .ok (.aload_n 0, 1) := dk_42 (dk_at dksX6_compare_0 16 rfl rfl)
theorem dX6_compare_17 : decode cX6_compare 17 = .ok (.iload_n 3, 1) := dk_29 (dk_at dksX6_compare_0 17 rfl rfl)
theorem dX6_compare_18 : decode cX6_compare 18 = .ok (.invokevirtual 130, 3) := dk_182 0 130 (dk_at dksX6_compare_0 18 rfl rfl)
theorem dX6_compare_21 : decode cX6_compare 21 = .ok (.ifCond .ne 5, 3) := dk_154 0 5 (dk_at dksX6_compare_0 21 rfl rfl)
theorem dX6_compare_24 : decode cX6_compare 24 = .ok (.iconst (-1), 1) := dk_2 (dk_at dksX6_compare_1 0 rfl rfl)
theorem dX6_compare_25 : decode cX6_compare 25 = .ok (.ireturn, 1) := dk_172 (dk_at dksX6_compare_1 1 rfl rfl)
theorem dX6_compare_26 : decode cX6_compare 26 = .ok (.aload_n 0, 1) := dk_42 (dk_at dksX6_compare_1 2 rfl rfl)
theorem dX6_compare_27 : decode cX6_compare 27 = .ok (.getfield 24, 3) := dk_180 0 24 (dk_at dksX6_compare_1 3 rfl rfl)
theorem dX6_compare_30 : decode cX6_compare 30 = .ok (.bipush 52, 2) := dk_16 52 (dk_at dksX6_compare_1 6 rfl rfl)
theorem dX6_compare_32 : decode cX6_compare 32 = .ok (.iaload, 1) := dk_46 (dk_at dksX6_compare_1 8 rfl rfl)
theorem dX6_compare_33 : decode cX6_compare 33 = .ok (.istore 4, 2) := dk_54 4 (dk_at dksX6_compare_1 9 rfl rfl)
theorem dX6_compare_35 : decode cX6_compare 35 = .ok (.aload_n 0, 1) := dk_42 (dk_at dksX6_compare_1 11 rfl rfl)
theorem dX6_compare_36 : decode cX6_compare 36 = .ok (.getfield 24, 3) := dk_180 0 24 (dk_at dksX6_compare_1 12 rfl rfl)
theorem dX6_compare_39 : decode cX6_compare 39 = .ok (.bipush 52, 2) := dk_16 52 (dk_at dksX6_compare_1 15 rfl rfl)
theorem dX6_compare_41 : decode cX6_compare 41 = .ok (.iload_n 1, 1) := dk_27 (dk_at dksX6_compare_1 17 rfl rfl)
theorem dX6_compare_42 : decode cX6_compare 42 = .ok (.iastore, 1) := dk_79 (dk_at dksX6_compare_1 18 rfl rfl)
theorem dX6_compare_43 : decode cX6_compare 43 = .ok (.aload_n 0, 1) := dk_42 (dk_at dksX6_compare_1 19 rfl rfl)
theorem dX6_compare_44 : decode cX6_compare 44 = .ok (.iload_n 2, 1) := dk_28 (dk_at dksX6_compare_1 20 rfl rfl)
theorem dX6_compare_45 : decode cX6_compare 45 = .ok (.iload_n 3, 1) := dk_29 (dk_at dksX6_compare_1 21 rfl rfl)
theorem dX6_compare_46 : decode cX6_compare 46 = .ok (.invokevirtual 146, 3) := dk_182 0 146 (dk_at dksX6_compare_2 0 rfl rfl)
theorem dX6_compare_49 : decode cX6_compare 49 = .ok (.istore 5, 2) := dk_54 5 (dk_at dksX6_compare_2 3 rfl rfl)
theorem dX6_compare_51 : decode cX6_compare 51 = .ok (.aload_n 0, 1) := dk_42 (dk_at dksX6_compare_2 5 rfl rfl)
theorem dX6_compare_52 : decode cX6_compare 52 = .ok (.getfield 24, 3) := dk_180 0 24 (dk_at dksX6_compare_2 6 rfl rfl)
theorem dX6_compare_55 : decode cX6_compare 55 = .ok (.bipush 52, 2) := dk_16 52 (dk_at dksX6_compare_2 9 rfl rfl)
theorem dX6_compare_57 : decode cX6_compare 57 = .ok (.iload 4, 2) := dk_21 4 (dk_at dksX6_compare_2 11 rfl rfl)
theorem dX6_compare_59 : decode cX6_compare 59 = .ok (.iastore, 1) := dk_79 (dk_at dksX6_compare_2 13 rfl rfl)
theorem dX6_compare_60 : decode cX6_compare 60 = .ok (.iload 5, 2) := dk_21 5 (dk_at dksX6_compare_2 14 rfl rfl)
theorem dX6_compare_62 : decode cX6_compare 62 = .ok (.ireturn, 1) := dk_172 (dk_at dksX6_compare_2 16 rfl rfl)
abbrev cX6_few : ByteArray := prog_24_method_128_code
def yX6_few : MethodName := ⟨RX6, "few", "(II)J"⟩
def dkwX6_few_7 : List UInt8 := [132, 5, 1, 167, 255, 237, 33, 173]
abbrev dktX6_few_7 : List UInt8 := dkwX6_few_7 ++ []
def dkwX6_few_6 : List UInt8 := [167, 255, 170, 9, 66, 3, 54, 5, 21, 5, 27, 162, 0, 19, 33, 42, 180, 0, 89, 21, 5, 47, 97, 66]
abbrev dktX6_few_6 : List UInt8 := dkwX6_few_6 ++ dktX6_few_7
def dkwX6_few_5 : List UInt8 := [180, 0, 24, 16, 46, 46, 100, 133, 105, 20, 1, 206, 109, 80, 132, 4, 255, 167, 255, 186, 132, 3, 1]
abbrev dktX6_few_5 : List UInt8 := dkwX6_few_5 ++ dktX6_few_6
def dkwX6_few_4 : List UInt8 := [133, 105, 20, 1, 206, 109, 97, 80, 42, 180, 0, 89, 21, 4, 42, 180, 0, 89, 21, 4, 47, 16, 10, 42]
abbrev dktX6_few_4 : List UInt8 := dkwX6_few_4 ++ dktX6_few_5
def dkwX6_few_3 : List UInt8 := [42, 180, 0, 89, 21, 4, 4, 96, 92, 47, 42, 180, 0, 89, 21, 4, 47, 42, 180, 0, 24, 16, 46, 46]
abbrev dktX6_few_3 : List UInt8 := dkwX6_few_3 ++ dktX6_few_4
def dkwX6_few_2 : List UInt8 := [80, 132, 3, 1, 167, 255, 230, 3, 62, 29, 28, 162, 0, 87, 27, 4, 100, 54, 4, 21, 4, 155, 0, 71]
abbrev dktX6_few_2 : List UInt8 := dkwX6_few_2 ++ dktX6_few_3
def dkwX6_few_1 : List UInt8 := [3, 62, 29, 16, 20, 163, 0, 26, 42, 180, 0, 89, 29, 29, 154, 0, 9, 20, 1, 204, 167, 0, 4, 9]
abbrev dktX6_few_1 : List UInt8 := dkwX6_few_1 ++ dktX6_few_2
def dkwX6_few_0 : List UInt8 := [27, 4, 16, 20, 184, 0, 102, 153, 0, 13, 28, 3, 16, 99, 184, 0, 102, 154, 0, 7, 20, 1, 202, 173]
abbrev dktX6_few_0 : List UInt8 := dkwX6_few_0 ++ dktX6_few_1
theorem dksX6_few_0 : cX6_few.data.toList.drop 0 = dktX6_few_0 := by decide +kernel
theorem dksX6_few_1 : cX6_few.data.toList.drop 24 = dktX6_few_1 := dk_seg dksX6_few_0 24 rfl rfl
theorem dksX6_few_2 : cX6_few.data.toList.drop 48 = dktX6_few_2 := dk_seg dksX6_few_1 24 rfl rfl
theorem dksX6_few_3 : cX6_few.data.toList.drop 72 = dktX6_few_3 := dk_seg dksX6_few_2 24 rfl rfl
theorem dksX6_few_4 : cX6_few.data.toList.drop 96 = dktX6_few_4 := dk_seg dksX6_few_3 24 rfl rfl
theorem dksX6_few_5 : cX6_few.data.toList.drop 120 = dktX6_few_5 := dk_seg dksX6_few_4 24 rfl rfl
theorem dksX6_few_6 : cX6_few.data.toList.drop 143 = dktX6_few_6 := dk_seg dksX6_few_5 23 rfl rfl
theorem dksX6_few_7 : cX6_few.data.toList.drop 167 = dktX6_few_7 := dk_seg dksX6_few_6 24 rfl rfl
theorem dX6_few_0 : decode cX6_few 0 = .ok (.iload_n 1, 1) := dk_27 (dk_at dksX6_few_0 0 rfl rfl)
theorem dX6_few_1 : decode cX6_few 1 = .ok (.iconst 1, 1) := dk_4 (dk_at dksX6_few_0 1 rfl rfl)
theorem dX6_few_2 : decode cX6_few 2 = .ok (.bipush 20, 2) := dk_16 20 (dk_at dksX6_few_0 2 rfl rfl)
theorem dX6_few_4 : decode cX6_few 4 = .ok (.invokestatic 102, 3) := dk_184 0 102 (dk_at dksX6_few_0 4 rfl rfl)
theorem dX6_few_7 : decode cX6_few 7 = .ok (.ifCond .eq 13, 3) := dk_153 0 13 (dk_at dksX6_few_0 7 rfl rfl)
theorem dX6_few_10 : decode cX6_few 10 = .ok (.iload_n 2, 1) := dk_28 (dk_at dksX6_few_0 10 rfl rfl)
theorem dX6_few_11 : decode cX6_few 11 = .ok (.iconst 0, 1) := dk_3 (dk_at dksX6_few_0 11 rfl rfl)
theorem dX6_few_12 : decode cX6_few 12 = .ok (.bipush 99, 2) := dk_16 99 (dk_at dksX6_few_0 12 rfl rfl)
theorem dX6_few_14 : decode cX6_few 14 = .ok (.invokestatic 102, 3) := dk_184 0 102 (dk_at dksX6_few_0 14 rfl rfl)
theorem dX6_few_17 : decode cX6_few 17 = .ok (.ifCond .ne 7, 3) := dk_154 0 7 (dk_at dksX6_few_0 17 rfl rfl)
theorem dX6_few_20 : decode cX6_few 20 = .ok (.ldc2_w 458, 3) := dk_20 1 202 (dk_at dksX6_few_0 20 rfl rfl)
theorem dX6_few_23 : decode cX6_few 23 = .ok (.lreturn, 1) := dk_173 (dk_at dksX6_few_0 23 rfl rfl)
theorem dX6_few_24 : decode cX6_few 24 = .ok (.iconst 0, 1) := dk_3 (dk_at dksX6_few_1 0 rfl rfl)
theorem dX6_few_25 : decode cX6_few 25 = .ok (.istore_n 3, 1) := dk_62 (dk_at dksX6_few_1 1 rfl rfl)
theorem dX6_few_26 : decode cX6_few 26 = .ok (.iload_n 3, 1) := dk_29 (dk_at dksX6_few_1 2 rfl rfl)
theorem dX6_few_27 : decode cX6_few 27 = .ok (.bipush 20, 2) := dk_16 20 (dk_at dksX6_few_1 3 rfl rfl)
theorem dX6_few_29 : decode cX6_few 29 = .ok (.if_icmp .gt 26, 3) := dk_163 0 26 (dk_at dksX6_few_1 5 rfl rfl)
theorem dX6_few_32 : decode cX6_few 32 = .ok (.aload_n 0, 1) := dk_42 (dk_at dksX6_few_1 8 rfl rfl)
theorem dX6_few_33 : decode cX6_few 33 = .ok (.getfield 89, 3) := dk_180 0 89 (dk_at dksX6_few_1 9 rfl rfl)
theorem dX6_few_36 : decode cX6_few 36 = .ok (.iload_n 3, 1) := dk_29 (dk_at dksX6_few_1 12 rfl rfl)
theorem dX6_few_37 : decode cX6_few 37 = .ok (.iload_n 3, 1) := dk_29 (dk_at dksX6_few_1 13 rfl rfl)
theorem dX6_few_38 : decode cX6_few 38 = .ok (.ifCond .ne 9, 3) := dk_154 0 9 (dk_at dksX6_few_1 14 rfl rfl)
theorem dX6_few_41 : decode cX6_few 41 = .ok (.ldc2_w 460, 3) := dk_20 1 204 (dk_at dksX6_few_1 17 rfl rfl)
theorem dX6_few_44 : decode cX6_few 44 = .ok (.goto 4, 3) := dk_167 0 4 (dk_at dksX6_few_1 20 rfl rfl)
theorem dX6_few_47 : decode cX6_few 47 = .ok (.lconst 0, 1) := dk_9 (dk_at dksX6_few_1 23 rfl rfl)
theorem dX6_few_48 : decode cX6_few 48 = .ok (.lastore, 1) := dk_80 (dk_at dksX6_few_2 0 rfl rfl)
theorem dX6_few_49 : decode cX6_few 49 = .ok (.iinc 3 1, 3) := dk_132 3 1 (dk_at dksX6_few_2 1 rfl rfl)
theorem dX6_few_52 : decode cX6_few 52 = .ok (.goto (-26), 3) := dk_167 255 230 (dk_at dksX6_few_2 4 rfl rfl)
theorem dX6_few_55 : decode cX6_few 55 = .ok (.iconst 0, 1) := dk_3 (dk_at dksX6_few_2 7 rfl rfl)
theorem dX6_few_56 : decode cX6_few 56 = .ok (.istore_n 3, 1) := dk_62 (dk_at dksX6_few_2 8 rfl rfl)
theorem dX6_few_57 : decode cX6_few 57 = .ok (.iload_n 3, 1) := dk_29 (dk_at dksX6_few_2 9 rfl rfl)
theorem dX6_few_58 : decode cX6_few 58 = .ok (.iload_n 2, 1) := dk_28 (dk_at dksX6_few_2 10 rfl rfl)
theorem dX6_few_59 : decode cX6_few 59 = .ok (.if_icmp .ge 87, 3) := dk_162 0 87 (dk_at dksX6_few_2 11 rfl rfl)
theorem dX6_few_62 : decode cX6_few 62 = .ok (.iload_n 1, 1) := dk_27 (dk_at dksX6_few_2 14 rfl rfl)
theorem dX6_few_63 : decode cX6_few 63 = .ok (.iconst 1, 1) := dk_4 (dk_at dksX6_few_2 15 rfl rfl)
theorem dX6_few_64 : decode cX6_few 64 = .ok (.isub, 1) := dk_100 (dk_at dksX6_few_2 16 rfl rfl)
theorem dX6_few_65 : decode cX6_few 65 = .ok (.istore 4, 2) := dk_54 4 (dk_at dksX6_few_2 17 rfl rfl)
theorem dX6_few_67 : decode cX6_few 67 = .ok (.iload 4, 2) := dk_21 4 (dk_at dksX6_few_2 19 rfl rfl)
theorem dX6_few_69 : decode cX6_few 69 = .ok (.ifCond .lt 71, 3) := dk_155 0 71 (dk_at dksX6_few_2 21 rfl rfl)
theorem dX6_few_72 : decode cX6_few 72 = .ok (.aload_n 0, 1) := dk_42 (dk_at dksX6_few_3 0 rfl rfl)
theorem dX6_few_73 : decode cX6_few 73 = .ok (.getfield 89, 3) := dk_180 0 89 (dk_at dksX6_few_3 1 rfl rfl)
theorem dX6_few_76 : decode cX6_few 76 = .ok (.iload 4, 2) := dk_21 4 (dk_at dksX6_few_3 4 rfl rfl)
theorem dX6_few_78 : decode cX6_few 78 = .ok (.iconst 1, 1) := dk_4 (dk_at dksX6_few_3 6 rfl rfl)
theorem dX6_few_79 : decode cX6_few 79 = .ok (.iadd, 1) := dk_96 (dk_at dksX6_few_3 7 rfl rfl)
theorem dX6_few_80 : decode cX6_few 80 = .ok (.dup2, 1) := dk_92 (dk_at dksX6_few_3 8 rfl rfl)
theorem dX6_few_81 : decode cX6_few 81 = .ok (.laload, 1) := dk_47 (dk_at dksX6_few_3 9 rfl rfl)
theorem dX6_few_82 : decode cX6_few 82 = .ok (.aload_n 0, 1) := dk_42 (dk_at dksX6_few_3 10 rfl rfl)
theorem dX6_few_83 : decode cX6_few 83 = .ok (.getfield 89, 3) := dk_180 0 89 (dk_at dksX6_few_3 11 rfl rfl)
theorem dX6_few_86 : decode cX6_few 86 = .ok (.iload 4, 2) := dk_21 4 (dk_at dksX6_few_3 14 rfl rfl)
theorem dX6_few_88 : decode cX6_few 88 = .ok (.laload, 1) := dk_47 (dk_at dksX6_few_3 16 rfl rfl)
theorem dX6_few_89 : decode cX6_few 89 = .ok (.aload_n 0, 1) := dk_42 (dk_at dksX6_few_3 17 rfl rfl)
theorem dX6_few_90 : decode cX6_few 90 = .ok (.getfield 24, 3) := dk_180 0 24 (dk_at dksX6_few_3 18 rfl rfl)
theorem dX6_few_93 : decode cX6_few 93 = .ok (.bipush 46, 2) := dk_16 46 (dk_at dksX6_few_3 21 rfl rfl)
theorem dX6_few_95 : decode cX6_few 95 = .ok (.iaload, 1) := dk_46 (dk_at dksX6_few_3 23 rfl rfl)
theorem dX6_few_96 : decode cX6_few 96 = .ok (.i2l, 1) := dk_133 (dk_at dksX6_few_4 0 rfl rfl)
theorem dX6_few_97 : decode cX6_few 97 = .ok (.lmul, 1) := dk_105 (dk_at dksX6_few_4 1 rfl rfl)
theorem dX6_few_98 : decode cX6_few 98 = .ok (.ldc2_w 462, 3) := dk_20 1 206 (dk_at dksX6_few_4 2 rfl rfl)
theorem dX6_few_101 : decode cX6_few 101 = .ok (.ldiv, 1) := dk_109 (dk_at dksX6_few_4 5 rfl rfl)
theorem dX6_few_102 : decode cX6_few 102 = .ok (.ladd, 1) := dk_97 (dk_at dksX6_few_4 6 rfl rfl)
theorem dX6_few_103 : decode cX6_few 103 = .ok (.lastore, 1) := dk_80 (dk_at dksX6_few_4 7 rfl rfl)
theorem dX6_few_104 : decode cX6_few 104 = .ok (.aload_n 0, 1) := dk_42 (dk_at dksX6_few_4 8 rfl rfl)
theorem dX6_few_105 : decode cX6_few 105 = .ok (.getfield 89, 3) := dk_180 0 89 (dk_at dksX6_few_4 9 rfl rfl)
theorem dX6_few_108 : decode cX6_few 108 = .ok (.iload 4, 2) := dk_21 4 (dk_at dksX6_few_4 12 rfl rfl)
theorem dX6_few_110 : decode cX6_few 110 = .ok (.aload_n 0, 1) := dk_42 (dk_at dksX6_few_4 14 rfl rfl)
theorem dX6_few_111 : decode cX6_few 111 = .ok (.getfield 89, 3) := dk_180 0 89 (dk_at dksX6_few_4 15 rfl rfl)
theorem dX6_few_114 : decode cX6_few 114 = .ok (.iload 4, 2) := dk_21 4 (dk_at dksX6_few_4 18 rfl rfl)
theorem dX6_few_116 : decode cX6_few 116 = .ok (.laload, 1) := dk_47 (dk_at dksX6_few_4 20 rfl rfl)
theorem dX6_few_117 : decode cX6_few 117 = .ok (.bipush 10, 2) := dk_16 10 (dk_at dksX6_few_4 21 rfl rfl)
theorem dX6_few_119 : decode cX6_few 119 = .ok (.aload_n 0, 1) := dk_42 (dk_at dksX6_few_4 23 rfl rfl)
theorem dX6_few_120 : decode cX6_few 120 = .ok (.getfield 24, 3) := dk_180 0 24 (dk_at dksX6_few_5 0 rfl rfl)
theorem dX6_few_123 : decode cX6_few 123 = .ok (.bipush 46, 2) := dk_16 46 (dk_at dksX6_few_5 3 rfl rfl)
theorem dX6_few_125 : decode cX6_few 125 = .ok (.iaload, 1) := dk_46 (dk_at dksX6_few_5 5 rfl rfl)
theorem dX6_few_126 : decode cX6_few 126 = .ok (.isub, 1) := dk_100 (dk_at dksX6_few_5 6 rfl rfl)
theorem dX6_few_127 : decode cX6_few 127 = .ok (.i2l, 1) := dk_133 (dk_at dksX6_few_5 7 rfl rfl)
theorem dX6_few_128 : decode cX6_few 128 = .ok (.lmul, 1) := dk_105 (dk_at dksX6_few_5 8 rfl rfl)
theorem dX6_few_129 : decode cX6_few 129 = .ok (.ldc2_w 462, 3) := dk_20 1 206 (dk_at dksX6_few_5 9 rfl rfl)
theorem dX6_few_132 : decode cX6_few 132 = .ok (.ldiv, 1) := dk_109 (dk_at dksX6_few_5 12 rfl rfl)
theorem dX6_few_133 : decode cX6_few 133 = .ok (.lastore, 1) := dk_80 (dk_at dksX6_few_5 13 rfl rfl)
theorem dX6_few_134 : decode cX6_few 134 = .ok (.iinc 4 (-1), 3) := dk_132 4 255 (dk_at dksX6_few_5 14 rfl rfl)
theorem dX6_few_137 : decode cX6_few 137 = .ok (.goto (-70), 3) := dk_167 255 186 (dk_at dksX6_few_5 17 rfl rfl)
theorem dX6_few_140 : decode cX6_few 140 = .ok (.iinc 3 1, 3) := dk_132 3 1 (dk_at dksX6_few_5 20 rfl rfl)
theorem dX6_few_143 : decode cX6_few 143 = .ok (.goto (-86), 3) := dk_167 255 170 (dk_at dksX6_few_6 0 rfl rfl)
theorem dX6_few_146 : decode cX6_few 146 = .ok (.lconst 0, 1) := dk_9 (dk_at dksX6_few_6 3 rfl rfl)
theorem dX6_few_147 : decode cX6_few 147 = .ok (.lstore_n 3, 1) := dk_66 (dk_at dksX6_few_6 4 rfl rfl)
theorem dX6_few_148 : decode cX6_few 148 = .ok (.iconst 0, 1) := dk_3 (dk_at dksX6_few_6 5 rfl rfl)
theorem dX6_few_149 : decode cX6_few 149 = .ok (.istore 5, 2) := dk_54 5 (dk_at dksX6_few_6 6 rfl rfl)
theorem dX6_few_151 : decode cX6_few 151 = .ok (.iload 5, 2) := dk_21 5 (dk_at dksX6_few_6 8 rfl rfl)
theorem dX6_few_153 : decode cX6_few 153 = .ok (.iload_n 1, 1) := dk_27 (dk_at dksX6_few_6 10 rfl rfl)
theorem dX6_few_154 : decode cX6_few 154 = .ok (.if_icmp .ge 19, 3) := dk_162 0 19 (dk_at dksX6_few_6 11 rfl rfl)
theorem dX6_few_157 : decode cX6_few 157 = .ok (.lload_n 3, 1) := dk_33 (dk_at dksX6_few_6 14 rfl rfl)
theorem dX6_few_158 : decode cX6_few 158 = .ok (.aload_n 0, 1) := dk_42 (dk_at dksX6_few_6 15 rfl rfl)
theorem dX6_few_159 : decode cX6_few 159 = .ok (.getfield 89, 3) := dk_180 0 89 (dk_at dksX6_few_6 16 rfl rfl)
theorem dX6_few_162 : decode cX6_few 162 = .ok (.iload 5, 2) := dk_21 5 (dk_at dksX6_few_6 19 rfl rfl)
theorem dX6_few_164 : decode cX6_few 164 = .ok (.laload, 1) := dk_47 (dk_at dksX6_few_6 21 rfl rfl)
theorem dX6_few_165 : decode cX6_few 165 = .ok (.ladd, 1) := dk_97 (dk_at dksX6_few_6 22 rfl rfl)
theorem dX6_few_166 : decode cX6_few 166 = .ok (.lstore_n 3, 1) := dk_66 (dk_at dksX6_few_6 23 rfl rfl)
theorem dX6_few_167 : decode cX6_few 167 = .ok (.iinc 5 1, 3) := dk_132 5 1 (dk_at dksX6_few_7 0 rfl rfl)
theorem dX6_few_170 : decode cX6_few 170 = .ok (.goto (-19), 3) := dk_167 255 237 (dk_at dksX6_few_7 3 rfl rfl)
theorem dX6_few_173 : decode cX6_few 173 = .ok (.lload_n 3, 1) := dk_33 (dk_at dksX6_few_7 6 rfl rfl)
theorem dX6_few_174 : decode cX6_few 174 = .ok (.lreturn, 1) := dk_173 (dk_at dksX6_few_7 7 rfl rfl)
abbrev cX6_stopped : ByteArray := prog_24_method_129_code
def yX6_stopped : MethodName := ⟨RX6, "stopped", "()I"⟩
theorem dX6_stopped_0 : decode cX6_stopped 0 = .ok (.aload_n 0, 1) := by decide +kernel
theorem dX6_stopped_1 : decode cX6_stopped 1 = .ok (.getfield 93, 3) := by decide +kernel
theorem dX6_stopped_4 : decode cX6_stopped 4 = .ok (.ireturn, 1) := by decide +kernel
abbrev cX6_orders : ByteArray := prog_24_method_130_code
def yX6_orders : MethodName := ⟨RX6, "orders", "()I"⟩
def dkwX6_orders_7 : List UInt8 := [182, 0, 106, 172, 132, 3, 1, 167, 255, 182, 42, 42, 180, 1, 51, 182, 0, 14, 172]
abbrev dktX6_orders_7 : List UInt8 := dkwX6_orders_7 ++ []
def dkwX6_orders_6 : List UInt8 := [21, 4, 46, 79, 132, 4, 1, 167, 255, 232, 42, 27, 181, 0, 11, 42, 29, 181, 0, 93, 42, 16, 253]
abbrev dktX6_orders_6 : List UInt8 := dkwX6_orders_6 ++ dktX6_orders_7
def dkwX6_orders_5 : List UInt8 := [182, 1, 217, 3, 54, 4, 21, 4, 16, 112, 162, 0, 23, 42, 180, 0, 65, 21, 4, 42, 180, 0, 68]
abbrev dktX6_orders_5 : List UInt8 := dkwX6_orders_5 ++ dktX6_orders_6
def dkwX6_orders_4 : List UInt8 := [62, 42, 180, 1, 211, 28, 162, 0, 72, 42, 28, 182, 1, 214, 153, 0, 6, 167, 0, 55, 42, 4]
abbrev dktX6_orders_4 : List UInt8 := dkwX6_orders_4 ++ dktX6_orders_5
def dkwX6_orders_3 : List UInt8 := [181, 1, 54, 42, 17, 9, 96, 181, 1, 211, 42, 180, 1, 211, 42, 180, 0, 24, 16, 59, 46, 96, 61, 3]
abbrev dktX6_orders_3 : List UInt8 := dkwX6_orders_3 ++ dktX6_orders_4
def dkwX6_orders_2 : List UInt8 := [132, 1, 1, 167, 255, 235, 42, 180, 0, 11, 60, 42, 16, 6, 182, 1, 3, 42, 3, 181, 1, 51, 42, 2]
abbrev dktX6_orders_2 : List UInt8 := dkwX6_orders_2 ++ dktX6_orders_3
def dkwX6_orders_1 : List UInt8 := [182, 1, 208, 3, 60, 27, 16, 112, 162, 0, 21, 42, 180, 0, 68, 27, 42, 180, 0, 65, 27, 46, 79]
abbrev dktX6_orders_1 : List UInt8 := dkwX6_orders_1 ++ dktX6_orders_2
def dkwX6_orders_0 : List UInt8 := [42, 2, 181, 0, 93, 42, 4, 182, 0, 255, 154, 0, 10, 42, 16, 250, 182, 0, 106, 172, 42, 4]
abbrev dktX6_orders_0 : List UInt8 := dkwX6_orders_0 ++ dktX6_orders_1
theorem dksX6_orders_0 : cX6_orders.data.toList.drop 0 = dktX6_orders_0 := by decide +kernel
theorem dksX6_orders_1 : cX6_orders.data.toList.drop 22 = dktX6_orders_1 := dk_seg dksX6_orders_0 22 rfl rfl
theorem dksX6_orders_2 : cX6_orders.data.toList.drop 45 = dktX6_orders_2 := dk_seg dksX6_orders_1 23 rfl rfl
theorem dksX6_orders_3 : cX6_orders.data.toList.drop 69 = dktX6_orders_3 := dk_seg dksX6_orders_2 24 rfl rfl
theorem dksX6_orders_4 : cX6_orders.data.toList.drop 93 = dktX6_orders_4 := dk_seg dksX6_orders_3 24 rfl rfl
theorem dksX6_orders_5 : cX6_orders.data.toList.drop 115 = dktX6_orders_5 := dk_seg dksX6_orders_4 22 rfl rfl
theorem dksX6_orders_6 : cX6_orders.data.toList.drop 138 = dktX6_orders_6 := dk_seg dksX6_orders_5 23 rfl rfl
theorem dksX6_orders_7 : cX6_orders.data.toList.drop 161 = dktX6_orders_7 := dk_seg dksX6_orders_6 23 rfl rfl
theorem dX6_orders_0 : decode cX6_orders 0 = .ok (.aload_n 0, 1) := dk_42 (dk_at dksX6_orders_0 0 rfl rfl)
theorem dX6_orders_1 : decode cX6_orders 1 = .ok (.iconst (-1), 1) := dk_2 (dk_at dksX6_orders_0 1 rfl rfl)
theorem dX6_orders_2 : decode cX6_orders 2 = .ok (.putfield 93, 3) := dk_181 0 93 (dk_at dksX6_orders_0 2 rfl rfl)
theorem dX6_orders_5 : decode cX6_orders 5 = .ok (.aload_n 0, 1) := dk_42 (dk_at dksX6_orders_0 5 rfl rfl)
theorem dX6_orders_6 : decode cX6_orders 6 = .ok (.iconst 1, 1) := dk_4 (dk_at dksX6_orders_0 6 rfl rfl)
theorem dX6_orders_7 : decode cX6_orders 7 = .ok (.invokevirtual 255, 3) := dk_182 0 255 (dk_at dksX6_orders_0 7 rfl rfl)
theorem dX6_orders_10 : decode cX6_orders 10 = .ok (.ifCond .ne 10, 3) := dk_154 0 10 (dk_at dksX6_orders_0 10 rfl rfl)
theorem dX6_orders_13 : decode cX6_orders 13 = .ok (.aload_n 0, 1) := dk_42 (dk_at dksX6_orders_0 13 rfl rfl)
theorem dX6_orders_14 : decode cX6_orders 14 = .ok (.bipush (-6), 2) := dk_16 250 (dk_at dksX6_orders_0 14 rfl rfl)
theorem dX6_orders_16 : decode cX6_orders 16 = .ok (.invokevirtual 106, 3) := dk_182 0 106 (dk_at dksX6_orders_0 16 rfl rfl)
theorem dX6_orders_19 : decode cX6_orders 19 = .ok (.ireturn, 1) := dk_172 (dk_at dksX6_orders_0 19 rfl rfl)
theorem dX6_orders_20 : decode cX6_orders 20 = .ok (.aload_n 0, 1) := dk_42 (dk_at dksX6_orders_0 20 rfl rfl)
theorem dX6_orders_21 : decode cX6_orders 21 = .ok (.iconst 1, 1) := dk_4 (dk_at dksX6_orders_0 21 rfl rfl)
theorem dX6_orders_22 : decode cX6_orders 22 = .ok (.invokevirtual 464, 3) := dk_182 1 208 (dk_at dksX6_orders_1 0 rfl rfl)
theorem dX6_orders_25 : decode cX6_orders 25 = .ok (.iconst 0, 1) := dk_3 (dk_at dksX6_orders_1 3 rfl rfl)
theorem dX6_orders_26 : decode cX6_orders 26 = .ok (.istore_n 1, 1) := dk_60 (dk_at dksX6_orders_1 4 rfl rfl)
theorem dX6_orders_27 : decode cX6_orders 27 = .ok (.iload_n 1, 1) := dk_27 (dk_at dksX6_orders_1 5 rfl rfl)
theorem dX6_orders_28 : decode cX6_orders 28 = .ok (.bipush 112, 2) := dk_16 112 (dk_at dksX6_orders_1 6 rfl rfl)
theorem dX6_orders_30 : decode cX6_orders 30 = .ok (.if_icmp .ge 21, 3) := dk_162 0 21 (dk_at dksX6_orders_1 8 rfl rfl)
theorem dX6_orders_33 : decode cX6_orders 33 = .ok (.aload_n 0, 1) := dk_42 (dk_at dksX6_orders_1 11 rfl rfl)
theorem dX6_orders_34 : decode cX6_orders 34 = .ok (.getfield 68, 3) := dk_180 0 68 (dk_at dksX6_orders_1 12 rfl rfl)
theorem dX6_orders_37 : decode cX6_orders 37 = .ok (.iload_n 1, 1) := dk_27 (dk_at dksX6_orders_1 15 rfl rfl)
theorem dX6_orders_38 : decode cX6_orders 38 = .ok (.aload_n 0, 1) := dk_42 (dk_at dksX6_orders_1 16 rfl rfl)
theorem dX6_orders_39 : decode cX6_orders 39 = .ok (.getfield 65, 3) := dk_180 0 65 (dk_at dksX6_orders_1 17 rfl rfl)
theorem dX6_orders_42 : decode cX6_orders 42 = .ok (.iload_n 1, 1) := dk_27 (dk_at dksX6_orders_1 20 rfl rfl)
theorem dX6_orders_43 : decode cX6_orders 43 = .ok (.iaload, 1) := dk_46 (dk_at dksX6_orders_1 21 rfl rfl)
theorem dX6_orders_44 : decode cX6_orders 44 = .ok (.iastore, 1) := dk_79 (dk_at dksX6_orders_1 22 rfl rfl)
theorem dX6_orders_45 : decode cX6_orders 45 = .ok (.iinc 1 1, 3) := dk_132 1 1 (dk_at dksX6_orders_2 0 rfl rfl)
theorem dX6_orders_48 : decode cX6_orders 48 = .ok (.goto (-21), 3) := dk_167 255 235 (dk_at dksX6_orders_2 3 rfl rfl)
theorem dX6_orders_51 : decode cX6_orders 51 = .ok (.aload_n 0, 1) := dk_42 (dk_at dksX6_orders_2 6 rfl rfl)
theorem dX6_orders_52 : decode cX6_orders 52 = .ok (.getfield 11, 3) := dk_180 0 11 (dk_at dksX6_orders_2 7 rfl rfl)
theorem dX6_orders_55 : decode cX6_orders 55 = .ok (.istore_n 1, 1) := dk_60 (dk_at dksX6_orders_2 10 rfl rfl)
theorem dX6_orders_56 : decode cX6_orders 56 = .ok (.aload_n 0, 1) := dk_42 (dk_at dksX6_orders_2 11 rfl rfl)
theorem dX6_orders_57 : decode cX6_orders 57 = .ok (.bipush 6, 2) := dk_16 6 (dk_at dksX6_orders_2 12 rfl rfl)
theorem dX6_orders_59 : decode cX6_orders 59 = .ok (.invokevirtual 259, 3) := dk_182 1 3 (dk_at dksX6_orders_2 14 rfl rfl)
theorem dX6_orders_62 : decode cX6_orders 62 = .ok (.aload_n 0, 1) := dk_42 (dk_at dksX6_orders_2 17 rfl rfl)
theorem dX6_orders_63 : decode cX6_orders 63 = .ok (.iconst 0, 1) := dk_3 (dk_at dksX6_orders_2 18 rfl rfl)
theorem dX6_orders_64 : decode cX6_orders 64 = .ok (.putfield 307, 3) := dk_181 1 51 (dk_at dksX6_orders_2 19 rfl rfl)
theorem dX6_orders_67 : decode cX6_orders 67 = .ok (.aload_n 0, 1) := dk_42 (dk_at dksX6_orders_2 22 rfl rfl)
theorem dX6_orders_68 : decode cX6_orders 68 = .ok (.iconst (-1), 1) := dk_2 (dk_at dksX6_orders_2 23 rfl rfl)
theorem dX6_orders_69 : decode cX6_orders 69 = .ok (.putfield 310, 3) := dk_181 1 54 (dk_at dksX6_orders_3 0 rfl rfl)
theorem dX6_orders_72 : decode cX6_orders 72 = .ok (.aload_n 0, 1) := dk_42 (dk_at dksX6_orders_3 3 rfl rfl)
theorem dX6_orders_73 : decode cX6_orders 73 = .ok (.sipush 2400, 3) := dk_17 9 96 (dk_at dksX6_orders_3 4 rfl rfl)
theorem dX6_orders_76 : decode cX6_orders 76 = .ok (.putfield 467, 3) := dk_181 1 211 (dk_at dksX6_orders_3 7 rfl rfl)
theorem dX6_orders_79 : decode cX6_orders 79 = .ok (.aload_n 0, 1) := dk_42 (dk_at dksX6_orders_3 10 rfl rfl)
theorem dX6_orders_80 : decode cX6_orders 80 = .ok (.getfield 467, 3) := dk_180 1 211 (dk_at dksX6_orders_3 11 rfl rfl)
theorem dX6_orders_83 : decode cX6_orders 83 = .ok (.aload_n 0, 1) := dk_42 (dk_at dksX6_orders_3 14 rfl rfl)
theorem dX6_orders_84 : decode cX6_orders 84 = .ok (.getfield 24, 3) := dk_180 0 24 (dk_at dksX6_orders_3 15 rfl rfl)
theorem dX6_orders_87 : decode cX6_orders 87 = .ok (.bipush 59, 2) := dk_16 59 (dk_at dksX6_orders_3 18 rfl rfl)
theorem dX6_orders_89 : decode cX6_orders 89 = .ok (.iaload, 1) := dk_46 (dk_at dksX6_orders_3 20 rfl rfl)
theorem dX6_orders_90 : decode cX6_orders 90 = .ok (.iadd, 1) := dk_96 (dk_at dksX6_orders_3 21 rfl rfl)
theorem dX6_orders_91 : decode cX6_orders 91 = .ok (.istore_n 2, 1) := dk_61 (dk_at dksX6_orders_3 22 rfl rfl)
theorem dX6_orders_92 : decode cX6_orders 92 = .ok (.iconst 0, 1) := dk_3 (dk_at dksX6_orders_3 23 rfl rfl)
theorem dX6_orders_93 : decode cX6_orders 93 = .ok (.istore_n 3, 1) := dk_62 (dk_at dksX6_orders_4 0 rfl rfl)
theorem dX6_orders_94 : decode cX6_orders 94 = .ok (.aload_n 0, 1) := dk_42 (dk_at dksX6_orders_4 1 rfl rfl)
theorem dX6_orders_95 : decode cX6_orders 95 = .ok (.getfield 467, 3) := dk_180 1 211 (dk_at dksX6_orders_4 2 rfl rfl)
theorem dX6_orders_98 : decode cX6_orders 98 = .ok (.iload_n 2, 1) := dk_28 (dk_at dksX6_orders_4 5 rfl rfl)
theorem dX6_orders_99 : decode cX6_orders 99 = .ok (.if_icmp .ge 72, 3) := dk_162 0 72 (dk_at dksX6_orders_4 6 rfl rfl)
theorem dX6_orders_102 : decode cX6_orders 102 = .ok (.aload_n 0, 1) := dk_42 (dk_at dksX6_orders_4 9 rfl rfl)
theorem dX6_orders_103 : decode cX6_orders 103 = .ok (.iload_n 2, 1) := dk_28 (dk_at dksX6_orders_4 10 rfl rfl)
theorem dX6_orders_104 : decode cX6_orders 104 = .ok (.invokevirtual 470, 3) := dk_182 1 214 (dk_at dksX6_orders_4 11 rfl rfl)
theorem dX6_orders_107 : decode cX6_orders 107 = .ok (.ifCond .eq 6, 3) := dk_153 0 6 (dk_at dksX6_orders_4 14 rfl rfl)
theorem dX6_orders_110 : decode cX6_orders 110 = .ok (.goto 55, 3) := dk_167 0 55 (dk_at dksX6_orders_4 17 rfl rfl)
theorem dX6_orders_113 : decode cX6_orders 113 = .ok (.aload_n 0, 1) := dk_42 (dk_at dksX6_orders_4 20 rfl rfl)
theorem dX6_orders_114 : decode cX6_orders 114 = .ok (.iconst 1, 1) := dk_4 (dk_at dksX6_orders_4 21 rfl rfl)
theorem dX6_orders_115 : decode cX6_orders 115 = .ok (.invokevirtual 473, 3) := dk_182 1 217 (dk_at dksX6_orders_5 0 rfl rfl)
theorem dX6_orders_118 : decode cX6_orders 118 = .ok (.iconst 0, 1) := dk_3 (dk_at dksX6_orders_5 3 rfl rfl)
theorem dX6_orders_119 : decode cX6_orders 119 = .ok (.istore 4, 2) := dk_54 4 (dk_at dksX6_orders_5 4 rfl rfl)
theorem dX6_orders_121 : decode cX6_orders 121 = .ok (.iload 4, 2) := dk_21 4 (dk_at dksX6_orders_5 6 rfl rfl)
theorem dX6_orders_123 : decode cX6_orders 123 = .ok (.bipush 112, 2) := dk_16 112 (dk_at dksX6_orders_5 8 rfl rfl)
theorem dX6_orders_125 : decode cX6_orders 125 = .ok (.if_icmp .ge 23, 3) := dk_162 0 23 (dk_at dksX6_orders_5 10 rfl rfl)
theorem dX6_orders_128 : decode cX6_orders 128 = .ok (.aload_n 0, 1) := dk_42 (dk_at dksX6_orders_5 13 rfl rfl)
theorem dX6_orders_129 : decode cX6_orders 129 = .ok (.getfield 65, 3) := dk_180 0 65 (dk_at dksX6_orders_5 14 rfl rfl)
theorem dX6_orders_132 : decode cX6_orders 132 = .ok (.iload 4, 2) := dk_21 4 (dk_at dksX6_orders_5 17 rfl rfl)
theorem dX6_orders_134 : decode cX6_orders 134 = .ok (.aload_n 0, 1) := dk_42 (dk_at dksX6_orders_5 19 rfl rfl)
theorem dX6_orders_135 : decode cX6_orders 135 = .ok (.getfield 68, 3) := dk_180 0 68 (dk_at dksX6_orders_5 20 rfl rfl)
theorem dX6_orders_138 : decode cX6_orders 138 = .ok (.iload 4, 2) := dk_21 4 (dk_at dksX6_orders_6 0 rfl rfl)
theorem dX6_orders_140 : decode cX6_orders 140 = .ok (.iaload, 1) := dk_46 (dk_at dksX6_orders_6 2 rfl rfl)
theorem dX6_orders_141 : decode cX6_orders 141 = .ok (.iastore, 1) := dk_79 (dk_at dksX6_orders_6 3 rfl rfl)
theorem dX6_orders_142 : decode cX6_orders 142 = .ok (.iinc 4 1, 3) := dk_132 4 1 (dk_at dksX6_orders_6 4 rfl rfl)
theorem dX6_orders_145 : decode cX6_orders 145 = .ok (.goto (-24), 3) := dk_167 255 232 (dk_at dksX6_orders_6 7 rfl rfl)
theorem dX6_orders_148 : decode cX6_orders 148 = .ok (.aload_n 0, 1) := dk_42 (dk_at dksX6_orders_6 10 rfl rfl)
theorem dX6_orders_149 : decode cX6_orders 149 = .ok (.iload_n 1, 1) := dk_27 (dk_at dksX6_orders_6 11 rfl rfl)
theorem dX6_orders_150 : decode cX6_orders 150 = .ok (.putfield 11, 3) := dk_181 0 11 (dk_at dksX6_orders_6 12 rfl rfl)
theorem dX6_orders_153 : decode cX6_orders 153 = .ok (.aload_n 0, 1) := dk_42 (dk_at dksX6_orders_6 15 rfl rfl)
theorem dX6_orders_154 : decode cX6_orders 154 = .ok (.iload_n 3, 1) := dk_29 (dk_at dksX6_orders_6 16 rfl rfl)
theorem dX6_orders_155 : decode cX6_orders 155 = .ok (.putfield 93, 3) := dk_181 0 93 (dk_at dksX6_orders_6 17 rfl rfl)
theorem dX6_orders_158 : decode cX6_orders 158 = .ok (.aload_n 0, 1) := dk_42 (dk_at dksX6_orders_6 20 rfl rfl)
theorem dX6_orders_159 : decode cX6_orders 159 = .ok (.bipush (-3), 2) := dk_16 253 (dk_at dksX6_orders_6 21 rfl rfl)
theorem dX6_orders_161 : decode cX6_orders 161 = .ok (.invokevirtual 106, 3) := dk_182 0 106 (dk_at dksX6_orders_7 0 rfl rfl)
theorem dX6_orders_164 : decode cX6_orders 164 = .ok (.ireturn, 1) := dk_172 (dk_at dksX6_orders_7 3 rfl rfl)
theorem dX6_orders_165 : decode cX6_orders 165 = .ok (.iinc 3 1, 3) := dk_132 3 1 (dk_at dksX6_orders_7 4 rfl rfl)
theorem dX6_orders_168 : decode cX6_orders 168 = .ok (.goto (-74), 3) := dk_167 255 182 (dk_at dksX6_orders_7 7 rfl rfl)
theorem dX6_orders_171 : decode cX6_orders 171 = .ok (.aload_n 0, 1) := dk_42 (dk_at dksX6_orders_7 10 rfl rfl)
theorem dX6_orders_172 : decode cX6_orders 172 = .ok (.aload_n 0, 1) := dk_42 (dk_at dksX6_orders_7 11 rfl rfl)
theorem dX6_orders_173 : decode cX6_orders 173 = .ok (.getfield 307, 3) := dk_180 1 51 (dk_at dksX6_orders_7 12 rfl rfl)
theorem dX6_orders_176 : decode cX6_orders 176 = .ok (.invokevirtual 14, 3) := dk_182 0 14 (dk_at dksX6_orders_7 15 rfl rfl)
theorem dX6_orders_179 : decode cX6_orders 179 = .ok (.ireturn, 1) := dk_172 (dk_at dksX6_orders_7 18 rfl rfl)
abbrev cX6_laysAside : ByteArray := prog_24_method_10_code
def yX6_laysAside : MethodName := ⟨RX6, "laysAside", "(I)V"⟩
def dkwX6_laysAside_1 : List UInt8 := [79, 132, 2, 1, 167, 255, 230, 177]
abbrev dktX6_laysAside_1 : List UInt8 := dkwX6_laysAside_1 ++ []
def dkwX6_laysAside_0 : List UInt8 := [3, 61, 28, 16, 6, 162, 0, 26, 42, 180, 0, 34, 16, 6, 27, 104, 28, 96, 42, 180, 0, 24, 28, 46]
abbrev dktX6_laysAside_0 : List UInt8 := dkwX6_laysAside_0 ++ dktX6_laysAside_1
theorem dksX6_laysAside_0 : cX6_laysAside.data.toList.drop 0 = dktX6_laysAside_0 := by decide +kernel
theorem dksX6_laysAside_1 : cX6_laysAside.data.toList.drop 24 = dktX6_laysAside_1 := dk_seg dksX6_laysAside_0 24 rfl rfl
theorem dX6_laysAside_0 : decode cX6_laysAside 0 = .ok (.iconst 0, 1) := dk_3 (dk_at dksX6_laysAside_0 0 rfl rfl)
theorem dX6_laysAside_1 : decode cX6_laysAside 1 = .ok (.istore_n 2, 1) := dk_61 (dk_at dksX6_laysAside_0 1 rfl rfl)
theorem dX6_laysAside_2 : decode cX6_laysAside 2 = .ok (.iload_n 2, 1) := dk_28 (dk_at dksX6_laysAside_0 2 rfl rfl)
theorem dX6_laysAside_3 : decode cX6_laysAside 3 = .ok (.bipush 6, 2) := dk_16 6 (dk_at dksX6_laysAside_0 3 rfl rfl)
theorem dX6_laysAside_5 : decode cX6_laysAside 5 = .ok (.if_icmp .ge 26, 3) := dk_162 0 26 (dk_at dksX6_laysAside_0 5 rfl rfl)
theorem dX6_laysAside_8 : decode cX6_laysAside 8 = .ok (.aload_n 0, 1) := dk_42 (dk_at dksX6_laysAside_0 8 rfl rfl)
theorem dX6_laysAside_9 : decode cX6_laysAside 9 = .ok (.getfield 34, 3) := dk_180 0 34 (dk_at dksX6_laysAside_0 9 rfl rfl)
theorem dX6_laysAside_12 : decode cX6_laysAside 12 = .ok (.bipush 6, 2) := dk_16 6 (dk_at dksX6_laysAside_0 12 rfl rfl)
theorem dX6_laysAside_14 : decode cX6_laysAside 14 = .ok (.iload_n 1, 1) := dk_27 (dk_at dksX6_laysAside_0 14 rfl rfl)
theorem dX6_laysAside_15 : decode cX6_laysAside 15 = .ok (.imul, 1) := dk_104 (dk_at dksX6_laysAside_0 15 rfl rfl)
theorem dX6_laysAside_16 : decode cX6_laysAside 16 = .ok (.iload_n 2, 1) := dk_28 (dk_at dksX6_laysAside_0 16 rfl rfl)
theorem dX6_laysAside_17 : decode cX6_laysAside 17 = .ok (.iadd, 1) := dk_96 (dk_at dksX6_laysAside_0 17 rfl rfl)
theorem dX6_laysAside_18 : decode cX6_laysAside 18 = .ok (.aload_n 0, 1) := dk_42 (dk_at dksX6_laysAside_0 18 rfl rfl)
theorem dX6_laysAside_19 : decode cX6_laysAside 19 = .ok (.getfield 24, 3) := dk_180 0 24 (dk_at dksX6_laysAside_0 19 rfl rfl)
theorem dX6_laysAside_22 : decode cX6_laysAside 22 = .ok (.iload_n 2, 1) := dk_28 (dk_at dksX6_laysAside_0 22 rfl rfl)
theorem dX6_laysAside_23 : decode cX6_laysAside 23 = .ok (.iaload, 1) := dk_46 (dk_at dksX6_laysAside_0 23 rfl rfl)
theorem dX6_laysAside_24 : decode cX6_laysAside 24 = .ok (.iastore, 1) := dk_79 (dk_at dksX6_laysAside_1 0 rfl rfl)
theorem dX6_laysAside_25 : decode cX6_laysAside 25 = .ok (.iinc 2 1, 3) := dk_132 2 1 (dk_at dksX6_laysAside_1 1 rfl rfl)
theorem dX6_laysAside_28 : decode cX6_laysAside 28 = .ok (.goto (-26), 3) := dk_167 255 230 (dk_at dksX6_laysAside_1 4 rfl rfl)
theorem dX6_laysAside_31 : decode cX6_laysAside 31 = .ok (.return_, 1) := dk_177 (dk_at dksX6_laysAside_1 7 rfl rfl)
abbrev cX6_runs : ByteArray := prog_24_method_134_code
def yX6_runs : MethodName := ⟨RX6, "runs", "(I)Z"⟩
def dkwX6_runs_3 : List UInt8 := [132, 4, 1, 167, 255, 205, 42, 29, 181, 1, 211, 4, 172]
abbrev dktX6_runs_3 : List UInt8 := dkwX6_runs_3 ++ []
def dkwX6_runs_2 : List UInt8 := [153, 0, 10, 42, 182, 1, 245, 156, 0, 5, 3, 172, 42, 89, 180, 1, 51, 4, 96, 181, 1, 51]
abbrev dktX6_runs_2 : List UInt8 := dkwX6_runs_2 ++ dktX6_runs_3
def dkwX6_runs_1 : List UInt8 := [162, 0, 51, 42, 27, 4, 182, 1, 242, 42, 180, 1, 233, 154, 0, 6, 167, 0, 29, 42, 180, 1, 227]
abbrev dktX6_runs_1 : List UInt8 := dkwX6_runs_1 ++ dktX6_runs_2
def dkwX6_runs_0 : List UInt8 := [42, 27, 3, 182, 1, 242, 42, 180, 1, 230, 61, 42, 180, 1, 12, 62, 3, 54, 4, 21, 4, 28]
abbrev dktX6_runs_0 : List UInt8 := dkwX6_runs_0 ++ dktX6_runs_1
theorem dksX6_runs_0 : cX6_runs.data.toList.drop 0 = dktX6_runs_0 := by decide +kernel
theorem dksX6_runs_1 : cX6_runs.data.toList.drop 22 = dktX6_runs_1 := dk_seg dksX6_runs_0 22 rfl rfl
theorem dksX6_runs_2 : cX6_runs.data.toList.drop 45 = dktX6_runs_2 := dk_seg dksX6_runs_1 23 rfl rfl
theorem dksX6_runs_3 : cX6_runs.data.toList.drop 67 = dktX6_runs_3 := dk_seg dksX6_runs_2 22 rfl rfl
theorem dX6_runs_0 : decode cX6_runs 0 = .ok (.aload_n 0, 1) := dk_42 (dk_at dksX6_runs_0 0 rfl rfl)
theorem dX6_runs_1 : decode cX6_runs 1 = .ok (.iload_n 1, 1) := dk_27 (dk_at dksX6_runs_0 1 rfl rfl)
theorem dX6_runs_2 : decode cX6_runs 2 = .ok (.iconst 0, 1) := dk_3 (dk_at dksX6_runs_0 2 rfl rfl)
theorem dX6_runs_3 : decode cX6_runs 3 = .ok (.invokevirtual 498, 3) := dk_182 1 242 (dk_at dksX6_runs_0 3 rfl rfl)
theorem dX6_runs_6 : decode cX6_runs 6 = .ok (.aload_n 0, 1) := dk_42 (dk_at dksX6_runs_0 6 rfl rfl)
theorem dX6_runs_7 : decode cX6_runs 7 = .ok (.getfield 486, 3) := dk_180 1 230 (dk_at dksX6_runs_0 7 rfl rfl)
theorem dX6_runs_10 : decode cX6_runs 10 = .ok (.istore_n 2, 1) := dk_61 (dk_at dksX6_runs_0 10 rfl rfl)
theorem dX6_runs_11 : decode cX6_runs 11 = .ok (.aload_n 0, 1) := dk_42 (dk_at dksX6_runs_0 11 rfl rfl)
theorem dX6_runs_12 : decode cX6_runs 12 = .ok (.getfield 268, 3) := dk_180 1 12 (dk_at dksX6_runs_0 12 rfl rfl)
theorem dX6_runs_15 : decode cX6_runs 15 = .ok (.istore_n 3, 1) := dk_62 (dk_at dksX6_runs_0 15 rfl rfl)
theorem dX6_runs_16 : decode cX6_runs 16 = .ok (.iconst 0, 1) := dk_3 (dk_at dksX6_runs_0 16 rfl rfl)
theorem dX6_runs_17 : decode cX6_runs 17 = .ok (.istore 4, 2) := dk_54 4 (dk_at dksX6_runs_0 17 rfl rfl)
theorem dX6_runs_19 : decode cX6_runs 19 = .ok (.iload 4, 2) := dk_21 4 (dk_at dksX6_runs_0 19 rfl rfl)
theorem dX6_runs_21 : decode cX6_runs 21 = .ok (.iload_n 2, 1) := dk_28 (dk_at dksX6_runs_0 21 rfl rfl)
theorem dX6_runs_22 : decode cX6_runs 22 = .ok (.if_icmp .ge 51, 3) := dk_162 0 51 (dk_at dksX6_runs_1 0 rfl rfl)
theorem dX6_runs_25 : decode cX6_runs 25 = .ok (.aload_n 0, 1) := dk_42 (dk_at dksX6_runs_1 3 rfl rfl)
theorem dX6_runs_26 : decode cX6_runs 26 = .ok (.iload_n 1, 1) := dk_27 (dk_at dksX6_runs_1 4 rfl rfl)
theorem dX6_runs_27 : decode cX6_runs 27 = .ok (.iconst 1, 1) := dk_4 (dk_at dksX6_runs_1 5 rfl rfl)
theorem dX6_runs_28 : decode cX6_runs 28 = .ok (.invokevirtual 498, 3) := dk_182 1 242 (dk_at dksX6_runs_1 6 rfl rfl)
theorem dX6_runs_31 : decode cX6_runs 31 = .ok (.aload_n 0, 1) := dk_42 (dk_at dksX6_runs_1 9 rfl rfl)
theorem dX6_runs_32 : decode cX6_runs 32 = .ok (.getfield 489, 3) := dk_180 1 233 (dk_at dksX6_runs_1 10 rfl rfl)
theorem dX6_runs_35 : decode cX6_runs 35 = .ok (.ifCond .ne 6, 3) := dk_154 0 6 (dk_at dksX6_runs_1 13 rfl rfl)
theorem dX6_runs_38 : decode cX6_runs 38 = .ok (.goto 29, 3) := dk_167 0 29 (dk_at dksX6_runs_1 16 rfl rfl)
theorem dX6_runs_41 : decode cX6_runs 41 = .ok (.aload_n 0, 1) := dk_42 (dk_at dksX6_runs_1 19 rfl rfl)
theorem dX6_runs_42 : decode cX6_runs 42 = .ok (.getfield 483, 3) := dk_180 1 227 (dk_at dksX6_runs_1 20 rfl rfl)
theorem dX6_runs_45 : decode cX6_runs 45 = .ok (.ifCond .eq 10, 3) := dk_153 0 10 (dk_at dksX6_runs_2 0 rfl rfl)
theorem dX6_runs_48 : decode cX6_runs 48 = .ok (.aload_n 0, 1) := dk_42 (dk_at dksX6_runs_2 3 rfl rfl)
theorem dX6_runs_49 : decode cX6_runs 49 = .ok (.invokevirtual 501, 3) := dk_182 1 245 (dk_at dksX6_runs_2 4 rfl rfl)
theorem dX6_runs_52 : decode cX6_runs 52 = .ok (.ifCond .ge 5, 3) := dk_156 0 5 (dk_at dksX6_runs_2 7 rfl rfl)
theorem dX6_runs_55 : decode cX6_runs 55 = .ok (.iconst 0, 1) := dk_3 (dk_at dksX6_runs_2 10 rfl rfl)
theorem dX6_runs_56 : decode cX6_runs 56 = .ok (.ireturn, 1) := dk_172 (dk_at dksX6_runs_2 11 rfl rfl)
theorem dX6_runs_57 : decode cX6_runs 57 = .ok (.aload_n 0, 1) := dk_42 (dk_at dksX6_runs_2 12 rfl rfl)
theorem dX6_runs_58 : decode cX6_runs 58 = .ok (.dup, 1) := dk_89 (dk_at dksX6_runs_2 13 rfl rfl)
theorem dX6_runs_59 : decode cX6_runs 59 = .ok (.getfield 307, 3) := dk_180 1 51 (dk_at dksX6_runs_2 14 rfl rfl)
theorem dX6_runs_62 : decode cX6_runs 62 = .ok (.iconst 1, 1) := dk_4 (dk_at dksX6_runs_2 17 rfl rfl)
theorem dX6_runs_63 : decode cX6_runs 63 = .ok (.iadd, 1) := dk_96 (dk_at dksX6_runs_2 18 rfl rfl)
theorem dX6_runs_64 : decode cX6_runs 64 = .ok (.putfield 307, 3) := dk_181 1 51 (dk_at dksX6_runs_2 19 rfl rfl)
theorem dX6_runs_67 : decode cX6_runs 67 = .ok (.iinc 4 1, 3) := dk_132 4 1 (dk_at dksX6_runs_3 0 rfl rfl)
theorem dX6_runs_70 : decode cX6_runs 70 = .ok (.goto (-51), 3) := dk_167 255 205 (dk_at dksX6_runs_3 3 rfl rfl)
theorem dX6_runs_73 : decode cX6_runs 73 = .ok (.aload_n 0, 1) := dk_42 (dk_at dksX6_runs_3 6 rfl rfl)
theorem dX6_runs_74 : decode cX6_runs 74 = .ok (.iload_n 3, 1) := dk_29 (dk_at dksX6_runs_3 7 rfl rfl)
theorem dX6_runs_75 : decode cX6_runs 75 = .ok (.putfield 467, 3) := dk_181 1 211 (dk_at dksX6_runs_3 8 rfl rfl)
theorem dX6_runs_78 : decode cX6_runs 78 = .ok (.iconst 1, 1) := dk_4 (dk_at dksX6_runs_3 11 rfl rfl)
theorem dX6_runs_79 : decode cX6_runs 79 = .ok (.ireturn, 1) := dk_172 (dk_at dksX6_runs_3 12 rfl rfl)
abbrev cX6_goesAlong : ByteArray := prog_24_method_131_code
def yX6_goesAlong : MethodName := ⟨RX6, "goesAlong", "(IZ)V"⟩
def dkwX6_goesAlong_8 : List UInt8 := [177]
abbrev dktX6_goesAlong_8 : List UInt8 := dkwX6_goesAlong_8 ++ []
def dkwX6_goesAlong_7 : List UInt8 := [180, 1, 22, 154, 0, 7, 4, 167, 0, 4, 3, 181, 1, 233, 42, 89, 180, 1, 12, 4, 96, 181, 1, 12]
abbrev dktX6_goesAlong_7 : List UInt8 := dkwX6_goesAlong_7 ++ dktX6_goesAlong_8
def dkwX6_goesAlong_6 : List UInt8 := [28, 182, 1, 69, 153, 0, 7, 4, 167, 0, 4, 3, 181, 1, 233, 42, 42, 180, 1, 233, 153, 0, 14, 42]
abbrev dktX6_goesAlong_6 : List UInt8 := dkwX6_goesAlong_6 ++ dktX6_goesAlong_7
def dkwX6_goesAlong_5 : List UInt8 := [89, 180, 1, 12, 4, 96, 181, 1, 12, 42, 3, 181, 1, 22, 42, 42, 7, 182, 1, 36, 153, 0, 11, 42]
abbrev dktX6_goesAlong_5 : List UInt8 := dkwX6_goesAlong_5 ++ dktX6_goesAlong_6
def dkwX6_goesAlong_4 : List UInt8 := [182, 1, 36, 153, 0, 30, 42, 42, 180, 0, 24, 17, 11, 44, 42, 180, 1, 12, 96, 46, 181, 1, 230, 42]
abbrev dktX6_goesAlong_4 : List UInt8 := dkwX6_goesAlong_4 ++ dktX6_goesAlong_5
def dkwX6_goesAlong_3 : List UInt8 := [180, 1, 22, 154, 0, 7, 4, 167, 0, 4, 3, 181, 1, 227, 42, 4, 181, 1, 230, 42, 16, 25]
abbrev dktX6_goesAlong_3 : List UInt8 := dkwX6_goesAlong_3 ++ dktX6_goesAlong_4
def dkwX6_goesAlong_2 : List UInt8 := [180, 1, 220, 16, 24, 160, 0, 7, 9, 167, 0, 8, 42, 28, 182, 1, 39, 181, 1, 223, 42, 42]
abbrev dktX6_goesAlong_2 : List UInt8 := dkwX6_goesAlong_2 ++ dktX6_goesAlong_3
def dkwX6_goesAlong_1 : List UInt8 := [182, 1, 15, 181, 1, 220, 42, 89, 180, 1, 12, 4, 96, 181, 1, 12, 42, 3, 181, 1, 22, 42, 42]
abbrev dktX6_goesAlong_1 : List UInt8 := dkwX6_goesAlong_1 ++ dktX6_goesAlong_2
def dkwX6_goesAlong_0 : List UInt8 := [42, 4, 181, 1, 42, 42, 27, 181, 1, 9, 42, 42, 180, 1, 211, 181, 1, 12, 42, 42, 42, 180, 1, 12]
abbrev dktX6_goesAlong_0 : List UInt8 := dkwX6_goesAlong_0 ++ dktX6_goesAlong_1
theorem dksX6_goesAlong_0 : cX6_goesAlong.data.toList.drop 0 = dktX6_goesAlong_0 := by decide +kernel
theorem dksX6_goesAlong_1 : cX6_goesAlong.data.toList.drop 24 = dktX6_goesAlong_1 := dk_seg dksX6_goesAlong_0 24 rfl rfl
theorem dksX6_goesAlong_2 : cX6_goesAlong.data.toList.drop 47 = dktX6_goesAlong_2 := dk_seg dksX6_goesAlong_1 23 rfl rfl
theorem dksX6_goesAlong_3 : cX6_goesAlong.data.toList.drop 69 = dktX6_goesAlong_3 := dk_seg dksX6_goesAlong_2 22 rfl rfl
theorem dksX6_goesAlong_4 : cX6_goesAlong.data.toList.drop 91 = dktX6_goesAlong_4 := dk_seg dksX6_goesAlong_3 22 rfl rfl
theorem dksX6_goesAlong_5 : cX6_goesAlong.data.toList.drop 115 = dktX6_goesAlong_5 := dk_seg dksX6_goesAlong_4 24 rfl rfl
theorem dksX6_goesAlong_6 : cX6_goesAlong.data.toList.drop 139 = dktX6_goesAlong_6 := dk_seg dksX6_goesAlong_5 24 rfl rfl
theorem dksX6_goesAlong_7 : cX6_goesAlong.data.toList.drop 163 = dktX6_goesAlong_7 := dk_seg dksX6_goesAlong_6 24 rfl rfl
theorem dksX6_goesAlong_8 : cX6_goesAlong.data.toList.drop 187 = dktX6_goesAlong_8 := dk_seg dksX6_goesAlong_7 24 rfl rfl
theorem dX6_goesAlong_0 : decode cX6_goesAlong 0 = .ok (.aload_n 0, 1) := dk_42 (dk_at dksX6_goesAlong_0 0 rfl rfl)
theorem dX6_goesAlong_1 : decode cX6_goesAlong 1 = .ok (.iconst 1, 1) := dk_4 (dk_at dksX6_goesAlong_0 1 rfl rfl)
theorem dX6_goesAlong_2 : decode cX6_goesAlong 2 = .ok (.putfield 298, 3) := dk_181 1 42 (dk_at dksX6_goesAlong_0 2 rfl rfl)
theorem dX6_goesAlong_5 : decode cX6_goesAlong 5 = .ok (.aload_n 0, 1) := dk_42 (dk_at dksX6_goesAlong_0 5 rfl rfl)
theorem dX6_goesAlong_6 : decode cX6_goesAlong 6 = .ok (.iload_n 1, 1) := dk_27 (dk_at dksX6_goesAlong_0 6 rfl rfl)
theorem dX6_goesAlong_7 : decode cX6_goesAlong 7 = .ok (.putfield 265, 3) := dk_181 1 9 (dk_at dksX6_goesAlong_0 7 rfl rfl)
theorem dX6_goesAlong_10 : decode cX6_goesAlong 10 = .ok (.aload_n 0, 1) := dk_42 (dk_at dksX6_goesAlong_0 10 rfl rfl)
theorem dX6_goesAlong_11 : decode cX6_goesAlong 11 = .ok (.aload_n 0, 1) := dk_42 (dk_at dksX6_goesAlong_0 11 rfl rfl)
theorem dX6_goesAlong_12 : decode cX6_goesAlong 12 = .ok (.getfield 467, 3) := dk_180 1 211 (dk_at dksX6_goesAlong_0 12 rfl rfl)
theorem dX6_goesAlong_15 : decode cX6_goesAlong 15 = .ok (.putfield 268, 3) := dk_181 1 12 (dk_at dksX6_goesAlong_0 15 rfl rfl)
theorem dX6_goesAlong_18 : decode cX6_goesAlong 18 = .ok (.aload_n 0, 1) := dk_42 (dk_at dksX6_goesAlong_0 18 rfl rfl)
theorem dX6_goesAlong_19 : decode cX6_goesAlong 19 = .ok (.aload_n 0, 1) := dk_42 (dk_at dksX6_goesAlong_0 19 rfl rfl)
theorem dX6_goesAlong_20 : decode cX6_goesAlong 20 = .ok (.aload_n 0, 1) := dk_42 (dk_at dksX6_goesAlong_0 20 rfl rfl)
theorem dX6_goesAlong_21 : decode cX6_goesAlong 21 = .ok (.getfield 268, 3) := dk_180 1 12 (dk_at dksX6_goesAlong_0 21 rfl rfl)
theorem dX6_goesAlong_24 : decode cX6_goesAlong 24 = .ok (.invokevirtual 271, 3) := dk_182 1 15 (dk_at dksX6_goesAlong_1 0 rfl rfl)
theorem dX6_goesAlong_27 : decode cX6_goesAlong 27 = .ok (.putfield 476, 3) := dk_181 1 220 (dk_at dksX6_goesAlong_1 3 rfl rfl)
theorem dX6_goesAlong_30 : decode cX6_goesAlong 30 = .ok (.aload_n 0, 1) := dk_42 (dk_at dksX6_goesAlong_1 6 rfl rfl)
theorem dX6_goesAlong_31 : decode cX6_goesAlong 31 = .ok (.dup, 1) := dk_89 (dk_at dksX6_goesAlong_1 7 rfl rfl)
theorem dX6_goesAlong_32 : decode cX6_goesAlong 32 = .ok (.getfield 268, 3) := dk_180 1 12 (dk_at dksX6_goesAlong_1 8 rfl rfl)
theorem dX6_goesAlong_35 : decode cX6_goesAlong 35 = .ok (.iconst 1, 1) := dk_4 (dk_at dksX6_goesAlong_1 11 rfl rfl)
theorem dX6_goesAlong_36 : decode cX6_goesAlong 36 = .ok (.iadd, 1) := dk_96 (dk_at dksX6_goesAlong_1 12 rfl rfl)
theorem dX6_goesAlong_37 : decode cX6_goesAlong 37 = .ok (.putfield 268, 3) := dk_181 1 12 (dk_at dksX6_goesAlong_1 13 rfl rfl)
theorem dX6_goesAlong_40 : decode cX6_goesAlong 40 = .ok (.aload_n 0, 1) := dk_42 (dk_at dksX6_goesAlong_1 16 rfl rfl)
theorem dX6_goesAlong_41 : decode cX6_goesAlong 41 = .ok (.iconst 0, 1) := dk_3 (dk_at dksX6_goesAlong_1 17 rfl rfl)
theorem dX6_goesAlong_42 : decode cX6_goesAlong 42 = .ok (.putfield 278, 3) := dk_181 1 22 (dk_at dksX6_goesAlong_1 18 rfl rfl)
theorem dX6_goesAlong_45 : decode cX6_goesAlong 45 = .ok (.aload_n 0, 1) := dk_42 (dk_at dksX6_goesAlong_1 21 rfl rfl)
theorem dX6_goesAlong_46 : decode cX6_goesAlong 46 = .ok (.aload_n 0, 1) := dk_42 (dk_at dksX6_goesAlong_1 22 rfl rfl)
theorem dX6_goesAlong_47 : decode cX6_goesAlong 47 = .ok (.getfield 476, 3) := dk_180 1 220 (dk_at dksX6_goesAlong_2 0 rfl rfl)
theorem dX6_goesAlong_50 : decode cX6_goesAlong 50 = .ok (.bipush 24, 2) := dk_16 24 (dk_at dksX6_goesAlong_2 3 rfl rfl)
theorem dX6_goesAlong_52 : decode cX6_goesAlong 52 = .ok (.if_icmp .ne 7, 3) := dk_160 0 7 (dk_at dksX6_goesAlong_2 5 rfl rfl)
theorem dX6_goesAlong_55 : decode cX6_goesAlong 55 = .ok (.lconst 0, 1) := dk_9 (dk_at dksX6_goesAlong_2 8 rfl rfl)
theorem dX6_goesAlong_56 : decode cX6_goesAlong 56 = .ok (.goto 8, 3) := dk_167 0 8 (dk_at dksX6_goesAlong_2 9 rfl rfl)
theorem dX6_goesAlong_59 : decode cX6_goesAlong 59 = .ok (.aload_n 0, 1) := dk_42 (dk_at dksX6_goesAlong_2 12 rfl rfl)
theorem dX6_goesAlong_60 : decode cX6_goesAlong 60 = .ok (.iload_n 2, 1) := dk_28 (dk_at dksX6_goesAlong_2 13 rfl rfl)
theorem dX6_goesAlong_61 : decode cX6_goesAlong 61 = .ok (.invokevirtual 295, 3) := dk_182 1 39 (dk_at dksX6_goesAlong_2 14 rfl rfl)
theorem dX6_goesAlong_64 : decode cX6_goesAlong 64 = .ok (.putfield 479, 3) := dk_181 1 223 (dk_at dksX6_goesAlong_2 17 rfl rfl)
theorem dX6_goesAlong_67 : decode cX6_goesAlong 67 = .ok (.aload_n 0, 1) := dk_42 (dk_at dksX6_goesAlong_2 20 rfl rfl)
theorem dX6_goesAlong_68 : decode cX6_goesAlong 68 = .ok (.aload_n 0, 1) := dk_42 (dk_at dksX6_goesAlong_2 21 rfl rfl)
theorem dX6_goesAlong_69 : decode cX6_goesAlong 69 = .ok (.getfield 278, 3) := dk_180 1 22 (dk_at dksX6_goesAlong_3 0 rfl rfl)
theorem dX6_goesAlong_72 : decode cX6_goesAlong 72 = .ok (.ifCond .ne 7, 3) := dk_154 0 7 (dk_at dksX6_goesAlong_3 3 rfl rfl)
theorem dX6_goesAlong_75 : decode cX6_goesAlong 75 = .ok (.iconst 1, 1) := dk_4 (dk_at dksX6_goesAlong_3 6 rfl rfl)
theorem dX6_goesAlong_76 : decode cX6_goesAlong 76 = .ok (.goto 4, 3) := dk_167 0 4 (dk_at dksX6_goesAlong_3 7 rfl rfl)
theorem dX6_goesAlong_79 : decode cX6_goesAlong 79 = .ok (.iconst 0, 1) := dk_3 (dk_at dksX6_goesAlong_3 10 rfl rfl)
theorem dX6_goesAlong_80 : decode cX6_goesAlong 80 = .ok (.putfield 483, 3) := dk_181 1 227 (dk_at dksX6_goesAlong_3 11 rfl rfl)
theorem dX6_goesAlong_83 : decode cX6_goesAlong 83 = .ok (.aload_n 0, 1) := dk_42 (dk_at dksX6_goesAlong_3 14 rfl rfl)
theorem dX6_goesAlong_84 : decode cX6_goesAlong 84 = .ok (.iconst 1, 1) := dk_4 (dk_at dksX6_goesAlong_3 15 rfl rfl)
theorem dX6_goesAlong_85 : decode cX6_goesAlong 85 = .ok (.putfield 486, 3) := dk_181 1 230 (dk_at dksX6_goesAlong_3 16 rfl rfl)
theorem dX6_goesAlong_88 : decode cX6_goesAlong 88 = .ok (.aload_n 0, 1) := dk_42 (dk_at dksX6_goesAlong_3 19 rfl rfl)
theorem dX6_goesAlong_89 : decode cX6_goesAlong 89 = .ok (.bipush 25, 2) := dk_16 25 (dk_at dksX6_goesAlong_3 20 rfl rfl)
theorem dX6_goesAlong_91 : decode cX6_goesAlong 91 = .ok (.invokevirtual 292, 3) := dk_182 1 36 (dk_at dksX6_goesAlong_4 0 rfl rfl)
theorem dX6_goesAlong_94 : decode cX6_goesAlong 94 = .ok (.ifCond .eq 30, 3) := dk_153 0 30 (dk_at dksX6_goesAlong_4 3 rfl rfl)
theorem dX6_goesAlong_97 : decode cX6_goesAlong 97 = .ok (.aload_n 0, 1) := dk_42 (dk_at dksX6_goesAlong_4 6 rfl rfl)
theorem dX6_goesAlong_98 : decode cX6_goesAlong 98 = .ok (.aload_n 0, 1) := dk_42 (dk_at dksX6_goesAlong_4 7 rfl rfl)
theorem dX6_goesAlong_99 : decode cX6_goesAlong 99 = .ok (.getfield 24, 3) := dk_180 0 24 (dk_at dksX6_goesAlong_4 8 rfl rfl)
theorem dX6_goesAlong_102 : decode cX6_goesAlong 102 = .ok (.sipush 2860, 3) := dk_17 11 44 (dk_at dksX6_goesAlong_4 11 rfl rfl)
theorem dX6_goesAlong_105 : decode cX6_goesAlong 105 = .ok (.aload_n 0, 1) := dk_42 (dk_at dksX6_goesAlong_4 14 rfl rfl)
theorem dX6_goesAlong_106 : decode cX6_goesAlong 106 = .ok (.getfield 268, 3) := dk_180 1 12 (dk_at dksX6_goesAlong_4 15 rfl rfl)
theorem dX6_goesAlong_109 : decode cX6_goesAlong 109 = .ok (.iadd, 1) := dk_96 (dk_at dksX6_goesAlong_4 18 rfl rfl)
theorem dX6_goesAlong_110 : decode cX6_goesAlong 110 = .ok (.iaload, 1) := dk_46 (dk_at dksX6_goesAlong_4 19 rfl rfl)
theorem dX6_goesAlong_111 : decode cX6_goesAlong 111 = .ok (.putfield 486, 3) := dk_181 1 230 (dk_at dksX6_goesAlong_4 20 rfl rfl)
theorem dX6_goesAlong_114 : decode cX6_goesAlong 114 = .ok (.aload_n 0, 1) := dk_42 (dk_at dksX6_goesAlong_4 23 rfl rfl)
theorem dX6_goesAlong_115 : decode cX6_goesAlong 115 = .ok (.dup, 1) := dk_89 (dk_at dksX6_goesAlong_5 0 rfl rfl)
theorem dX6_goesAlong_116 : decode cX6_goesAlong 116 = .ok (.getfield 268, 3) := dk_180 1 12 (dk_at dksX6_goesAlong_5 1 rfl rfl)
theorem dX6_goesAlong_119 : decode cX6_goesAlong 119 = .ok (.iconst 1, 1) := dk_4 (dk_at dksX6_goesAlong_5 4 rfl rfl)
theorem dX6_goesAlong_120 : decode cX6_goesAlong 120 = .ok (.iadd, 1) := dk_96 (dk_at dksX6_goesAlong_5 5 rfl rfl)
theorem dX6_goesAlong_121 : decode cX6_goesAlong 121 = .ok (.putfield 268, 3) := dk_181 1 12 (dk_at dksX6_goesAlong_5 6 rfl rfl)
theorem dX6_goesAlong_124 : decode cX6_goesAlong 124 = .ok (.aload_n 0, 1) := dk_42 (dk_at dksX6_goesAlong_5 9 rfl rfl)
theorem dX6_goesAlong_125 : decode cX6_goesAlong 125 = .ok (.iconst 0, 1) := dk_3 (dk_at dksX6_goesAlong_5 10 rfl rfl)
theorem dX6_goesAlong_126 : decode cX6_goesAlong 126 = .ok (.putfield 278, 3) := dk_181 1 22 (dk_at dksX6_goesAlong_5 11 rfl rfl)
theorem dX6_goesAlong_129 : decode cX6_goesAlong 129 = .ok (.aload_n 0, 1) := dk_42 (dk_at dksX6_goesAlong_5 14 rfl rfl)
theorem dX6_goesAlong_130 : decode cX6_goesAlong 130 = .ok (.aload_n 0, 1) := dk_42 (dk_at dksX6_goesAlong_5 15 rfl rfl)
theorem dX6_goesAlong_131 : decode cX6_goesAlong 131 = .ok (.iconst 4, 1) := dk_7 (dk_at dksX6_goesAlong_5 16 rfl rfl)
theorem dX6_goesAlong_132 : decode cX6_goesAlong 132 = .ok (.invokevirtual 292, 3) := dk_182 1 36 (dk_at dksX6_goesAlong_5 17 rfl rfl)
theorem dX6_goesAlong_135 : decode cX6_goesAlong 135 = .ok (.ifCond .eq 11, 3) := dk_153 0 11 (dk_at dksX6_goesAlong_5 20 rfl rfl)
theorem dX6_goesAlong_138 : decode cX6_goesAlong 138 = .ok (.aload_n 0, 1) := dk_42 (dk_at dksX6_goesAlong_5 23 rfl rfl)
theorem dX6_goesAlong_139 : decode cX6_goesAlong 139 = .ok (.iload_n 2, 1) := dk_28 (dk_at dksX6_goesAlong_6 0 rfl rfl)
theorem dX6_goesAlong_140 : decode cX6_goesAlong 140 = .ok (.invokevirtual 325, 3) := dk_182 1 69 (dk_at dksX6_goesAlong_6 1 rfl rfl)
theorem dX6_goesAlong_143 : decode cX6_goesAlong 143 = .ok (.ifCond .eq 7, 3) := dk_153 0 7 (dk_at dksX6_goesAlong_6 4 rfl rfl)
theorem dX6_goesAlong_146 : decode cX6_goesAlong 146 = .ok (.iconst 1, 1) := dk_4 (dk_at dksX6_goesAlong_6 7 rfl rfl)
theorem dX6_goesAlong_147 : decode cX6_goesAlong 147 = .ok (.goto 4, 3) := dk_167 0 4 (dk_at dksX6_goesAlong_6 8 rfl rfl)
theorem dX6_goesAlong_150 : decode cX6_goesAlong 150 = .ok (.iconst 0, 1) := dk_3 (dk_at dksX6_goesAlong_6 11 rfl rfl)
theorem dX6_goesAlong_151 : decode cX6_goesAlong 151 = .ok (.putfield 489, 3) := dk_181 1 233 (dk_at dksX6_goesAlong_6 12 rfl rfl)
theorem dX6_goesAlong_154 : decode cX6_goesAlong 154 = .ok (.aload_n 0, 1) := dk_42 (dk_at dksX6_goesAlong_6 15 rfl rfl)
theorem dX6_goesAlong_155 : decode cX6_goesAlong 155 = .ok (.aload_n 0, 1) := dk_42 (dk_at dksX6_goesAlong_6 16 rfl rfl)
theorem dX6_goesAlong_156 : decode cX6_goesAlong 156 = .ok (.getfield 489, 3) := dk_180 1 233 (dk_at dksX6_goesAlong_6 17 rfl rfl)
theorem dX6_goesAlong_159 : decode cX6_goesAlong 159 = .ok (.ifCond .eq 14, 3) := dk_153 0 14 (dk_at dksX6_goesAlong_6 20 rfl rfl)
theorem dX6_goesAlong_162 : decode cX6_goesAlong 162 = .ok (.aload_n 0, 1) := dk_42 (dk_at dksX6_goesAlong_6 23 rfl rfl)
theorem dX6_goesAlong_163 : decode cX6_goesAlong 163 = .ok (.getfield 278, 3) := dk_180 1 22 (dk_at dksX6_goesAlong_7 0 rfl rfl)
theorem dX6_goesAlong_166 : decode cX6_goesAlong 166 = .ok (.ifCond .ne 7, 3) := dk_154 0 7 (dk_at dksX6_goesAlong_7 3 rfl rfl)
theorem dX6_goesAlong_169 : decode cX6_goesAlong 169 = .ok (.iconst 1, 1) := dk_4 (dk_at dksX6_goesAlong_7 6 rfl rfl)
theorem dX6_goesAlong_170 : decode cX6_goesAlong 170 = .ok (.goto 4, 3) := dk_167 0 4 (dk_at dksX6_goesAlong_7 7 rfl rfl)
theorem dX6_goesAlong_173 : decode cX6_goesAlong 173 = .ok (.iconst 0, 1) := dk_3 (dk_at dksX6_goesAlong_7 10 rfl rfl)
theorem dX6_goesAlong_174 : decode cX6_goesAlong 174 = .ok (.putfield 489, 3) := dk_181 1 233 (dk_at dksX6_goesAlong_7 11 rfl rfl)
theorem dX6_goesAlong_177 : decode cX6_goesAlong 177 = .ok (.aload_n 0, 1) := dk_42 (dk_at dksX6_goesAlong_7 14 rfl rfl)
theorem dX6_goesAlong_178 : decode cX6_goesAlong 178 = .ok (.dup, 1) := dk_89 (dk_at dksX6_goesAlong_7 15 rfl rfl)
theorem dX6_goesAlong_179 : decode cX6_goesAlong 179 = .ok (.getfield 268, 3) := dk_180 1 12 (dk_at dksX6_goesAlong_7 16 rfl rfl)
theorem dX6_goesAlong_182 : decode cX6_goesAlong 182 = .ok (.iconst 1, 1) := dk_4 (dk_at dksX6_goesAlong_7 19 rfl rfl)
theorem dX6_goesAlong_183 : decode cX6_goesAlong 183 = .ok (.iadd, 1) := dk_96 (dk_at dksX6_goesAlong_7 20 rfl rfl)
theorem dX6_goesAlong_184 : decode cX6_goesAlong 184 = .ok (.putfield 268, 3) := dk_181 1 12 (dk_at dksX6_goesAlong_7 21 rfl rfl)
theorem dX6_goesAlong_187 : decode cX6_goesAlong 187 = .ok (.return_, 1) := dk_177 (dk_at dksX6_goesAlong_8 0 rfl rfl)
abbrev cX6_obeys : ByteArray := prog_24_method_133_code
def yX6_obeys : MethodName := ⟨RX6, "obeys", "()I"⟩
def dkwX6_obeys_3 : List UInt8 := [28, 156, 0, 10, 42, 180, 1, 54, 167, 0, 4, 28, 181, 1, 54, 28, 172]
abbrev dktX6_obeys_3 : List UInt8 := dkwX6_obeys_3 ++ []
def dkwX6_obeys_2 : List UInt8 := [42, 27, 182, 1, 114, 172, 42, 27, 182, 1, 117, 172, 42, 182, 1, 120, 172, 42, 27, 182, 1, 108, 61, 42]
abbrev dktX6_obeys_2 : List UInt8 := dkwX6_obeys_2 ++ dktX6_obeys_3
def dkwX6_obeys_1 : List UInt8 := [170, 0, 0, 0, 0, 0, 0, 45, 0, 0, 0, 22, 0, 0, 0, 24, 0, 0, 0, 28, 0, 0, 0, 34, 0, 0, 0, 40]
abbrev dktX6_obeys_1 : List UInt8 := dkwX6_obeys_1 ++ dktX6_obeys_2
def dkwX6_obeys_0 : List UInt8 := [42, 180, 1, 223, 184, 1, 238, 60, 42, 180, 1, 220]
abbrev dktX6_obeys_0 : List UInt8 := dkwX6_obeys_0 ++ dktX6_obeys_1
theorem dksX6_obeys_0 : cX6_obeys.data.toList.drop 0 = dktX6_obeys_0 := by decide +kernel
theorem dksX6_obeys_1 : cX6_obeys.data.toList.drop 12 = dktX6_obeys_1 := dk_seg dksX6_obeys_0 12 rfl rfl
theorem dksX6_obeys_2 : cX6_obeys.data.toList.drop 40 = dktX6_obeys_2 := dk_seg dksX6_obeys_1 28 rfl rfl
theorem dksX6_obeys_3 : cX6_obeys.data.toList.drop 64 = dktX6_obeys_3 := dk_seg dksX6_obeys_2 24 rfl rfl
theorem dX6_obeys_0 : decode cX6_obeys 0 = .ok (.aload_n 0, 1) := dk_42 (dk_at dksX6_obeys_0 0 rfl rfl)
theorem dX6_obeys_1 : decode cX6_obeys 1 = .ok (.getfield 479, 3) := dk_180 1 223 (dk_at dksX6_obeys_0 1 rfl rfl)
theorem dX6_obeys_4 : decode cX6_obeys 4 = .ok (.invokestatic 494, 3) := dk_184 1 238 (dk_at dksX6_obeys_0 4 rfl rfl)
theorem dX6_obeys_7 : decode cX6_obeys 7 = .ok (.istore_n 1, 1) := dk_60 (dk_at dksX6_obeys_0 7 rfl rfl)
theorem dX6_obeys_8 : decode cX6_obeys 8 = .ok (.aload_n 0, 1) := dk_42 (dk_at dksX6_obeys_0 8 rfl rfl)
theorem dX6_obeys_9 : decode cX6_obeys 9 = .ok (.getfield 476, 3) := dk_180 1 220 (dk_at dksX6_obeys_0 9 rfl rfl)
theorem dX6_obeys_12 : decode cX6_obeys 12 = .ok (.tableswitch 45 22 24 #[28, 34, 40], 28) := by decide +kernel
theorem dX6_obeys_40 : decode cX6_obeys 40 = .ok (.aload_n 0, 1) := dk_42 (dk_at dksX6_obeys_2 0 rfl rfl)
theorem dX6_obeys_41 : decode cX6_obeys 41 = .ok (.iload_n 1, 1) := dk_27 (dk_at dksX6_obeys_2 1 rfl rfl)
theorem dX6_obeys_42 : decode cX6_obeys 42 = .ok (.invokevirtual 370, 3) := dk_182 1 114 (dk_at dksX6_obeys_2 2 rfl rfl)
theorem dX6_obeys_45 : decode cX6_obeys 45 = .ok (.ireturn, 1) := dk_172 (dk_at dksX6_obeys_2 5 rfl rfl)
theorem dX6_obeys_46 : decode cX6_obeys 46 = .ok (.aload_n 0, 1) := dk_42 (dk_at dksX6_obeys_2 6 rfl rfl)
theorem dX6_obeys_47 : decode cX6_obeys 47 = .ok (.iload_n 1, 1) := dk_27 (dk_at dksX6_obeys_2 7 rfl rfl)
theorem dX6_obeys_48 : decode cX6_obeys 48 = .ok (.invokevirtual 373, 3) := dk_182 1 117 (dk_at dksX6_obeys_2 8 rfl rfl)
theorem dX6_obeys_51 : decode cX6_obeys 51 = .ok (.ireturn, 1) := dk_172 (dk_at dksX6_obeys_2 11 rfl rfl)
theorem dX6_obeys_52 : decode cX6_obeys 52 = .ok (.aload_n 0, 1) := dk_42 (dk_at dksX6_obeys_2 12 rfl rfl)
theorem dX6_obeys_53 : decode cX6_obeys 53 = .ok (.invokevirtual 376, 3) := dk_182 1 120 (dk_at dksX6_obeys_2 13 rfl rfl)
theorem dX6_obeys_56 : decode cX6_obeys 56 = .ok (.ireturn, 1) := dk_172 (dk_at dksX6_obeys_2 16 rfl rfl)
theorem dX6_obeys_57 : decode cX6_obeys 57 = .ok (.aload_n 0, 1) := dk_42 (dk_at dksX6_obeys_2 17 rfl rfl)
theorem dX6_obeys_58 : decode cX6_obeys 58 = .ok (.iload_n 1, 1) := dk_27 (dk_at dksX6_obeys_2 18 rfl rfl)
theorem dX6_obeys_59 : decode cX6_obeys 59 = .ok (.invokevirtual 364, 3) := dk_182 1 108 (dk_at dksX6_obeys_2 19 rfl rfl)
theorem dX6_obeys_62 : decode cX6_obeys 62 = .ok (.istore_n 2, 1) := dk_61 (dk_at dksX6_obeys_2 22 rfl rfl)
theorem dX6_obeys_63 : decode cX6_obeys 63 = .ok (.aload_n 0, 1) := dk_42 (dk_at dksX6_obeys_2 23 rfl rfl)
theorem dX6_obeys_64 : decode cX6_obeys 64 = .ok (.iload_n 2, 1) := dk_28 (dk_at dksX6_obeys_3 0 rfl rfl)
theorem dX6_obeys_65 : decode cX6_obeys 65 = .ok (.ifCond .ge 10, 3) := dk_156 0 10 (dk_at dksX6_obeys_3 1 rfl rfl)
theorem dX6_obeys_68 : decode cX6_obeys 68 = .ok (.aload_n 0, 1) := dk_42 (dk_at dksX6_obeys_3 4 rfl rfl)
theorem dX6_obeys_69 : decode cX6_obeys 69 = .ok (.getfield 310, 3) := dk_180 1 54 (dk_at dksX6_obeys_3 5 rfl rfl)
theorem dX6_obeys_72 : decode cX6_obeys 72 = .ok (.goto 4, 3) := dk_167 0 4 (dk_at dksX6_obeys_3 8 rfl rfl)
theorem dX6_obeys_75 : decode cX6_obeys 75 = .ok (.iload_n 2, 1) := dk_28 (dk_at dksX6_obeys_3 11 rfl rfl)
theorem dX6_obeys_76 : decode cX6_obeys 76 = .ok (.putfield 310, 3) := dk_181 1 54 (dk_at dksX6_obeys_3 12 rfl rfl)
theorem dX6_obeys_79 : decode cX6_obeys 79 = .ok (.iload_n 2, 1) := dk_28 (dk_at dksX6_obeys_3 15 rfl rfl)
theorem dX6_obeys_80 : decode cX6_obeys 80 = .ok (.ireturn, 1) := dk_172 (dk_at dksX6_obeys_3 16 rfl rfl)
abbrev cX6_small : ByteArray := prog_24_method_132_code
def yX6_small : MethodName := ⟨RX6, "small", "(J)I"⟩
def dkwX6_small_0 : List UInt8 := [30, 9, 148, 155, 0, 11, 30, 20, 1, 236, 148, 158, 0, 7, 2, 167, 0, 5, 30, 136, 172]
abbrev dktX6_small_0 : List UInt8 := dkwX6_small_0 ++ []
theorem dksX6_small_0 : cX6_small.data.toList.drop 0 = dktX6_small_0 := by decide +kernel
theorem dX6_small_0 : decode cX6_small 0 = .ok (.lload_n 0, 1) := dk_30 (dk_at dksX6_small_0 0 rfl rfl)
theorem dX6_small_1 : decode cX6_small 1 = .ok (.lconst 0, 1) := dk_9 (dk_at dksX6_small_0 1 rfl rfl)
theorem dX6_small_2 : decode cX6_small 2 = .ok (.lcmp, 1) := dk_148 (dk_at dksX6_small_0 2 rfl rfl)
theorem dX6_small_3 : decode cX6_small 3 = .ok (.ifCond .lt 11, 3) := dk_155 0 11 (dk_at dksX6_small_0 3 rfl rfl)
theorem dX6_small_6 : decode cX6_small 6 = .ok (.lload_n 0, 1) := dk_30 (dk_at dksX6_small_0 6 rfl rfl)
theorem dX6_small_7 : decode cX6_small 7 = .ok (.ldc2_w 492, 3) := dk_20 1 236 (dk_at dksX6_small_0 7 rfl rfl)
theorem dX6_small_10 : decode cX6_small 10 = .ok (.lcmp, 1) := dk_148 (dk_at dksX6_small_0 10 rfl rfl)
theorem dX6_small_11 : decode cX6_small 11 = .ok (.ifCond .le 7, 3) := dk_158 0 7 (dk_at dksX6_small_0 11 rfl rfl)
theorem dX6_small_14 : decode cX6_small 14 = .ok (.iconst (-1), 1) := dk_2 (dk_at dksX6_small_0 14 rfl rfl)
theorem dX6_small_15 : decode cX6_small 15 = .ok (.goto 5, 3) := dk_167 0 5 (dk_at dksX6_small_0 15 rfl rfl)
theorem dX6_small_18 : decode cX6_small 18 = .ok (.lload_n 0, 1) := dk_30 (dk_at dksX6_small_0 18 rfl rfl)
theorem dX6_small_19 : decode cX6_small 19 = .ok (.l2i, 1) := dk_136 (dk_at dksX6_small_0 19 rfl rfl)
theorem dX6_small_20 : decode cX6_small 20 = .ok (.ireturn, 1) := dk_172 (dk_at dksX6_small_0 20 rfl rfl)
abbrev cX6_takesBack : ByteArray := prog_24_method_11_code
def yX6_takesBack : MethodName := ⟨RX6, "takesBack", "(I)V"⟩
def dkwX6_takesBack_1 : List UInt8 := [79, 132, 2, 1, 167, 255, 230, 177]
abbrev dktX6_takesBack_1 : List UInt8 := dkwX6_takesBack_1 ++ []
def dkwX6_takesBack_0 : List UInt8 := [3, 61, 28, 16, 6, 162, 0, 26, 42, 180, 0, 24, 28, 42, 180, 0, 34, 16, 6, 27, 104, 28, 96, 46]
abbrev dktX6_takesBack_0 : List UInt8 := dkwX6_takesBack_0 ++ dktX6_takesBack_1
theorem dksX6_takesBack_0 : cX6_takesBack.data.toList.drop 0 = dktX6_takesBack_0 := by decide +kernel
theorem dksX6_takesBack_1 : cX6_takesBack.data.toList.drop 24 = dktX6_takesBack_1 := dk_seg dksX6_takesBack_0 24 rfl rfl
theorem dX6_takesBack_0 : decode cX6_takesBack 0 = .ok (.iconst 0, 1) := dk_3 (dk_at dksX6_takesBack_0 0 rfl rfl)
theorem dX6_takesBack_1 : decode cX6_takesBack 1 = .ok (.istore_n 2, 1) := dk_61 (dk_at dksX6_takesBack_0 1 rfl rfl)
theorem dX6_takesBack_2 : decode cX6_takesBack 2 = .ok (.iload_n 2, 1) := dk_28 (dk_at dksX6_takesBack_0 2 rfl rfl)
theorem dX6_takesBack_3 : decode cX6_takesBack 3 = .ok (.bipush 6, 2) := dk_16 6 (dk_at dksX6_takesBack_0 3 rfl rfl)
theorem dX6_takesBack_5 : decode cX6_takesBack 5 = .ok (.if_icmp .ge 26, 3) := dk_162 0 26 (dk_at dksX6_takesBack_0 5 rfl rfl)
theorem dX6_takesBack_8 : decode cX6_takesBack 8 = .ok (.aload_n 0, 1) := dk_42 (dk_at dksX6_takesBack_0 8 rfl rfl)
theorem dX6_takesBack_9 : decode cX6_takesBack 9 = .ok (.getfield 24, 3) := dk_180 0 24 (dk_at dksX6_takesBack_0 9 rfl rfl)
theorem dX6_takesBack_12 : decode cX6_takesBack 12 = .ok (.iload_n 2, 1) := dk_28 (dk_at dksX6_takesBack_0 12 rfl rfl)
theorem dX6_takesBack_13 : decode cX6_takesBack 13 = .ok (.aload_n 0, 1) := dk_42 (dk_at dksX6_takesBack_0 13 rfl rfl)
theorem dX6_takesBack_14 : decode cX6_takesBack 14 = .ok (.getfield 34, 3) := dk_180 0 34 (dk_at dksX6_takesBack_0 14 rfl rfl)
theorem dX6_takesBack_17 : decode cX6_takesBack 17 = .ok (.bipush 6, 2) := dk_16 6 (dk_at dksX6_takesBack_0 17 rfl rfl)
theorem dX6_takesBack_19 : decode cX6_takesBack 19 = .ok (.iload_n 1, 1) := dk_27 (dk_at dksX6_takesBack_0 19 rfl rfl)
theorem dX6_takesBack_20 : decode cX6_takesBack 20 = .ok (.imul, 1) := dk_104 (dk_at dksX6_takesBack_0 20 rfl rfl)
theorem dX6_takesBack_21 : decode cX6_takesBack 21 = .ok (.iload_n 2, 1) := dk_28 (dk_at dksX6_takesBack_0 21 rfl rfl)
theorem dX6_takesBack_22 : decode cX6_takesBack 22 = .ok (.iadd, 1) := dk_96 (dk_at dksX6_takesBack_0 22 rfl rfl)
theorem dX6_takesBack_23 : decode cX6_takesBack 23 = .ok (.iaload, 1) := dk_46 (dk_at dksX6_takesBack_0 23 rfl rfl)
theorem dX6_takesBack_24 : decode cX6_takesBack 24 = .ok (.iastore, 1) := dk_79 (dk_at dksX6_takesBack_1 0 rfl rfl)
theorem dX6_takesBack_25 : decode cX6_takesBack 25 = .ok (.iinc 2 1, 3) := dk_132 2 1 (dk_at dksX6_takesBack_1 1 rfl rfl)
theorem dX6_takesBack_28 : decode cX6_takesBack 28 = .ok (.goto (-26), 3) := dk_167 255 230 (dk_at dksX6_takesBack_1 4 rfl rfl)
theorem dX6_takesBack_31 : decode cX6_takesBack 31 = .ok (.return_, 1) := dk_177 (dk_at dksX6_takesBack_1 7 rfl rfl)
abbrev cX6_shows : ByteArray := prog_24_method_137_code
def yX6_shows : MethodName := ⟨RX6, "shows", "(II)I"⟩
def dkwX6_shows_6 : List UInt8 := [182, 1, 217, 42, 29, 182, 0, 14, 172]
abbrev dktX6_shows_6 : List UInt8 := dkwX6_shows_6 ++ []
def dkwX6_shows_5 : List UInt8 := [42, 180, 0, 96, 21, 4, 42, 180, 0, 24, 21, 4, 46, 79, 132, 4, 1, 167, 255, 232, 42, 3]
abbrev dktX6_shows_5 : List UInt8 := dkwX6_shows_5 ++ dktX6_shows_6
def dkwX6_shows_4 : List UInt8 := [182, 2, 7, 132, 3, 1, 167, 255, 232, 42, 182, 1, 57, 62, 3, 54, 4, 21, 4, 16, 6, 162, 0, 23]
abbrev dktX6_shows_4 : List UInt8 := dkwX6_shows_4 ++ dktX6_shows_5
def dkwX6_shows_3 : List UInt8 := [182, 1, 208, 3, 62, 29, 28, 162, 0, 25, 42, 180, 0, 24, 8, 46, 17, 3, 231, 162, 0, 13, 42]
abbrev dktX6_shows_3 : List UInt8 := dkwX6_shows_3 ++ dktX6_shows_4
def dkwX6_shows_2 : List UInt8 := [172, 42, 27, 181, 1, 250, 42, 42, 182, 0, 112, 181, 0, 99, 42, 42, 182, 0, 116, 181, 2, 4, 42, 3]
abbrev dktX6_shows_2 : List UInt8 := dkwX6_shows_2 ++ dktX6_shows_3
def dkwX6_shows_1 : List UInt8 := [182, 0, 106, 172, 42, 182, 0, 112, 153, 0, 10, 42, 182, 0, 116, 154, 0, 10, 42, 16, 253, 182, 0, 106]
abbrev dktX6_shows_1 : List UInt8 := dkwX6_shows_1 ++ dktX6_shows_2
def dkwX6_shows_0 : List UInt8 := [27, 3, 18, 177, 184, 0, 102, 153, 0, 13, 28, 4, 16, 60, 184, 0, 102, 154, 0, 9, 42, 2]
abbrev dktX6_shows_0 : List UInt8 := dkwX6_shows_0 ++ dktX6_shows_1
theorem dksX6_shows_0 : cX6_shows.data.toList.drop 0 = dktX6_shows_0 := by decide +kernel
theorem dksX6_shows_1 : cX6_shows.data.toList.drop 22 = dktX6_shows_1 := dk_seg dksX6_shows_0 22 rfl rfl
theorem dksX6_shows_2 : cX6_shows.data.toList.drop 46 = dktX6_shows_2 := dk_seg dksX6_shows_1 24 rfl rfl
theorem dksX6_shows_3 : cX6_shows.data.toList.drop 70 = dktX6_shows_3 := dk_seg dksX6_shows_2 24 rfl rfl
theorem dksX6_shows_4 : cX6_shows.data.toList.drop 93 = dktX6_shows_4 := dk_seg dksX6_shows_3 23 rfl rfl
theorem dksX6_shows_5 : cX6_shows.data.toList.drop 117 = dktX6_shows_5 := dk_seg dksX6_shows_4 24 rfl rfl
theorem dksX6_shows_6 : cX6_shows.data.toList.drop 139 = dktX6_shows_6 := dk_seg dksX6_shows_5 22 rfl rfl
theorem dX6_shows_0 : decode cX6_shows 0 = .ok (.iload_n 1, 1) := dk_27 (dk_at dksX6_shows_0 0 rfl rfl)
theorem dX6_shows_1 : decode cX6_shows 1 = .ok (.iconst 0, 1) := dk_3 (dk_at dksX6_shows_0 1 rfl rfl)
theorem dX6_shows_2 : decode cX6_shows 2 = .ok (.ldc 177, 2) := dk_18 177 (dk_at dksX6_shows_0 2 rfl rfl)
theorem dX6_shows_4 : decode cX6_shows 4 = .ok (.invokestatic 102, 3) := dk_184 0 102 (dk_at dksX6_shows_0 4 rfl rfl)
theorem dX6_shows_7 : decode cX6_shows 7 = .ok (.ifCond .eq 13, 3) := dk_153 0 13 (dk_at dksX6_shows_0 7 rfl rfl)
theorem dX6_shows_10 : decode cX6_shows 10 = .ok (.iload_n 2, 1) := dk_28 (dk_at dksX6_shows_0 10 rfl rfl)
theorem dX6_shows_11 : decode cX6_shows 11 = .ok (.iconst 1, 1) := dk_4 (dk_at dksX6_shows_0 11 rfl rfl)
theorem dX6_shows_12 : decode cX6_shows 12 = .ok (.bipush 60, 2) := dk_16 60 (dk_at dksX6_shows_0 12 rfl rfl)
theorem dX6_shows_14 : decode cX6_shows 14 = .ok (.invokestatic 102, 3) := dk_184 0 102 (dk_at dksX6_shows_0 14 rfl rfl)
theorem dX6_shows_17 : decode cX6_shows 17 = .ok (.ifCond .ne 9, 3) := dk_154 0 9 (dk_at dksX6_shows_0 17 rfl rfl)
theorem dX6_shows_20 : decode cX6_shows 20 = .ok (.aload_n 0, 1) := dk_42 (dk_at dksX6_shows_0 20 rfl rfl)
theorem dX6_shows_21 : decode cX6_shows 21 = .ok (.iconst (-1), 1) := dk_2 (dk_at dksX6_shows_0 21 rfl rfl)
theorem dX6_shows_22 : decode cX6_shows 22 = .ok (.invokevirtual 106, 3) := dk_182 0 106 (dk_at dksX6_shows_1 0 rfl rfl)
theorem dX6_shows_25 : decode cX6_shows 25 = .ok (.ireturn, 1) := dk_172 (dk_at dksX6_shows_1 3 rfl rfl)
theorem dX6_shows_26 : decode cX6_shows 26 = .ok (.aload_n 0, 1) := dk_42 (dk_at dksX6_shows_1 4 rfl rfl)
theorem dX6_shows_27 : decode cX6_shows 27 = .ok (.invokevirtual 112, 3) := dk_182 0 112 (dk_at dksX6_shows_1 5 rfl rfl)
theorem dX6_shows_30 : decode cX6_shows 30 = .ok (.ifCond .eq 10, 3) := dk_153 0 10 (dk_at dksX6_shows_1 8 rfl rfl)
theorem dX6_shows_33 : decode cX6_shows 33 = .ok (.aload_n 0, 1) := dk_42 (dk_at dksX6_shows_1 11 rfl rfl)
theorem dX6_shows_34 : decode cX6_shows 34 = .ok (.invokevirtual 116, 3) := dk_182 0 116 (dk_at dksX6_shows_1 12 rfl rfl)
theorem dX6_shows_37 : decode cX6_shows 37 = .ok (.ifCond .ne 10, 3) := dk_154 0 10 (dk_at dksX6_shows_1 15 rfl rfl)
theorem dX6_shows_40 : decode cX6_shows 40 = .ok (.aload_n 0, 1) := dk_42 (dk_at dksX6_shows_1 18 rfl rfl)
theorem dX6_shows_41 : decode cX6_shows 41 = .ok (.bipush (-3), 2) := dk_16 253 (dk_at dksX6_shows_1 19 rfl rfl)
theorem dX6_shows_43 : decode cX6_shows 43 = .ok (.invokevirtual 106, 3) := dk_182 0 106 (dk_at dksX6_shows_1 21 rfl rfl)
theorem dX6_shows_46 : decode cX6_shows 46 = .ok (.ireturn, 1) := dk_172 (dk_at dksX6_shows_2 0 rfl rfl)
theorem dX6_shows_47 : decode cX6_shows 47 = .ok (.aload_n 0, 1) := dk_42 (dk_at dksX6_shows_2 1 rfl rfl)
theorem dX6_shows_48 : decode cX6_shows 48 = .ok (.iload_n 1, 1) := dk_27 (dk_at dksX6_shows_2 2 rfl rfl)
theorem dX6_shows_49 : decode cX6_shows 49 = .ok (.putfield 506, 3) := dk_181 1 250 (dk_at dksX6_shows_2 3 rfl rfl)
theorem dX6_shows_52 : decode cX6_shows 52 = .ok (.aload_n 0, 1) := dk_42 (dk_at dksX6_shows_2 6 rfl rfl)
theorem dX6_shows_53 : decode cX6_shows 53 = .ok (.aload_n 0, 1) := dk_42 (dk_at dksX6_shows_2 7 rfl rfl)
theorem dX6_shows_54 : decode cX6_shows 54 = .ok (.invokevirtual 112, 3) := dk_182 0 112 (dk_at dksX6_shows_2 8 rfl rfl)
theorem dX6_shows_57 : decode cX6_shows 57 = .ok (.putfield 99, 3) := dk_181 0 99 (dk_at dksX6_shows_2 11 rfl rfl)
theorem dX6_shows_60 : decode cX6_shows 60 = .ok (.aload_n 0, 1) := dk_42 (dk_at dksX6_shows_2 14 rfl rfl)
theorem dX6_shows_61 : decode cX6_shows 61 = .ok (.aload_n 0, 1) := dk_42 (dk_at dksX6_shows_2 15 rfl rfl)
theorem dX6_shows_62 : decode cX6_shows 62 = .ok (.invokevirtual 116, 3) := dk_182 0 116 (dk_at dksX6_shows_2 16 rfl rfl)
theorem dX6_shows_65 : decode cX6_shows 65 = .ok (.putfield 516, 3) := dk_181 2 4 (dk_at dksX6_shows_2 19 rfl rfl)
theorem dX6_shows_68 : decode cX6_shows 68 = .ok (.aload_n 0, 1) := dk_42 (dk_at dksX6_shows_2 22 rfl rfl)
theorem dX6_shows_69 : decode cX6_shows 69 = .ok (.iconst 0, 1) := dk_3 (dk_at dksX6_shows_2 23 rfl rfl)
theorem dX6_shows_70 : decode cX6_shows 70 = .ok (.invokevirtual 464, 3) := dk_182 1 208 (dk_at dksX6_shows_3 0 rfl rfl)
theorem dX6_shows_73 : decode cX6_shows 73 = .ok (.iconst 0, 1) := dk_3 (dk_at dksX6_shows_3 3 rfl rfl)
theorem dX6_shows_74 : decode cX6_shows 74 = .ok (.istore_n 3, 1) := dk_62 (dk_at dksX6_shows_3 4 rfl rfl)
theorem dX6_shows_75 : decode cX6_shows 75 = .ok (.iload_n 3, 1) := dk_29 (dk_at dksX6_shows_3 5 rfl rfl)
theorem dX6_shows_76 : decode cX6_shows 76 = .ok (.iload_n 2, 1) := dk_28 (dk_at dksX6_shows_3 6 rfl rfl)
theorem dX6_shows_77 : decode cX6_shows 77 = .ok (.if_icmp .ge 25, 3) := dk_162 0 25 (dk_at dksX6_shows_3 7 rfl rfl)
theorem dX6_shows_80 : decode cX6_shows 80 = .ok (.aload_n 0, 1) := dk_42 (dk_at dksX6_shows_3 10 rfl rfl)
theorem dX6_shows_81 : decode cX6_shows 81 = .ok (.getfield 24, 3) := dk_180 0 24 (dk_at dksX6_shows_3 11 rfl rfl)
theorem dX6_shows_84 : decode cX6_shows 84 = .ok (.iconst 5, 1) := dk_8 (dk_at dksX6_shows_3 14 rfl rfl)
theorem dX6_shows_85 : decode cX6_shows 85 = .ok (.iaload, 1) := dk_46 (dk_at dksX6_shows_3 15 rfl rfl)
theorem dX6_shows_86 : decode cX6_shows 86 = .ok (.sipush 999, 3) := dk_17 3 231 (dk_at dksX6_shows_3 16 rfl rfl)
theorem dX6_shows_89 : decode cX6_shows 89 = .ok (.if_icmp .ge 13, 3) := dk_162 0 13 (dk_at dksX6_shows_3 19 rfl rfl)
theorem dX6_shows_92 : decode cX6_shows 92 = .ok (.aload_n 0, 1) := dk_42 (dk_at dksX6_shows_3 22 rfl rfl)
theorem dX6_shows_93 : decode cX6_shows 93 = .ok (.invokevirtual 519, 3) := dk_182 2 7 (dk_at dksX6_shows_4 0 rfl rfl)
theorem dX6_shows_96 : decode cX6_shows 96 = .ok (.iinc 3 1, 3) := dk_132 3 1 (dk_at dksX6_shows_4 3 rfl rfl)
theorem dX6_shows_99 : decode cX6_shows 99 = .ok (.goto (-24), 3) := dk_167 255 232 (dk_at dksX6_shows_4 6 rfl rfl)
theorem dX6_shows_102 : decode cX6_shows 102 = .ok (.aload_n 0, 1) := dk_42 (dk_at dksX6_shows_4 9 rfl rfl)
theorem dX6_shows_103 : decode cX6_shows 103 = .ok (.invokevirtual 313, 3) := dk_182 1 57 (dk_at dksX6_shows_4 10 rfl rfl)
theorem dX6_shows_106 : decode cX6_shows 106 = .ok (.istore_n 3, 1) := dk_62 (dk_at dksX6_shows_4 13 rfl rfl)
theorem dX6_shows_107 : decode cX6_shows 107 = .ok (.iconst 0, 1) := dk_3 (dk_at dksX6_shows_4 14 rfl rfl)
theorem dX6_shows_108 : decode cX6_shows 108 = .ok (.istore 4, 2) := dk_54 4 (dk_at dksX6_shows_4 15 rfl rfl)
theorem dX6_shows_110 : decode cX6_shows 110 = .ok (.iload 4, 2) := dk_21 4 (dk_at dksX6_shows_4 17 rfl rfl)
theorem dX6_shows_112 : decode cX6_shows 112 = .ok (.bipush 6, 2) := dk_16 6 (dk_at dksX6_shows_4 19 rfl rfl)
theorem dX6_shows_114 : decode cX6_shows 114 = .ok (.if_icmp .ge 23, 3) := dk_162 0 23 (dk_at dksX6_shows_4 21 rfl rfl)
theorem dX6_shows_117 : decode cX6_shows 117 = .ok (.aload_n 0, 1) := dk_42 (dk_at dksX6_shows_5 0 rfl rfl)
theorem dX6_shows_118 : decode cX6_shows 118 = .ok (.getfield 96, 3) := dk_180 0 96 (dk_at dksX6_shows_5 1 rfl rfl)
theorem dX6_shows_121 : decode cX6_shows 121 = .ok (.iload 4, 2) := dk_21 4 (dk_at dksX6_shows_5 4 rfl rfl)
theorem dX6_shows_123 : decode cX6_shows 123 = .ok (.aload_n 0, 1) := dk_42 (dk_at dksX6_shows_5 6 rfl rfl)
theorem dX6_shows_124 : decode cX6_shows 124 = .ok (.getfield 24, 3) := dk_180 0 24 (dk_at dksX6_shows_5 7 rfl rfl)
theorem dX6_shows_127 : decode cX6_shows 127 = .ok (.iload 4, 2) := dk_21 4 (dk_at dksX6_shows_5 10 rfl rfl)
theorem dX6_shows_129 : decode cX6_shows 129 = .ok (.iaload, 1) := dk_46 (dk_at dksX6_shows_5 12 rfl rfl)
theorem dX6_shows_130 : decode cX6_shows 130 = .ok (.iastore, 1) := dk_79 (dk_at dksX6_shows_5 13 rfl rfl)
theorem dX6_shows_131 : decode cX6_shows 131 = .ok (.iinc 4 1, 3) := dk_132 4 1 (dk_at dksX6_shows_5 14 rfl rfl)
theorem dX6_shows_134 : decode cX6_shows 134 = .ok (.goto (-24), 3) := dk_167 255 232 (dk_at dksX6_shows_5 17 rfl rfl)
theorem dX6_shows_137 : decode cX6_shows 137 = .ok (.aload_n 0, 1) := dk_42 (dk_at dksX6_shows_5 20 rfl rfl)
theorem dX6_shows_138 : decode cX6_shows 138 = .ok (.iconst 0, 1) := dk_3 (dk_at dksX6_shows_5 21 rfl rfl)
theorem dX6_shows_139 : decode cX6_shows 139 = .ok (.invokevirtual 473, 3) := dk_182 1 217 (dk_at dksX6_shows_6 0 rfl rfl)
theorem dX6_shows_142 : decode cX6_shows 142 = .ok (.aload_n 0, 1) := dk_42 (dk_at dksX6_shows_6 3 rfl rfl)
theorem dX6_shows_143 : decode cX6_shows 143 = .ok (.iload_n 3, 1) := dk_29 (dk_at dksX6_shows_6 4 rfl rfl)
theorem dX6_shows_144 : decode cX6_shows 144 = .ok (.invokevirtual 14, 3) := dk_182 0 14 (dk_at dksX6_shows_6 5 rfl rfl)
theorem dX6_shows_147 : decode cX6_shows 147 = .ok (.ireturn, 1) := dk_172 (dk_at dksX6_shows_6 8 rfl rfl)
abbrev cX6_showDay : ByteArray := prog_24_method_136_code
def yX6_showDay : MethodName := ⟨RX6, "showDay", "()V"⟩
def dkwX6_showDay_4 : List UInt8 := [162, 0, 8, 42, 182, 1, 105, 87, 177]
abbrev dktX6_showDay_4 : List UInt8 := dkwX6_showDay_4 ++ []
def dkwX6_showDay_3 : List UInt8 := [180, 0, 24, 3, 92, 46, 4, 27, 120, 2, 130, 126, 79, 42, 180, 0, 24, 8, 46, 17, 3, 231]
abbrev dktX6_showDay_3 : List UInt8 := dkwX6_showDay_3 ++ dktX6_showDay_4
def dkwX6_showDay_2 : List UInt8 := [42, 180, 0, 24, 4, 28, 96, 3, 79, 29, 6, 160, 0, 25, 42, 27, 182, 1, 102, 153, 0, 17, 42]
abbrev dktX6_showDay_2 : List UInt8 := dkwX6_showDay_2 ++ dktX6_showDay_3
def dkwX6_showDay_1 : List UInt8 := [29, 5, 162, 0, 17, 42, 27, 182, 1, 93, 153, 0, 9, 42, 27, 182, 1, 99, 87, 29, 5, 160, 0, 12]
abbrev dktX6_showDay_1 : List UInt8 := dkwX6_showDay_1 ++ dktX6_showDay_2
def dkwX6_showDay_0 : List UInt8 := [42, 42, 182, 0, 112, 182, 2, 1, 60, 42, 42, 182, 0, 116, 182, 2, 1, 61, 42, 7, 182, 2, 1, 62]
abbrev dktX6_showDay_0 : List UInt8 := dkwX6_showDay_0 ++ dktX6_showDay_1
theorem dksX6_showDay_0 : cX6_showDay.data.toList.drop 0 = dktX6_showDay_0 := by decide +kernel
theorem dksX6_showDay_1 : cX6_showDay.data.toList.drop 24 = dktX6_showDay_1 := dk_seg dksX6_showDay_0 24 rfl rfl
theorem dksX6_showDay_2 : cX6_showDay.data.toList.drop 48 = dktX6_showDay_2 := dk_seg dksX6_showDay_1 24 rfl rfl
theorem dksX6_showDay_3 : cX6_showDay.data.toList.drop 71 = dktX6_showDay_3 := dk_seg dksX6_showDay_2 23 rfl rfl
theorem dksX6_showDay_4 : cX6_showDay.data.toList.drop 93 = dktX6_showDay_4 := dk_seg dksX6_showDay_3 22 rfl rfl
theorem dX6_showDay_0 : decode cX6_showDay 0 = .ok (.aload_n 0, 1) := dk_42 (dk_at dksX6_showDay_0 0 rfl rfl)
theorem dX6_showDay_1 : decode cX6_showDay 1 = .ok (.aload_n 0, 1) := dk_42 (dk_at dksX6_showDay_0 1 rfl rfl)
theorem dX6_showDay_2 : decode cX6_showDay 2 = .ok (.invokevirtual 112, 3) := dk_182 0 112 (dk_at dksX6_showDay_0 2 rfl rfl)
theorem dX6_showDay_5 : decode cX6_showDay 5 = .ok (.invokevirtual 513, 3) := dk_182 2 1 (dk_at dksX6_showDay_0 5 rfl rfl)
theorem dX6_showDay_8 : decode cX6_showDay 8 = .ok (.istore_n 1, 1) := dk_60 (dk_at dksX6_showDay_0 8 rfl rfl)
theorem dX6_showDay_9 : decode cX6_showDay 9 = .ok (.aload_n 0, 1) := dk_42 (dk_at dksX6_showDay_0 9 rfl rfl)
theorem dX6_showDay_10 : decode cX6_showDay 10 = .ok (.aload_n 0, 1) := dk_42 (dk_at dksX6_showDay_0 10 rfl rfl)
theorem dX6_showDay_11 : decode cX6_showDay 11 = .ok (.invokevirtual 116, 3) := dk_182 0 116 (dk_at dksX6_showDay_0 11 rfl rfl)
theorem dX6_showDay_14 : decode cX6_showDay 14 = .ok (.invokevirtual 513, 3) := dk_182 2 1 (dk_at dksX6_showDay_0 14 rfl rfl)
theorem dX6_showDay_17 : decode cX6_showDay 17 = .ok (.istore_n 2, 1) := dk_61 (dk_at dksX6_showDay_0 17 rfl rfl)
theorem dX6_showDay_18 : decode cX6_showDay 18 = .ok (.aload_n 0, 1) := dk_42 (dk_at dksX6_showDay_0 18 rfl rfl)
theorem dX6_showDay_19 : decode cX6_showDay 19 = .ok (.iconst 4, 1) := dk_7 (dk_at dksX6_showDay_0 19 rfl rfl)
theorem dX6_showDay_20 : decode cX6_showDay 20 = .ok (.invokevirtual 513, 3) := dk_182 2 1 (dk_at dksX6_showDay_0 20 rfl rfl)
theorem dX6_showDay_23 : decode cX6_showDay 23 = .ok (.istore_n 3, 1) := dk_62 (dk_at dksX6_showDay_0 23 rfl rfl)
theorem dX6_showDay_24 : decode cX6_showDay 24 = .ok (.iload_n 3, 1) := dk_29 (dk_at dksX6_showDay_1 0 rfl rfl)
theorem dX6_showDay_25 : decode cX6_showDay 25 = .ok (.iconst 2, 1) := dk_5 (dk_at dksX6_showDay_1 1 rfl rfl)
theorem dX6_showDay_26 : decode cX6_showDay 26 = .ok (.if_icmp .ge 17, 3) := dk_162 0 17 (dk_at dksX6_showDay_1 2 rfl rfl)
theorem dX6_showDay_29 : decode cX6_showDay 29 = .ok (.aload_n 0, 1) := dk_42 (dk_at dksX6_showDay_1 5 rfl rfl)
theorem dX6_showDay_30 : decode cX6_showDay 30 = .ok (.iload_n 1, 1) := dk_27 (dk_at dksX6_showDay_1 6 rfl rfl)
theorem dX6_showDay_31 : decode cX6_showDay 31 = .ok (.invokevirtual 349, 3) := dk_182 1 93 (dk_at dksX6_showDay_1 7 rfl rfl)
theorem dX6_showDay_34 : decode cX6_showDay 34 = .ok (.ifCond .eq 9, 3) := dk_153 0 9 (dk_at dksX6_showDay_1 10 rfl rfl)
theorem dX6_showDay_37 : decode cX6_showDay 37 = .ok (.aload_n 0, 1) := dk_42 (dk_at dksX6_showDay_1 13 rfl rfl)
theorem dX6_showDay_38 : decode cX6_showDay 38 = .ok (.iload_n 1, 1) := dk_27 (dk_at dksX6_showDay_1 14 rfl rfl)
theorem dX6_showDay_39 : decode cX6_showDay 39 = .ok (.invokevirtual 355, 3) := dk_182 1 99 (dk_at dksX6_showDay_1 15 rfl rfl)
theorem dX6_showDay_42 : decode cX6_showDay 42 = .ok (.pop, 1) := dk_87 (dk_at dksX6_showDay_1 18 rfl rfl)
theorem dX6_showDay_43 : decode cX6_showDay 43 = .ok (.iload_n 3, 1) := dk_29 (dk_at dksX6_showDay_1 19 rfl rfl)
theorem dX6_showDay_44 : decode cX6_showDay 44 = .ok (.iconst 2, 1) := dk_5 (dk_at dksX6_showDay_1 20 rfl rfl)
theorem dX6_showDay_45 : decode cX6_showDay 45 = .ok (.if_icmp .ne 12, 3) := dk_160 0 12 (dk_at dksX6_showDay_1 21 rfl rfl)
theorem dX6_showDay_48 : decode cX6_showDay 48 = .ok (.aload_n 0, 1) := dk_42 (dk_at dksX6_showDay_2 0 rfl rfl)
theorem dX6_showDay_49 : decode cX6_showDay 49 = .ok (.getfield 24, 3) := dk_180 0 24 (dk_at dksX6_showDay_2 1 rfl rfl)
theorem dX6_showDay_52 : decode cX6_showDay 52 = .ok (.iconst 1, 1) := dk_4 (dk_at dksX6_showDay_2 4 rfl rfl)
theorem dX6_showDay_53 : decode cX6_showDay 53 = .ok (.iload_n 2, 1) := dk_28 (dk_at dksX6_showDay_2 5 rfl rfl)
theorem dX6_showDay_54 : decode cX6_showDay 54 = .ok (.iadd, 1) := dk_96 (dk_at dksX6_showDay_2 6 rfl rfl)
theorem dX6_showDay_55 : decode cX6_showDay 55 = .ok (.iconst 0, 1) := dk_3 (dk_at dksX6_showDay_2 7 rfl rfl)
theorem dX6_showDay_56 : decode cX6_showDay 56 = .ok (.iastore, 1) := dk_79 (dk_at dksX6_showDay_2 8 rfl rfl)
theorem dX6_showDay_57 : decode cX6_showDay 57 = .ok (.iload_n 3, 1) := dk_29 (dk_at dksX6_showDay_2 9 rfl rfl)
theorem dX6_showDay_58 : decode cX6_showDay 58 = .ok (.iconst 3, 1) := dk_6 (dk_at dksX6_showDay_2 10 rfl rfl)
theorem dX6_showDay_59 : decode cX6_showDay 59 = .ok (.if_icmp .ne 25, 3) := dk_160 0 25 (dk_at dksX6_showDay_2 11 rfl rfl)
theorem dX6_showDay_62 : decode cX6_showDay 62 = .ok (.aload_n 0, 1) := dk_42 (dk_at dksX6_showDay_2 14 rfl rfl)
theorem dX6_showDay_63 : decode cX6_showDay 63 = .ok (.iload_n 1, 1) := dk_27 (dk_at dksX6_showDay_2 15 rfl rfl)
theorem dX6_showDay_64 : decode cX6_showDay 64 = .ok (.invokevirtual 358, 3) := dk_182 1 102 (dk_at dksX6_showDay_2 16 rfl rfl)
theorem dX6_showDay_67 : decode cX6_showDay 67 = .ok (.ifCond .eq 17, 3) := dk_153 0 17 (dk_at dksX6_showDay_2 19 rfl rfl)
theorem dX6_showDay_70 : decode cX6_showDay 70 = .ok (.aload_n 0, 1) := dk_42 (dk_at dksX6_showDay_2 22 rfl rfl)
theorem dX6_showDay_71 : decode cX6_showDay 71 = .ok (.getfield 24, 3) := dk_180 0 24 (dk_at dksX6_showDay_3 0 rfl rfl)
theorem dX6_showDay_74 : decode cX6_showDay 74 = .ok (.iconst 0, 1) := dk_3 (dk_at dksX6_showDay_3 3 rfl rfl)
theorem dX6_showDay_75 : decode cX6_showDay 75 = .ok (.dup2, 1) := dk_92 (dk_at dksX6_showDay_3 4 rfl rfl)
theorem dX6_showDay_76 : decode cX6_showDay 76 = .ok (.iaload, 1) := dk_46 (dk_at dksX6_showDay_3 5 rfl rfl)
theorem dX6_showDay_77 : decode cX6_showDay 77 = .ok (.iconst 1, 1) := dk_4 (dk_at dksX6_showDay_3 6 rfl rfl)
theorem dX6_showDay_78 : decode cX6_showDay 78 = .ok (.iload_n 1, 1) := dk_27 (dk_at dksX6_showDay_3 7 rfl rfl)
theorem dX6_showDay_79 : decode cX6_showDay 79 = .ok (.ishl, 1) := dk_120 (dk_at dksX6_showDay_3 8 rfl rfl)
theorem dX6_showDay_80 : decode cX6_showDay 80 = .ok (.iconst (-1), 1) := dk_2 (dk_at dksX6_showDay_3 9 rfl rfl)
theorem dX6_showDay_81 : decode cX6_showDay 81 = .ok (.ixor, 1) := dk_130 (dk_at dksX6_showDay_3 10 rfl rfl)
theorem dX6_showDay_82 : decode cX6_showDay 82 = .ok (.iand, 1) := dk_126 (dk_at dksX6_showDay_3 11 rfl rfl)
theorem dX6_showDay_83 : decode cX6_showDay 83 = .ok (.iastore, 1) := dk_79 (dk_at dksX6_showDay_3 12 rfl rfl)
theorem dX6_showDay_84 : decode cX6_showDay 84 = .ok (.aload_n 0, 1) := dk_42 (dk_at dksX6_showDay_3 13 rfl rfl)
theorem dX6_showDay_85 : decode cX6_showDay 85 = .ok (.getfield 24, 3) := dk_180 0 24 (dk_at dksX6_showDay_3 14 rfl rfl)
theorem dX6_showDay_88 : decode cX6_showDay 88 = .ok (.iconst 5, 1) := dk_8 (dk_at dksX6_showDay_3 17 rfl rfl)
theorem dX6_showDay_89 : decode cX6_showDay 89 = .ok (.iaload, 1) := dk_46 (dk_at dksX6_showDay_3 18 rfl rfl)
theorem dX6_showDay_90 : decode cX6_showDay 90 = .ok (.sipush 999, 3) := dk_17 3 231 (dk_at dksX6_showDay_3 19 rfl rfl)
theorem dX6_showDay_93 : decode cX6_showDay 93 = .ok (.if_icmp .ge 8, 3) := dk_162 0 8 (dk_at dksX6_showDay_4 0 rfl rfl)
theorem dX6_showDay_96 : decode cX6_showDay 96 = .ok (.aload_n 0, 1) := dk_42 (dk_at dksX6_showDay_4 3 rfl rfl)
theorem dX6_showDay_97 : decode cX6_showDay 97 = .ok (.invokevirtual 361, 3) := dk_182 1 105 (dk_at dksX6_showDay_4 4 rfl rfl)
theorem dX6_showDay_100 : decode cX6_showDay 100 = .ok (.pop, 1) := dk_87 (dk_at dksX6_showDay_4 7 rfl rfl)
theorem dX6_showDay_101 : decode cX6_showDay 101 = .ok (.return_, 1) := dk_177 (dk_at dksX6_showDay_4 8 rfl rfl)
abbrev cX6_draws : ByteArray := prog_24_method_135_code
def yX6_draws : MethodName := ⟨RX6, "draws", "(I)I"⟩
def dkwX6_draws_1 : List UInt8 := [180, 1, 250, 27, 112, 172]
abbrev dktX6_draws_1 : List UInt8 := dkwX6_draws_1 ++ []
def dkwX6_draws_0 : List UInt8 := [42, 20, 1, 248, 42, 180, 1, 250, 133, 105, 20, 1, 253, 97, 20, 1, 255, 113, 136, 181, 1, 250, 42]
abbrev dktX6_draws_0 : List UInt8 := dkwX6_draws_0 ++ dktX6_draws_1
theorem dksX6_draws_0 : cX6_draws.data.toList.drop 0 = dktX6_draws_0 := by decide +kernel
theorem dksX6_draws_1 : cX6_draws.data.toList.drop 23 = dktX6_draws_1 := dk_seg dksX6_draws_0 23 rfl rfl
theorem dX6_draws_0 : decode cX6_draws 0 = .ok (.aload_n 0, 1) := dk_42 (dk_at dksX6_draws_0 0 rfl rfl)
theorem dX6_draws_1 : decode cX6_draws 1 = .ok (.ldc2_w 504, 3) := dk_20 1 248 (dk_at dksX6_draws_0 1 rfl rfl)
theorem dX6_draws_4 : decode cX6_draws 4 = .ok (.aload_n 0, 1) := dk_42 (dk_at dksX6_draws_0 4 rfl rfl)
theorem dX6_draws_5 : decode cX6_draws 5 = .ok (.getfield 506, 3) := dk_180 1 250 (dk_at dksX6_draws_0 5 rfl rfl)
theorem dX6_draws_8 : decode cX6_draws 8 = .ok (.i2l, 1) := dk_133 (dk_at dksX6_draws_0 8 rfl rfl)
theorem dX6_draws_9 : decode cX6_draws 9 = .ok (.lmul, 1) := dk_105 (dk_at dksX6_draws_0 9 rfl rfl)
theorem dX6_draws_10 : decode cX6_draws 10 = .ok (.ldc2_w 509, 3) := dk_20 1 253 (dk_at dksX6_draws_0 10 rfl rfl)
theorem dX6_draws_13 : decode cX6_draws 13 = .ok (.ladd, 1) := dk_97 (dk_at dksX6_draws_0 13 rfl rfl)
theorem dX6_draws_14 : decode cX6_draws 14 = .ok (.ldc2_w 511, 3) := dk_20 1 255 (dk_at dksX6_draws_0 14 rfl rfl)
theorem dX6_draws_17 : decode cX6_draws 17 = .ok (.lrem, 1) := dk_113 (dk_at dksX6_draws_0 17 rfl rfl)
theorem dX6_draws_18 : decode cX6_draws 18 = .ok (.l2i, 1) := dk_136 (dk_at dksX6_draws_0 18 rfl rfl)
theorem dX6_draws_19 : decode cX6_draws 19 = .ok (.putfield 506, 3) := dk_181 1 250 (dk_at dksX6_draws_0 19 rfl rfl)
theorem dX6_draws_22 : decode cX6_draws 22 = .ok (.aload_n 0, 1) := dk_42 (dk_at dksX6_draws_0 22 rfl rfl)
theorem dX6_draws_23 : decode cX6_draws 23 = .ok (.getfield 506, 3) := dk_180 1 250 (dk_at dksX6_draws_1 0 rfl rfl)
theorem dX6_draws_26 : decode cX6_draws 26 = .ok (.iload_n 1, 1) := dk_27 (dk_at dksX6_draws_1 3 rfl rfl)
theorem dX6_draws_27 : decode cX6_draws 27 = .ok (.irem, 1) := dk_112 (dk_at dksX6_draws_1 4 rfl rfl)
theorem dX6_draws_28 : decode cX6_draws 28 = .ok (.ireturn, 1) := dk_172 (dk_at dksX6_draws_1 5 rfl rfl)
abbrev cX6_drawn : ByteArray := prog_24_method_138_code
def yX6_drawn : MethodName := ⟨RX6, "drawn", "(II)I"⟩
def dkwX6_drawn_2 : List UInt8 := [42, 180, 0, 96, 3, 46, 27, 122, 4, 126, 167, 0, 11, 42, 180, 0, 96, 4, 27, 96, 46, 172]
abbrev dktX6_drawn_2 : List UInt8 := dkwX6_drawn_2 ++ []
def dkwX6_drawn_1 : List UInt8 := [180, 0, 99, 167, 0, 7, 42, 180, 2, 4, 4, 100, 184, 0, 102, 154, 0, 5, 2, 172, 28, 154, 0, 16]
abbrev dktX6_drawn_1 : List UInt8 := dkwX6_drawn_1 ++ dktX6_drawn_2
def dkwX6_drawn_0 : List UInt8 := [42, 180, 0, 99, 2, 159, 0, 37, 28, 3, 4, 184, 0, 102, 153, 0, 28, 27, 3, 28, 154, 0, 10, 42]
abbrev dktX6_drawn_0 : List UInt8 := dkwX6_drawn_0 ++ dktX6_drawn_1
theorem dksX6_drawn_0 : cX6_drawn.data.toList.drop 0 = dktX6_drawn_0 := by decide +kernel
theorem dksX6_drawn_1 : cX6_drawn.data.toList.drop 24 = dktX6_drawn_1 := dk_seg dksX6_drawn_0 24 rfl rfl
theorem dksX6_drawn_2 : cX6_drawn.data.toList.drop 48 = dktX6_drawn_2 := dk_seg dksX6_drawn_1 24 rfl rfl
theorem dX6_drawn_0 : decode cX6_drawn 0 = .ok (.aload_n 0, 1) := dk_42 (dk_at dksX6_drawn_0 0 rfl rfl)
theorem dX6_drawn_1 : decode cX6_drawn 1 = .ok (.getfield 99, 3) := dk_180 0 99 (dk_at dksX6_drawn_0 1 rfl rfl)
theorem dX6_drawn_4 : decode cX6_drawn 4 = .ok (.iconst (-1), 1) := dk_2 (dk_at dksX6_drawn_0 4 rfl rfl)
theorem dX6_drawn_5 : decode cX6_drawn 5 = .ok (.if_icmp .eq 37, 3) := dk_159 0 37 (dk_at dksX6_drawn_0 5 rfl rfl)
theorem dX6_drawn_8 : decode cX6_drawn 8 = .ok (.iload_n 2, 1) := dk_28 (dk_at dksX6_drawn_0 8 rfl rfl)
theorem dX6_drawn_9 : decode cX6_drawn 9 = .ok (.iconst 0, 1) := dk_3 (dk_at dksX6_drawn_0 9 rfl rfl)
theorem dX6_drawn_10 : decode cX6_drawn 10 = .ok (.iconst 1, 1) := dk_4 (dk_at dksX6_drawn_0 10 rfl rfl)
theorem dX6_drawn_11 : decode cX6_drawn 11 = .ok (.invokestatic 102, 3) := dk_184 0 102 (dk_at dksX6_drawn_0 11 rfl rfl)
theorem dX6_drawn_14 : decode cX6_drawn 14 = .ok (.ifCond .eq 28, 3) := dk_153 0 28 (dk_at dksX6_drawn_0 14 rfl rfl)
theorem dX6_drawn_17 : decode cX6_drawn 17 = .ok (.iload_n 1, 1) := dk_27 (dk_at dksX6_drawn_0 17 rfl rfl)
theorem dX6_drawn_18 : decode cX6_drawn 18 = .ok (.iconst 0, 1) := dk_3 (dk_at dksX6_drawn_0 18 rfl rfl)
theorem dX6_drawn_19 : decode cX6_drawn 19 = .ok (.iload_n 2, 1) := dk_28 (dk_at dksX6_drawn_0 19 rfl rfl)
theorem dX6_drawn_20 : decode cX6_drawn 20 = .ok (.ifCond .ne 10, 3) := dk_154 0 10 (dk_at dksX6_drawn_0 20 rfl rfl)
theorem dX6_drawn_23 : decode cX6_drawn 23 = .ok (.aload_n 0, 1) := dk_42 (dk_at dksX6_drawn_0 23 rfl rfl)
theorem dX6_drawn_24 : decode cX6_drawn 24 = .ok (.getfield 99, 3) := dk_180 0 99 (dk_at dksX6_drawn_1 0 rfl rfl)
theorem dX6_drawn_27 : decode cX6_drawn 27 = .ok (.goto 7, 3) := dk_167 0 7 (dk_at dksX6_drawn_1 3 rfl rfl)
theorem dX6_drawn_30 : decode cX6_drawn 30 = .ok (.aload_n 0, 1) := dk_42 (dk_at dksX6_drawn_1 6 rfl rfl)
theorem dX6_drawn_31 : decode cX6_drawn 31 = .ok (.getfield 516, 3) := dk_180 2 4 (dk_at dksX6_drawn_1 7 rfl rfl)
theorem dX6_drawn_34 : decode cX6_drawn 34 = .ok (.iconst 1, 1) := dk_4 (dk_at dksX6_drawn_1 10 rfl rfl)
theorem dX6_drawn_35 : decode cX6_drawn 35 = .ok (.isub, 1) := dk_100 (dk_at dksX6_drawn_1 11 rfl rfl)
theorem dX6_drawn_36 : decode cX6_drawn 36 = .ok (.invokestatic 102, 3) := dk_184 0 102 (dk_at dksX6_drawn_1 12 rfl rfl)
theorem dX6_drawn_39 : decode cX6_drawn 39 = .ok (.ifCond .ne 5, 3) := dk_154 0 5 (dk_at dksX6_drawn_1 15 rfl rfl)
theorem dX6_drawn_42 : decode cX6_drawn 42 = .ok (.iconst (-1), 1) := dk_2 (dk_at dksX6_drawn_1 18 rfl rfl)
theorem dX6_drawn_43 : decode cX6_drawn 43 = .ok (.ireturn, 1) := dk_172 (dk_at dksX6_drawn_1 19 rfl rfl)
theorem dX6_drawn_44 : decode cX6_drawn 44 = .ok (.iload_n 2, 1) := dk_28 (dk_at dksX6_drawn_1 20 rfl rfl)
theorem dX6_drawn_45 : decode cX6_drawn 45 = .ok (.ifCond .ne 16, 3) := dk_154 0 16 (dk_at dksX6_drawn_1 21 rfl rfl)
theorem dX6_drawn_48 : decode cX6_drawn 48 = .ok (.aload_n 0, 1) := dk_42 (dk_at dksX6_drawn_2 0 rfl rfl)
theorem dX6_drawn_49 : decode cX6_drawn 49 = .ok (.getfield 96, 3) := dk_180 0 96 (dk_at dksX6_drawn_2 1 rfl rfl)
theorem dX6_drawn_52 : decode cX6_drawn 52 = .ok (.iconst 0, 1) := dk_3 (dk_at dksX6_drawn_2 4 rfl rfl)
theorem dX6_drawn_53 : decode cX6_drawn 53 = .ok (.iaload, 1) := dk_46 (dk_at dksX6_drawn_2 5 rfl rfl)
theorem dX6_drawn_54 : decode cX6_drawn 54 = .ok (.iload_n 1, 1) := dk_27 (dk_at dksX6_drawn_2 6 rfl rfl)
theorem dX6_drawn_55 : decode cX6_drawn 55 = .ok (.ishr, 1) := dk_122 (dk_at dksX6_drawn_2 7 rfl rfl)
theorem dX6_drawn_56 : decode cX6_drawn 56 = .ok (.iconst 1, 1) := dk_4 (dk_at dksX6_drawn_2 8 rfl rfl)
theorem dX6_drawn_57 : decode cX6_drawn 57 = .ok (.iand, 1) := dk_126 (dk_at dksX6_drawn_2 9 rfl rfl)
theorem dX6_drawn_58 : decode cX6_drawn 58 = .ok (.goto 11, 3) := dk_167 0 11 (dk_at dksX6_drawn_2 10 rfl rfl)
theorem dX6_drawn_61 : decode cX6_drawn 61 = .ok (.aload_n 0, 1) := dk_42 (dk_at dksX6_drawn_2 13 rfl rfl)
theorem dX6_drawn_62 : decode cX6_drawn 62 = .ok (.getfield 96, 3) := dk_180 0 96 (dk_at dksX6_drawn_2 14 rfl rfl)
theorem dX6_drawn_65 : decode cX6_drawn 65 = .ok (.iconst 1, 1) := dk_4 (dk_at dksX6_drawn_2 17 rfl rfl)
theorem dX6_drawn_66 : decode cX6_drawn 66 = .ok (.iload_n 1, 1) := dk_27 (dk_at dksX6_drawn_2 18 rfl rfl)
theorem dX6_drawn_67 : decode cX6_drawn 67 = .ok (.iadd, 1) := dk_96 (dk_at dksX6_drawn_2 19 rfl rfl)
theorem dX6_drawn_68 : decode cX6_drawn 68 = .ok (.iaload, 1) := dk_46 (dk_at dksX6_drawn_2 20 rfl rfl)
theorem dX6_drawn_69 : decode cX6_drawn 69 = .ok (.ireturn, 1) := dk_172 (dk_at dksX6_drawn_2 21 rfl rfl)
abbrev cX6_count : ByteArray := prog_24_method_139_code
def yX6_count : MethodName := ⟨RX6, "count", "(I)I"⟩
def dkwX6_count_5 : List UInt8 := [42, 180, 0, 24, 16, 52, 46, 172, 42, 180, 0, 24, 27, 16, 13, 100, 184, 0, 156, 46, 172, 2, 172]
abbrev dktX6_count_5 : List UInt8 := dkwX6_count_5 ++ []
def dkwX6_count_4 : List UInt8 := [180, 0, 7, 27, 16, 6, 100, 46, 172, 42, 180, 0, 7, 8, 46, 172, 42, 180, 0, 7, 16, 6, 46, 172]
abbrev dktX6_count_4 : List UInt8 := dkwX6_count_4 ++ dktX6_count_5
def dkwX6_count_3 : List UInt8 := [16, 50, 46, 172, 42, 180, 0, 24, 16, 51, 46, 172, 42, 180, 0, 11, 172, 42, 180, 0, 159, 172, 42]
abbrev dktX6_count_3 : List UInt8 := dkwX6_count_3 ++ dktX6_count_4
def dkwX6_count_2 : List UInt8 := [42, 182, 0, 112, 172, 42, 182, 0, 116, 172, 42, 180, 0, 24, 3, 46, 184, 1, 48, 172, 42, 180, 0, 24]
abbrev dktX6_count_2 : List UInt8 := dkwX6_count_2 ++ dktX6_count_3
def dkwX6_count_1 : List UInt8 := [170, 0, 0, 0, 0, 0, 171, 0, 0, 0, 0, 0, 0, 0, 15, 0, 0, 0, 79, 0, 0, 0, 84, 0, 0, 0, 89, 0, 0, 0, 99, 0, 0, 0, 107, 0, 0, 0, 115, 0, 0, 0, 120, 0, 0, 0, 125, 0, 0, 0, 125, 0, 0, 0, 125, 0, 0, 0, 135, 0, 0, 0, 142, 0, 0, 0, 150, 0, 0, 0, 158, 0, 0, 0, 158, 0, 0, 0, 158]
abbrev dktX6_count_1 : List UInt8 := dkwX6_count_1 ++ dktX6_count_2
def dkwX6_count_0 : List UInt8 := [27]
abbrev dktX6_count_0 : List UInt8 := dkwX6_count_0 ++ dktX6_count_1
theorem dksX6_count_0 : cX6_count.data.toList.drop 0 = dktX6_count_0 := by decide +kernel
theorem dksX6_count_1 : cX6_count.data.toList.drop 1 = dktX6_count_1 := dk_seg dksX6_count_0 1 rfl rfl
theorem dksX6_count_2 : cX6_count.data.toList.drop 80 = dktX6_count_2 := dk_seg dksX6_count_1 79 rfl rfl
theorem dksX6_count_3 : cX6_count.data.toList.drop 104 = dktX6_count_3 := dk_seg dksX6_count_2 24 rfl rfl
theorem dksX6_count_4 : cX6_count.data.toList.drop 127 = dktX6_count_4 := dk_seg dksX6_count_3 23 rfl rfl
theorem dksX6_count_5 : cX6_count.data.toList.drop 151 = dktX6_count_5 := dk_seg dksX6_count_4 24 rfl rfl
theorem dX6_count_0 : decode cX6_count 0 = .ok (.iload_n 1, 1) := dk_27 (dk_at dksX6_count_0 0 rfl rfl)
theorem dX6_count_1 : decode cX6_count 1 = .ok (.tableswitch 171 0 15 #[79, 84, 89, 99, 107, 115, 120, 125, 125, 125, 135, 142, 150, 158, 158, 158], 79) := by decide +kernel
theorem dX6_count_80 : decode cX6_count 80 = .ok (.aload_n 0, 1) := dk_42 (dk_at dksX6_count_2 0 rfl rfl)
theorem dX6_count_81 : decode cX6_count 81 = .ok (.invokevirtual 112, 3) := dk_182 0 112 (dk_at dksX6_count_2 1 rfl rfl)
theorem dX6_count_84 : decode cX6_count 84 = .ok (.ireturn, 1) := dk_172 (dk_at dksX6_count_2 4 rfl rfl)
theorem dX6_count_85 : decode cX6_count 85 = .ok (.aload_n 0, 1) := dk_42 (dk_at dksX6_count_2 5 rfl rfl)
theorem dX6_count_86 : decode cX6_count 86 = .ok (.invokevirtual 116, 3) := dk_182 0 116 (dk_at dksX6_count_2 6 rfl rfl)
theorem dX6_count_89 : decode cX6_count 89 = .ok (.ireturn, 1) := dk_172 (dk_at dksX6_count_2 9 rfl rfl)
theorem dX6_count_90 : decode cX6_count 90 = .ok (.aload_n 0, 1) := dk_42 (dk_at dksX6_count_2 10 rfl rfl)
theorem dX6_count_91 : decode cX6_count 91 = .ok (.getfield 24, 3) := dk_180 0 24 (dk_at dksX6_count_2 11 rfl rfl)
theorem dX6_count_94 : decode cX6_count 94 = .ok (.iconst 0, 1) := dk_3 (dk_at dksX6_count_2 14 rfl rfl)
theorem dX6_count_95 : decode cX6_count 95 = .ok (.iaload, 1) := dk_46 (dk_at dksX6_count_2 15 rfl rfl)
theorem dX6_count_96 : decode cX6_count 96 = .ok (.invokestatic 304, 3) := dk_184 1 48 (dk_at dksX6_count_2 16 rfl rfl)
theorem dX6_count_99 : decode cX6_count 99 = .ok (.ireturn, 1) := dk_172 (dk_at dksX6_count_2 19 rfl rfl)
theorem dX6_count_100 : decode cX6_count 100 = .ok (.aload_n 0, 1) := dk_42 (dk_at dksX6_count_2 20 rfl rfl)
theorem dX6_count_101 : decode cX6_count 101 = .ok (.getfield 24, 3) := dk_180 0 24 (dk_at dksX6_count_2 21 rfl rfl)
theorem dX6_count_104 : decode cX6_count 104 = .ok (.bipush 50, 2) := dk_16 50 (dk_at dksX6_count_3 0 rfl rfl)
theorem dX6_count_106 : decode cX6_count 106 = .ok (.iaload, 1) := dk_46 (dk_at dksX6_count_3 2 rfl rfl)
theorem dX6_count_107 : decode cX6_count 107 = .ok (.ireturn, 1) := dk_172 (dk_at dksX6_count_3 3 rfl rfl)
theorem dX6_count_108 : decode cX6_count 108 = .ok (.aload_n 0, 1) := dk_42 (dk_at dksX6_count_3 4 rfl rfl)
theorem dX6_count_109 : decode cX6_count 109 = .ok (.getfield 24, 3) := dk_180 0 24 (dk_at dksX6_count_3 5 rfl rfl)
theorem dX6_count_112 : decode cX6_count 112 = .ok (.bipush 51, 2) := dk_16 51 (dk_at dksX6_count_3 8 rfl rfl)
theorem dX6_count_114 : decode cX6_count 114 = .ok (.iaload, 1) := dk_46 (dk_at dksX6_count_3 10 rfl rfl)
theorem dX6_count_115 : decode cX6_count 115 = .ok (.ireturn, 1) := dk_172 (dk_at dksX6_count_3 11 rfl rfl)
theorem dX6_count_116 : decode cX6_count 116 = .ok (.aload_n 0, 1) := dk_42 (dk_at dksX6_count_3 12 rfl rfl)
theorem dX6_count_117 : decode cX6_count 117 = .ok (.getfield 11, 3) := dk_180 0 11 (dk_at dksX6_count_3 13 rfl rfl)
theorem dX6_count_120 : decode cX6_count 120 = .ok (.ireturn, 1) := dk_172 (dk_at dksX6_count_3 16 rfl rfl)
theorem dX6_count_121 : decode cX6_count 121 = .ok (.aload_n 0, 1) := dk_42 (dk_at dksX6_count_3 17 rfl rfl)
theorem dX6_count_122 : decode cX6_count 122 = .ok (.getfield 159, 3) := dk_180 0 159 (dk_at dksX6_count_3 18 rfl rfl)
theorem dX6_count_125 : decode cX6_count 125 = .ok (.ireturn, 1) := dk_172 (dk_at dksX6_count_3 21 rfl rfl)
theorem dX6_count_126 : decode cX6_count 126 = .ok (.aload_n 0, 1) := dk_42 (dk_at dksX6_count_3 22 rfl rfl)
theorem dX6_count_127 : decode cX6_count 127 = .ok (.getfield 7, 3) := dk_180 0 7 (dk_at dksX6_count_4 0 rfl rfl)
theorem dX6_count_130 : decode cX6_count 130 = .ok (.iload_n 1, 1) := dk_27 (dk_at dksX6_count_4 3 rfl rfl)
theorem dX6_count_131 : decode cX6_count 131 = .ok (.bipush 6, 2) := dk_16 6 (dk_at dksX6_count_4 4 rfl rfl)
theorem dX6_count_133 : decode cX6_count 133 = .ok (.isub, 1) := dk_100 (dk_at dksX6_count_4 6 rfl rfl)
theorem dX6_count_134 : decode cX6_count 134 = .ok (.iaload, 1) := dk_46 (dk_at dksX6_count_4 7 rfl rfl)
theorem dX6_count_135 : decode cX6_count 135 = .ok (.ireturn, 1) := dk_172 (dk_at dksX6_count_4 8 rfl rfl)
theorem dX6_count_136 : decode cX6_count 136 = .ok (.aload_n 0, 1) := dk_42 (dk_at dksX6_count_4 9 rfl rfl)
theorem dX6_count_137 : decode cX6_count 137 = .ok (.getfield 7, 3) := dk_180 0 7 (dk_at dksX6_count_4 10 rfl rfl)
theorem dX6_count_140 : decode cX6_count 140 = .ok (.iconst 5, 1) := dk_8 (dk_at dksX6_count_4 13 rfl rfl)
theorem dX6_count_141 : decode cX6_count 141 = .ok (.iaload, 1) := dk_46 (dk_at dksX6_count_4 14 rfl rfl)
theorem dX6_count_142 : decode cX6_count 142 = .ok (.ireturn, 1) := dk_172 (dk_at dksX6_count_4 15 rfl rfl)
theorem dX6_count_143 : decode cX6_count 143 = .ok (.aload_n 0, 1) := dk_42 (dk_at dksX6_count_4 16 rfl rfl)
theorem dX6_count_144 : decode cX6_count 144 = .ok (.getfield 7, 3) := dk_180 0 7 (dk_at dksX6_count_4 17 rfl rfl)
theorem dX6_count_147 : decode cX6_count 147 = .ok (.bipush 6, 2) := dk_16 6 (dk_at dksX6_count_4 20 rfl rfl)
theorem dX6_count_149 : decode cX6_count 149 = .ok (.iaload, 1) := dk_46 (dk_at dksX6_count_4 22 rfl rfl)
theorem dX6_count_150 : decode cX6_count 150 = .ok (.ireturn, 1) := dk_172 (dk_at dksX6_count_4 23 rfl rfl)
theorem dX6_count_151 : decode cX6_count 151 = .ok (.aload_n 0, 1) := dk_42 (dk_at dksX6_count_5 0 rfl rfl)
theorem dX6_count_152 : decode cX6_count 152 = .ok (.getfield 24, 3) := dk_180 0 24 (dk_at dksX6_count_5 1 rfl rfl)
theorem dX6_count_155 : decode cX6_count 155 = .ok (.bipush 52, 2) := dk_16 52 (dk_at dksX6_count_5 4 rfl rfl)
theorem dX6_count_157 : decode cX6_count 157 = .ok (.iaload, 1) := dk_46 (dk_at dksX6_count_5 6 rfl rfl)
theorem dX6_count_158 : decode cX6_count 158 = .ok (.ireturn, 1) := dk_172 (dk_at dksX6_count_5 7 rfl rfl)
theorem dX6_count_159 : decode cX6_count 159 = .ok (.aload_n 0, 1) := dk_42 (dk_at dksX6_count_5 8 rfl rfl)
theorem dX6_count_160 : decode cX6_count 160 = .ok (.getfield 24, 3) := dk_180 0 24 (dk_at dksX6_count_5 9 rfl rfl)
theorem dX6_count_163 : decode cX6_count 163 = .ok (.iload_n 1, 1) := dk_27 (dk_at dksX6_count_5 12 rfl rfl)
theorem dX6_count_164 : decode cX6_count 164 = .ok (.bipush 13, 2) := dk_16 13 (dk_at dksX6_count_5 13 rfl rfl)
theorem dX6_count_166 : decode cX6_count 166 = .ok (.isub, 1) := dk_100 (dk_at dksX6_count_5 15 rfl rfl)
theorem dX6_count_167 : decode cX6_count 167 = .ok (.invokestatic 156, 3) := dk_184 0 156 (dk_at dksX6_count_5 16 rfl rfl)
theorem dX6_count_170 : decode cX6_count 170 = .ok (.iaload, 1) := dk_46 (dk_at dksX6_count_5 19 rfl rfl)
theorem dX6_count_171 : decode cX6_count 171 = .ok (.ireturn, 1) := dk_172 (dk_at dksX6_count_5 20 rfl rfl)
theorem dX6_count_172 : decode cX6_count 172 = .ok (.iconst (-1), 1) := dk_2 (dk_at dksX6_count_5 21 rfl rfl)
theorem dX6_count_173 : decode cX6_count 173 = .ok (.ireturn, 1) := dk_172 (dk_at dksX6_count_5 22 rfl rfl)
abbrev cX6_status : ByteArray := prog_24_method_140_code
def yX6_status : MethodName := ⟨RX6, "status", "()I"⟩
theorem dX6_status_0 : decode cX6_status 0 = .ok (.aload_n 0, 1) := by decide +kernel
theorem dX6_status_1 : decode cX6_status 1 = .ok (.getfield 3, 3) := by decide +kernel
theorem dX6_status_4 : decode cX6_status 4 = .ok (.ireturn, 1) := by decide +kernel
theorem q146 : (Jvm.Cond.initialized "LeekReadingsModel") ∈ lw_all := lw_g (lw_at lw_m1 10 rfl) rfl
theorem q1268 : (Jvm.Cond.selects "LeekReadingsModel" ({ cls := "java/lang/Object", name := "getClass", desc := "()Ljava/lang/Class;" } : Jvm.MethodName) ({ cls := "java/lang/Object", name := "getClass", desc := "()Ljava/lang/Class;" } : Jvm.MethodName)) ∈ lw_all := lw_g (lw_at lw_m5 172 rfl) rfl
theorem q1629 : (Jvm.Cond.instantiable "LeekReadingsModel" (56 : Nat)) ∈ lw_all := lw_g (lw_at lw_m7 53 rfl) rfl
theorem q1631 : (Jvm.Cond.instanceMethod ({ cls := "LeekReadingsModel", name := "<init>", desc := "()V" } : Jvm.MethodName)) ∈ lw_all := lw_g (lw_at lw_m7 55 rfl) rfl
theorem q1632 : (Jvm.Cond.code ({ cls := "LeekReadingsModel", name := "<init>", desc := "()V" } : Jvm.MethodName) prog_24_method_9_code (1 : Nat) (Option.none : Option Jvm.ClassFile.FieldType)) ∈ lw_all := lw_g (lw_at lw_m7 56 rfl) rfl
theorem q1633 : (Jvm.Cond.methodLink "LeekReadingsModel" (18 : Nat) ({ cls := "java/lang/Object", name := "<init>", desc := "()V" } : Jvm.MethodName)) ∈ lw_all := lw_g (lw_at lw_m7 57 rfl) rfl
theorem q1634 : (Jvm.Cond.fieldLink "LeekReadingsModel" (3 : Nat) "LeekReadingsModel" "status" "I") ∈ lw_all := lw_g (lw_at lw_m7 58 rfl) rfl
theorem q1635 : (Jvm.Cond.fieldLink "LeekReadingsModel" (7 : Nat) "LeekReadingsModel" "refused" "[I") ∈ lw_all := lw_g (lw_at lw_m7 59 rfl) rfl
theorem q1636 : (Jvm.Cond.fieldLink "LeekReadingsModel" (24 : Nat) "LeekReadingsModel" "kept" "[I") ∈ lw_all := lw_g (lw_at lw_m7 60 rfl) rfl
theorem q1637 : (Jvm.Cond.fieldLink "LeekReadingsModel" (27 : Nat) "LeekReadingsModel" "images" "[I") ∈ lw_all := lw_g (lw_at lw_m7 61 rfl) rfl
theorem q1638 : (Jvm.Cond.fieldLink "LeekReadingsModel" (30 : Nat) "LeekReadingsModel" "hasImage" "[Z") ∈ lw_all := lw_g (lw_at lw_m7 62 rfl) rfl
theorem q1639 : (Jvm.Cond.fieldLink "LeekReadingsModel" (34 : Nat) "LeekReadingsModel" "aside" "[I") ∈ lw_all := lw_g (lw_at lw_m7 63 rfl) rfl
theorem q1640 : (Jvm.Cond.fieldLink "LeekReadingsModel" (162 : Nat) "LeekReadingsModel" "slugs0" "I") ∈ lw_all := lw_g (lw_at lw_m7 64 rfl) rfl
theorem q1641 : (Jvm.Cond.fieldLink "LeekReadingsModel" (37 : Nat) "LeekReadingsModel" "words" "[B") ∈ lw_all := lw_g (lw_at lw_m7 65 rfl) rfl
theorem q1642 : (Jvm.Cond.fieldLink "LeekReadingsModel" (237 : Nat) "LeekReadingsModel" "firstWord" "I") ∈ lw_all := lw_g (lw_at lw_m7 66 rfl) rfl
theorem q1643 : (Jvm.Cond.fieldLink "LeekReadingsModel" (240 : Nat) "LeekReadingsModel" "lastWord" "I") ∈ lw_all := lw_g (lw_at lw_m7 67 rfl) rfl
theorem q1644 : (Jvm.Cond.fieldLink "LeekReadingsModel" (211 : Nat) "LeekReadingsModel" "isOrders" "Z") ∈ lw_all := lw_g (lw_at lw_m7 68 rfl) rfl
theorem q1645 : (Jvm.Cond.fieldLink "LeekReadingsModel" (41 : Nat) "LeekReadingsModel" "tape" "[B") ∈ lw_all := lw_g (lw_at lw_m7 69 rfl) rfl
theorem q1646 : (Jvm.Cond.fieldLink "LeekReadingsModel" (44 : Nat) "LeekReadingsModel" "five" "[I") ∈ lw_all := lw_g (lw_at lw_m7 70 rfl) rfl
theorem q1647 : (Jvm.Cond.fieldLink "LeekReadingsModel" (159 : Nat) "LeekReadingsModel" "taped" "I") ∈ lw_all := lw_g (lw_at lw_m7 71 rfl) rfl
theorem q1648 : (Jvm.Cond.fieldLink "LeekReadingsModel" (47 : Nat) "LeekReadingsModel" "fault" "I") ∈ lw_all := lw_g (lw_at lw_m7 72 rfl) rfl
theorem q1649 : (Jvm.Cond.fieldLink "LeekReadingsModel" (50 : Nat) "LeekReadingsModel" "code" "[I") ∈ lw_all := lw_g (lw_at lw_m7 73 rfl) rfl
theorem q1650 : (Jvm.Cond.fieldLink "LeekReadingsModel" (53 : Nat) "LeekReadingsModel" "value" "[I") ∈ lw_all := lw_g (lw_at lw_m7 74 rfl) rfl
theorem q1651 : (Jvm.Cond.fieldLink "LeekReadingsModel" (56 : Nat) "LeekReadingsModel" "placed" "[I") ∈ lw_all := lw_g (lw_at lw_m7 75 rfl) rfl
theorem q1652 : (Jvm.Cond.fieldLink "LeekReadingsModel" (165 : Nat) "LeekReadingsModel" "tokens" "I") ∈ lw_all := lw_g (lw_at lw_m7 76 rfl) rfl
theorem q1653 : (Jvm.Cond.fieldLink "LeekReadingsModel" (185 : Nat) "LeekReadingsModel" "token" "I") ∈ lw_all := lw_g (lw_at lw_m7 77 rfl) rfl
theorem q1654 : (Jvm.Cond.fieldLink "LeekReadingsModel" (194 : Nat) "LeekReadingsModel" "leaves" "I") ∈ lw_all := lw_g (lw_at lw_m7 78 rfl) rfl
theorem q1655 : (Jvm.Cond.fieldLink "LeekReadingsModel" (178 : Nat) "LeekReadingsModel" "bad" "I") ∈ lw_all := lw_g (lw_at lw_m7 79 rfl) rfl
theorem q1656 : (Jvm.Cond.fieldLink "LeekReadingsModel" (268 : Nat) "LeekReadingsModel" "go" "I") ∈ lw_all := lw_g (lw_at lw_m7 80 rfl) rfl
theorem q1657 : (Jvm.Cond.fieldLink "LeekReadingsModel" (265 : Nat) "LeekReadingsModel" "goEnd" "I") ∈ lw_all := lw_g (lw_at lw_m7 81 rfl) rfl
theorem q1658 : (Jvm.Cond.fieldLink "LeekReadingsModel" (278 : Nat) "LeekReadingsModel" "broken" "Z") ∈ lw_all := lw_g (lw_at lw_m7 82 rfl) rfl
theorem q1659 : (Jvm.Cond.fieldLink "LeekReadingsModel" (298 : Nat) "LeekReadingsModel" "inOrders" "Z") ∈ lw_all := lw_g (lw_at lw_m7 83 rfl) rfl
theorem q1660 : (Jvm.Cond.fieldLink "LeekReadingsModel" (59 : Nat) "LeekReadingsModel" "asked" "[I") ∈ lw_all := lw_g (lw_at lw_m7 84 rfl) rfl
theorem q1661 : (Jvm.Cond.fieldLink "LeekReadingsModel" (307 : Nat) "LeekReadingsModel" "orderDone" "I") ∈ lw_all := lw_g (lw_at lw_m7 85 rfl) rfl
theorem q1662 : (Jvm.Cond.fieldLink "LeekReadingsModel" (310 : Nat) "LeekReadingsModel" "orderLatest" "I") ∈ lw_all := lw_g (lw_at lw_m7 86 rfl) rfl
theorem q1663 : (Jvm.Cond.fieldLink "LeekReadingsModel" (62 : Nat) "LeekReadingsModel" "change" "[I") ∈ lw_all := lw_g (lw_at lw_m7 87 rfl) rfl
theorem q1664 : (Jvm.Cond.fieldLink "LeekReadingsModel" (65 : Nat) "LeekReadingsModel" "left0" "[I") ∈ lw_all := lw_g (lw_at lw_m7 88 rfl) rfl
theorem q1665 : (Jvm.Cond.fieldLink "LeekReadingsModel" (68 : Nat) "LeekReadingsModel" "leftAhead" "[I") ∈ lw_all := lw_g (lw_at lw_m7 89 rfl) rfl
theorem q1666 : (Jvm.Cond.fieldLink "LeekReadingsModel" (11 : Nat) "LeekReadingsModel" "undoMany" "I") ∈ lw_all := lw_g (lw_at lw_m7 90 rfl) rfl
theorem q1667 : (Jvm.Cond.fieldLink "LeekReadingsModel" (71 : Nat) "LeekReadingsModel" "rowMany" "[I") ∈ lw_all := lw_g (lw_at lw_m7 91 rfl) rfl
theorem q1668 : (Jvm.Cond.fieldLink "LeekReadingsModel" (74 : Nat) "LeekReadingsModel" "depth" "[I") ∈ lw_all := lw_g (lw_at lw_m7 92 rfl) rfl
theorem q1669 : (Jvm.Cond.fieldLink "LeekReadingsModel" (77 : Nat) "LeekReadingsModel" "barredBy" "[Z") ∈ lw_all := lw_g (lw_at lw_m7 93 rfl) rfl
theorem q1670 : (Jvm.Cond.fieldLink "LeekReadingsModel" (80 : Nat) "LeekReadingsModel" "row0" "[I") ∈ lw_all := lw_g (lw_at lw_m7 94 rfl) rfl
theorem q1671 : (Jvm.Cond.fieldLink "LeekReadingsModel" (83 : Nat) "LeekReadingsModel" "bestRow" "[I") ∈ lw_all := lw_g (lw_at lw_m7 95 rfl) rfl
theorem q1672 : (Jvm.Cond.fieldLink "LeekReadingsModel" (428 : Nat) "LeekReadingsModel" "bestMany" "I") ∈ lw_all := lw_g (lw_at lw_m7 96 rfl) rfl
theorem q1673 : (Jvm.Cond.fieldLink "LeekReadingsModel" (425 : Nat) "LeekReadingsModel" "bestHigh" "I") ∈ lw_all := lw_g (lw_at lw_m7 97 rfl) rfl
theorem q1674 : (Jvm.Cond.fieldLink "LeekReadingsModel" (422 : Nat) "LeekReadingsModel" "soonest" "I") ∈ lw_all := lw_g (lw_at lw_m7 98 rfl) rfl
theorem q1675 : (Jvm.Cond.fieldLink "LeekReadingsModel" (434 : Nat) "LeekReadingsModel" "within" "I") ∈ lw_all := lw_g (lw_at lw_m7 99 rfl) rfl
theorem q1676 : (Jvm.Cond.fieldLink "LeekReadingsModel" (419 : Nat) "LeekReadingsModel" "wanted" "I") ∈ lw_all := lw_g (lw_at lw_m7 100 rfl) rfl
theorem q1677 : (Jvm.Cond.fieldLink "LeekReadingsModel" (86 : Nat) "LeekReadingsModel" "growth" "[I") ∈ lw_all := lw_g (lw_at lw_m7 101 rfl) rfl
theorem q1678 : (Jvm.Cond.fieldLink "LeekReadingsModel" (89 : Nat) "LeekReadingsModel" "shares" "[J") ∈ lw_all := lw_g (lw_at lw_m7 102 rfl) rfl
theorem q1679 : (Jvm.Cond.fieldLink "LeekReadingsModel" (93 : Nat) "LeekReadingsModel" "stopped0" "I") ∈ lw_all := lw_g (lw_at lw_m7 103 rfl) rfl
theorem q1680 : (Jvm.Cond.fieldLink "LeekReadingsModel" (467 : Nat) "LeekReadingsModel" "orderAt" "I") ∈ lw_all := lw_g (lw_at lw_m7 104 rfl) rfl
theorem q1681 : (Jvm.Cond.fieldLink "LeekReadingsModel" (486 : Nat) "LeekReadingsModel" "howOften" "I") ∈ lw_all := lw_g (lw_at lw_m7 105 rfl) rfl
theorem q1682 : (Jvm.Cond.fieldLink "LeekReadingsModel" (476 : Nat) "LeekReadingsModel" "head" "I") ∈ lw_all := lw_g (lw_at lw_m7 106 rfl) rfl
theorem q1683 : (Jvm.Cond.fieldLink "LeekReadingsModel" (483 : Nat) "LeekReadingsModel" "sumsAre" "Z") ∈ lw_all := lw_g (lw_at lw_m7 107 rfl) rfl
theorem q1684 : (Jvm.Cond.fieldLink "LeekReadingsModel" (489 : Nat) "LeekReadingsModel" "testIs" "Z") ∈ lw_all := lw_g (lw_at lw_m7 108 rfl) rfl
theorem q1685 : (Jvm.Cond.fieldLink "LeekReadingsModel" (479 : Nat) "LeekReadingsModel" "sum0" "J") ∈ lw_all := lw_g (lw_at lw_m7 109 rfl) rfl
theorem q1686 : (Jvm.Cond.fieldLink "LeekReadingsModel" (96 : Nat) "LeekReadingsModel" "drawnMoved" "[I") ∈ lw_all := lw_g (lw_at lw_m7 110 rfl) rfl
theorem q1687 : (Jvm.Cond.fieldLink "LeekReadingsModel" (99 : Nat) "LeekReadingsModel" "drawnBooks" "I") ∈ lw_all := lw_g (lw_at lw_m7 111 rfl) rfl
theorem q1688 : (Jvm.Cond.fieldLink "LeekReadingsModel" (516 : Nat) "LeekReadingsModel" "drawnLeeks" "I") ∈ lw_all := lw_g (lw_at lw_m7 112 rfl) rfl
theorem q1689 : (Jvm.Cond.fieldLink "LeekReadingsModel" (506 : Nat) "LeekReadingsModel" "latest" "I") ∈ lw_all := lw_g (lw_at lw_m7 113 rfl) rfl
theorem q1690 : (Jvm.Cond.lays "LeekReadingsModel" "LeekReadingsModel" "status" "I") ∈ lw_all := lw_g (lw_at lw_m7 114 rfl) rfl
theorem q1691 : (Jvm.Cond.soleField "LeekReadingsModel" "status") ∈ lw_all := lw_g (lw_at lw_m7 115 rfl) rfl
theorem q1692 : (Jvm.Cond.laysFinal "LeekReadingsModel" "LeekReadingsModel" "refused" "[I") ∈ lw_all := lw_g (lw_at lw_m7 116 rfl) rfl
theorem q1693 : (Jvm.Cond.soleField "LeekReadingsModel" "refused") ∈ lw_all := lw_g (lw_at lw_m7 117 rfl) rfl
theorem q1694 : (Jvm.Cond.laysFinal "LeekReadingsModel" "LeekReadingsModel" "kept" "[I") ∈ lw_all := lw_g (lw_at lw_m7 118 rfl) rfl
theorem q1695 : (Jvm.Cond.soleField "LeekReadingsModel" "kept") ∈ lw_all := lw_g (lw_at lw_m7 119 rfl) rfl
theorem q1696 : (Jvm.Cond.laysFinal "LeekReadingsModel" "LeekReadingsModel" "images" "[I") ∈ lw_all := lw_g (lw_at lw_m7 120 rfl) rfl
theorem q1697 : (Jvm.Cond.soleField "LeekReadingsModel" "images") ∈ lw_all := lw_g (lw_at lw_m7 121 rfl) rfl
theorem q1698 : (Jvm.Cond.laysFinal "LeekReadingsModel" "LeekReadingsModel" "hasImage" "[Z") ∈ lw_all := lw_g (lw_at lw_m7 122 rfl) rfl
theorem q1699 : (Jvm.Cond.soleField "LeekReadingsModel" "hasImage") ∈ lw_all := lw_g (lw_at lw_m7 123 rfl) rfl
theorem q1700 : (Jvm.Cond.laysFinal "LeekReadingsModel" "LeekReadingsModel" "aside" "[I") ∈ lw_all := lw_g (lw_at lw_m7 124 rfl) rfl
theorem q1701 : (Jvm.Cond.soleField "LeekReadingsModel" "aside") ∈ lw_all := lw_g (lw_at lw_m7 125 rfl) rfl
theorem q1702 : (Jvm.Cond.lays "LeekReadingsModel" "LeekReadingsModel" "slugs0" "I") ∈ lw_all := lw_g (lw_at lw_m7 126 rfl) rfl
theorem q1703 : (Jvm.Cond.soleField "LeekReadingsModel" "slugs0") ∈ lw_all := lw_g (lw_at lw_m7 127 rfl) rfl
theorem q1704 : (Jvm.Cond.laysFinal "LeekReadingsModel" "LeekReadingsModel" "words" "[B") ∈ lw_all := lw_g (lw_at lw_m7 128 rfl) rfl
theorem q1705 : (Jvm.Cond.soleField "LeekReadingsModel" "words") ∈ lw_all := lw_g (lw_at lw_m7 129 rfl) rfl
theorem q1706 : (Jvm.Cond.lays "LeekReadingsModel" "LeekReadingsModel" "firstWord" "I") ∈ lw_all := lw_g (lw_at lw_m7 130 rfl) rfl
theorem q1707 : (Jvm.Cond.soleField "LeekReadingsModel" "firstWord") ∈ lw_all := lw_g (lw_at lw_m7 131 rfl) rfl
theorem q1708 : (Jvm.Cond.lays "LeekReadingsModel" "LeekReadingsModel" "lastWord" "I") ∈ lw_all := lw_g (lw_at lw_m7 132 rfl) rfl
theorem q1709 : (Jvm.Cond.soleField "LeekReadingsModel" "lastWord") ∈ lw_all := lw_g (lw_at lw_m7 133 rfl) rfl
theorem q1710 : (Jvm.Cond.lays "LeekReadingsModel" "LeekReadingsModel" "isOrders" "Z") ∈ lw_all := lw_g (lw_at lw_m7 134 rfl) rfl
theorem q1711 : (Jvm.Cond.soleField "LeekReadingsModel" "isOrders") ∈ lw_all := lw_g (lw_at lw_m7 135 rfl) rfl
theorem q1712 : (Jvm.Cond.laysFinal "LeekReadingsModel" "LeekReadingsModel" "tape" "[B") ∈ lw_all := lw_g (lw_at lw_m7 136 rfl) rfl
theorem q1713 : (Jvm.Cond.soleField "LeekReadingsModel" "tape") ∈ lw_all := lw_g (lw_at lw_m7 137 rfl) rfl
theorem q1714 : (Jvm.Cond.laysFinal "LeekReadingsModel" "LeekReadingsModel" "five" "[I") ∈ lw_all := lw_g (lw_at lw_m7 138 rfl) rfl
theorem q1715 : (Jvm.Cond.soleField "LeekReadingsModel" "five") ∈ lw_all := lw_g (lw_at lw_m7 139 rfl) rfl
theorem q1716 : (Jvm.Cond.lays "LeekReadingsModel" "LeekReadingsModel" "taped" "I") ∈ lw_all := lw_g (lw_at lw_m7 140 rfl) rfl
theorem q1717 : (Jvm.Cond.soleField "LeekReadingsModel" "taped") ∈ lw_all := lw_g (lw_at lw_m7 141 rfl) rfl
theorem q1718 : (Jvm.Cond.lays "LeekReadingsModel" "LeekReadingsModel" "fault" "I") ∈ lw_all := lw_g (lw_at lw_m7 142 rfl) rfl
theorem q1719 : (Jvm.Cond.soleField "LeekReadingsModel" "fault") ∈ lw_all := lw_g (lw_at lw_m7 143 rfl) rfl
theorem q1720 : (Jvm.Cond.laysFinal "LeekReadingsModel" "LeekReadingsModel" "code" "[I") ∈ lw_all := lw_g (lw_at lw_m7 144 rfl) rfl
theorem q1721 : (Jvm.Cond.soleField "LeekReadingsModel" "code") ∈ lw_all := lw_g (lw_at lw_m7 145 rfl) rfl
theorem q1722 : (Jvm.Cond.laysFinal "LeekReadingsModel" "LeekReadingsModel" "value" "[I") ∈ lw_all := lw_g (lw_at lw_m7 146 rfl) rfl
theorem q1723 : (Jvm.Cond.soleField "LeekReadingsModel" "value") ∈ lw_all := lw_g (lw_at lw_m7 147 rfl) rfl
theorem q1724 : (Jvm.Cond.laysFinal "LeekReadingsModel" "LeekReadingsModel" "placed" "[I") ∈ lw_all := lw_g (lw_at lw_m7 148 rfl) rfl
theorem q1725 : (Jvm.Cond.soleField "LeekReadingsModel" "placed") ∈ lw_all := lw_g (lw_at lw_m7 149 rfl) rfl
theorem q1726 : (Jvm.Cond.lays "LeekReadingsModel" "LeekReadingsModel" "tokens" "I") ∈ lw_all := lw_g (lw_at lw_m7 150 rfl) rfl
theorem q1727 : (Jvm.Cond.soleField "LeekReadingsModel" "tokens") ∈ lw_all := lw_g (lw_at lw_m7 151 rfl) rfl
theorem q1728 : (Jvm.Cond.lays "LeekReadingsModel" "LeekReadingsModel" "token" "I") ∈ lw_all := lw_g (lw_at lw_m7 152 rfl) rfl
theorem q1729 : (Jvm.Cond.soleField "LeekReadingsModel" "token") ∈ lw_all := lw_g (lw_at lw_m7 153 rfl) rfl
theorem q1730 : (Jvm.Cond.lays "LeekReadingsModel" "LeekReadingsModel" "leaves" "I") ∈ lw_all := lw_g (lw_at lw_m7 154 rfl) rfl
theorem q1731 : (Jvm.Cond.soleField "LeekReadingsModel" "leaves") ∈ lw_all := lw_g (lw_at lw_m7 155 rfl) rfl
theorem q1732 : (Jvm.Cond.lays "LeekReadingsModel" "LeekReadingsModel" "bad" "I") ∈ lw_all := lw_g (lw_at lw_m7 156 rfl) rfl
theorem q1733 : (Jvm.Cond.soleField "LeekReadingsModel" "bad") ∈ lw_all := lw_g (lw_at lw_m7 157 rfl) rfl
theorem q1734 : (Jvm.Cond.lays "LeekReadingsModel" "LeekReadingsModel" "go" "I") ∈ lw_all := lw_g (lw_at lw_m7 158 rfl) rfl
theorem q1735 : (Jvm.Cond.soleField "LeekReadingsModel" "go") ∈ lw_all := lw_g (lw_at lw_m7 159 rfl) rfl
theorem q1736 : (Jvm.Cond.lays "LeekReadingsModel" "LeekReadingsModel" "goEnd" "I") ∈ lw_all := lw_g (lw_at lw_m7 160 rfl) rfl
theorem q1737 : (Jvm.Cond.soleField "LeekReadingsModel" "goEnd") ∈ lw_all := lw_g (lw_at lw_m7 161 rfl) rfl
theorem q1738 : (Jvm.Cond.lays "LeekReadingsModel" "LeekReadingsModel" "broken" "Z") ∈ lw_all := lw_g (lw_at lw_m7 162 rfl) rfl
theorem q1739 : (Jvm.Cond.soleField "LeekReadingsModel" "broken") ∈ lw_all := lw_g (lw_at lw_m7 163 rfl) rfl
theorem q1740 : (Jvm.Cond.lays "LeekReadingsModel" "LeekReadingsModel" "inOrders" "Z") ∈ lw_all := lw_g (lw_at lw_m7 164 rfl) rfl
theorem q1741 : (Jvm.Cond.soleField "LeekReadingsModel" "inOrders") ∈ lw_all := lw_g (lw_at lw_m7 165 rfl) rfl
theorem q1742 : (Jvm.Cond.laysFinal "LeekReadingsModel" "LeekReadingsModel" "asked" "[I") ∈ lw_all := lw_g (lw_at lw_m7 166 rfl) rfl
theorem q1743 : (Jvm.Cond.soleField "LeekReadingsModel" "asked") ∈ lw_all := lw_g (lw_at lw_m7 167 rfl) rfl
theorem q1744 : (Jvm.Cond.lays "LeekReadingsModel" "LeekReadingsModel" "orderDone" "I") ∈ lw_all := lw_g (lw_at lw_m7 168 rfl) rfl
theorem q1745 : (Jvm.Cond.soleField "LeekReadingsModel" "orderDone") ∈ lw_all := lw_g (lw_at lw_m7 169 rfl) rfl
theorem q1746 : (Jvm.Cond.lays "LeekReadingsModel" "LeekReadingsModel" "orderLatest" "I") ∈ lw_all := lw_g (lw_at lw_m7 170 rfl) rfl
theorem q1747 : (Jvm.Cond.soleField "LeekReadingsModel" "orderLatest") ∈ lw_all := lw_g (lw_at lw_m7 171 rfl) rfl
theorem q1748 : (Jvm.Cond.laysFinal "LeekReadingsModel" "LeekReadingsModel" "change" "[I") ∈ lw_all := lw_g (lw_at lw_m7 172 rfl) rfl
theorem q1749 : (Jvm.Cond.soleField "LeekReadingsModel" "change") ∈ lw_all := lw_g (lw_at lw_m7 173 rfl) rfl
theorem q1750 : (Jvm.Cond.laysFinal "LeekReadingsModel" "LeekReadingsModel" "left0" "[I") ∈ lw_all := lw_g (lw_at lw_m7 174 rfl) rfl
theorem q1751 : (Jvm.Cond.soleField "LeekReadingsModel" "left0") ∈ lw_all := lw_g (lw_at lw_m7 175 rfl) rfl
theorem q1752 : (Jvm.Cond.laysFinal "LeekReadingsModel" "LeekReadingsModel" "leftAhead" "[I") ∈ lw_all := lw_g (lw_at lw_m7 176 rfl) rfl
theorem q1753 : (Jvm.Cond.soleField "LeekReadingsModel" "leftAhead") ∈ lw_all := lw_g (lw_at lw_m7 177 rfl) rfl
theorem q1754 : (Jvm.Cond.lays "LeekReadingsModel" "LeekReadingsModel" "undoMany" "I") ∈ lw_all := lw_g (lw_at lw_m7 178 rfl) rfl
theorem q1755 : (Jvm.Cond.soleField "LeekReadingsModel" "undoMany") ∈ lw_all := lw_g (lw_at lw_m7 179 rfl) rfl
theorem q1756 : (Jvm.Cond.laysFinal "LeekReadingsModel" "LeekReadingsModel" "rowMany" "[I") ∈ lw_all := lw_g (lw_at lw_m7 180 rfl) rfl
theorem q1757 : (Jvm.Cond.soleField "LeekReadingsModel" "rowMany") ∈ lw_all := lw_g (lw_at lw_m7 181 rfl) rfl
theorem q1758 : (Jvm.Cond.laysFinal "LeekReadingsModel" "LeekReadingsModel" "depth" "[I") ∈ lw_all := lw_g (lw_at lw_m7 182 rfl) rfl
theorem q1759 : (Jvm.Cond.soleField "LeekReadingsModel" "depth") ∈ lw_all := lw_g (lw_at lw_m7 183 rfl) rfl
theorem q1760 : (Jvm.Cond.laysFinal "LeekReadingsModel" "LeekReadingsModel" "barredBy" "[Z") ∈ lw_all := lw_g (lw_at lw_m7 184 rfl) rfl
theorem q1761 : (Jvm.Cond.soleField "LeekReadingsModel" "barredBy") ∈ lw_all := lw_g (lw_at lw_m7 185 rfl) rfl
theorem q1762 : (Jvm.Cond.laysFinal "LeekReadingsModel" "LeekReadingsModel" "row0" "[I") ∈ lw_all := lw_g (lw_at lw_m7 186 rfl) rfl
theorem q1763 : (Jvm.Cond.soleField "LeekReadingsModel" "row0") ∈ lw_all := lw_g (lw_at lw_m7 187 rfl) rfl
theorem q1764 : (Jvm.Cond.laysFinal "LeekReadingsModel" "LeekReadingsModel" "bestRow" "[I") ∈ lw_all := lw_g (lw_at lw_m7 188 rfl) rfl
theorem q1765 : (Jvm.Cond.soleField "LeekReadingsModel" "bestRow") ∈ lw_all := lw_g (lw_at lw_m7 189 rfl) rfl
theorem q1766 : (Jvm.Cond.lays "LeekReadingsModel" "LeekReadingsModel" "bestMany" "I") ∈ lw_all := lw_g (lw_at lw_m7 190 rfl) rfl
theorem q1767 : (Jvm.Cond.soleField "LeekReadingsModel" "bestMany") ∈ lw_all := lw_g (lw_at lw_m7 191 rfl) rfl
theorem q1768 : (Jvm.Cond.lays "LeekReadingsModel" "LeekReadingsModel" "bestHigh" "I") ∈ lw_all := lw_g (lw_at lw_m7 192 rfl) rfl
theorem q1769 : (Jvm.Cond.soleField "LeekReadingsModel" "bestHigh") ∈ lw_all := lw_g (lw_at lw_m7 193 rfl) rfl
theorem q1770 : (Jvm.Cond.lays "LeekReadingsModel" "LeekReadingsModel" "soonest" "I") ∈ lw_all := lw_g (lw_at lw_m7 194 rfl) rfl
theorem q1771 : (Jvm.Cond.soleField "LeekReadingsModel" "soonest") ∈ lw_all := lw_g (lw_at lw_m7 195 rfl) rfl
theorem q1772 : (Jvm.Cond.lays "LeekReadingsModel" "LeekReadingsModel" "within" "I") ∈ lw_all := lw_g (lw_at lw_m7 196 rfl) rfl
theorem q1773 : (Jvm.Cond.soleField "LeekReadingsModel" "within") ∈ lw_all := lw_g (lw_at lw_m7 197 rfl) rfl
theorem q1774 : (Jvm.Cond.lays "LeekReadingsModel" "LeekReadingsModel" "wanted" "I") ∈ lw_all := lw_g (lw_at lw_m7 198 rfl) rfl
theorem q1775 : (Jvm.Cond.soleField "LeekReadingsModel" "wanted") ∈ lw_all := lw_g (lw_at lw_m7 199 rfl) rfl
theorem q1776 : (Jvm.Cond.laysFinal "LeekReadingsModel" "LeekReadingsModel" "growth" "[I") ∈ lw_all := lw_g (lw_at lw_m7 200 rfl) rfl
theorem q1777 : (Jvm.Cond.soleField "LeekReadingsModel" "growth") ∈ lw_all := lw_g (lw_at lw_m7 201 rfl) rfl
theorem q1778 : (Jvm.Cond.laysFinal "LeekReadingsModel" "LeekReadingsModel" "shares" "[J") ∈ lw_all := lw_g (lw_at lw_m7 202 rfl) rfl
theorem q1779 : (Jvm.Cond.soleField "LeekReadingsModel" "shares") ∈ lw_all := lw_g (lw_at lw_m7 203 rfl) rfl
theorem q1780 : (Jvm.Cond.lays "LeekReadingsModel" "LeekReadingsModel" "stopped0" "I") ∈ lw_all := lw_g (lw_at lw_m7 204 rfl) rfl
theorem q1781 : (Jvm.Cond.soleField "LeekReadingsModel" "stopped0") ∈ lw_all := lw_g (lw_at lw_m7 205 rfl) rfl
theorem q1782 : (Jvm.Cond.lays "LeekReadingsModel" "LeekReadingsModel" "orderAt" "I") ∈ lw_all := lw_g (lw_at lw_m7 206 rfl) rfl
theorem q1783 : (Jvm.Cond.soleField "LeekReadingsModel" "orderAt") ∈ lw_all := lw_g (lw_at lw_m7 207 rfl) rfl
theorem q1784 : (Jvm.Cond.lays "LeekReadingsModel" "LeekReadingsModel" "howOften" "I") ∈ lw_all := lw_g (lw_at lw_m7 208 rfl) rfl
theorem q1785 : (Jvm.Cond.soleField "LeekReadingsModel" "howOften") ∈ lw_all := lw_g (lw_at lw_m7 209 rfl) rfl
theorem q1786 : (Jvm.Cond.lays "LeekReadingsModel" "LeekReadingsModel" "head" "I") ∈ lw_all := lw_g (lw_at lw_m7 210 rfl) rfl
theorem q1787 : (Jvm.Cond.soleField "LeekReadingsModel" "head") ∈ lw_all := lw_g (lw_at lw_m7 211 rfl) rfl
theorem q1788 : (Jvm.Cond.lays "LeekReadingsModel" "LeekReadingsModel" "sumsAre" "Z") ∈ lw_all := lw_g (lw_at lw_m7 212 rfl) rfl
theorem q1789 : (Jvm.Cond.soleField "LeekReadingsModel" "sumsAre") ∈ lw_all := lw_g (lw_at lw_m7 213 rfl) rfl
theorem q1790 : (Jvm.Cond.lays "LeekReadingsModel" "LeekReadingsModel" "testIs" "Z") ∈ lw_all := lw_g (lw_at lw_m7 214 rfl) rfl
theorem q1791 : (Jvm.Cond.soleField "LeekReadingsModel" "testIs") ∈ lw_all := lw_g (lw_at lw_m7 215 rfl) rfl
theorem q1792 : (Jvm.Cond.lays "LeekReadingsModel" "LeekReadingsModel" "sum0" "J") ∈ lw_all := lw_g (lw_at lw_m7 216 rfl) rfl
theorem q1793 : (Jvm.Cond.soleField "LeekReadingsModel" "sum0") ∈ lw_all := lw_g (lw_at lw_m7 217 rfl) rfl
theorem q1794 : (Jvm.Cond.laysFinal "LeekReadingsModel" "LeekReadingsModel" "drawnMoved" "[I") ∈ lw_all := lw_g (lw_at lw_m7 218 rfl) rfl
theorem q1795 : (Jvm.Cond.soleField "LeekReadingsModel" "drawnMoved") ∈ lw_all := lw_g (lw_at lw_m7 219 rfl) rfl
theorem q1796 : (Jvm.Cond.lays "LeekReadingsModel" "LeekReadingsModel" "drawnBooks" "I") ∈ lw_all := lw_g (lw_at lw_m7 220 rfl) rfl
theorem q1797 : (Jvm.Cond.soleField "LeekReadingsModel" "drawnBooks") ∈ lw_all := lw_g (lw_at lw_m7 221 rfl) rfl
theorem q1798 : (Jvm.Cond.lays "LeekReadingsModel" "LeekReadingsModel" "drawnLeeks" "I") ∈ lw_all := lw_g (lw_at lw_m7 222 rfl) rfl
theorem q1799 : (Jvm.Cond.soleField "LeekReadingsModel" "drawnLeeks") ∈ lw_all := lw_g (lw_at lw_m7 223 rfl) rfl
theorem q1800 : (Jvm.Cond.lays "LeekReadingsModel" "LeekReadingsModel" "latest" "I") ∈ lw_all := lw_g (lw_at lw_m7 224 rfl) rfl
theorem q1801 : (Jvm.Cond.soleField "LeekReadingsModel" "latest") ∈ lw_all := lw_g (lw_at lw_m7 225 rfl) rfl
theorem q1802 : (Jvm.Cond.superclass "LeekReadingsModel" "java/lang/Object") ∈ lw_all := lw_g (lw_at lw_m7 226 rfl) rfl
theorem q1805 : (Jvm.Cond.instanceMethod ({ cls := "LeekReadingsModel", name := "image", desc := "(I)I" } : Jvm.MethodName)) ∈ lw_all := lw_g (lw_at lw_m7 229 rfl) rfl
theorem q1806 : (Jvm.Cond.selects "LeekReadingsModel" ({ cls := "LeekReadingsModel", name := "image", desc := "(I)I" } : Jvm.MethodName) ({ cls := "LeekReadingsModel", name := "image", desc := "(I)I" } : Jvm.MethodName)) ∈ lw_all := lw_g (lw_at lw_m7 230 rfl) rfl
theorem q1807 : (Jvm.Cond.code ({ cls := "LeekReadingsModel", name := "image", desc := "(I)I" } : Jvm.MethodName) prog_24_method_12_code (3 : Nat) (Option.some Jvm.ClassFile.FieldType.int)) ∈ lw_all := lw_g (lw_at lw_m7 231 rfl) rfl
theorem q1808 : (Jvm.Cond.methodLink "LeekReadingsModel" (102 : Nat) ({ cls := "LeekReadingsModel", name := "lies", desc := "(III)Z" } : Jvm.MethodName)) ∈ lw_all := lw_g (lw_at lw_m7 232 rfl) rfl
theorem q1809 : (Jvm.Cond.static ({ cls := "LeekReadingsModel", name := "lies", desc := "(III)Z" } : Jvm.MethodName)) ∈ lw_all := lw_g (lw_at lw_m7 233 rfl) rfl
theorem q1810 : (Jvm.Cond.code ({ cls := "LeekReadingsModel", name := "lies", desc := "(III)Z" } : Jvm.MethodName) prog_24_method_1_code (3 : Nat) (Option.some Jvm.ClassFile.FieldType.boolean)) ∈ lw_all := lw_g (lw_at lw_m7 234 rfl) rfl
theorem q1811 : (Jvm.Cond.methodLink "LeekReadingsModel" (106 : Nat) ({ cls := "LeekReadingsModel", name := "refuses", desc := "(I)I" } : Jvm.MethodName)) ∈ lw_all := lw_g (lw_at lw_m7 235 rfl) rfl
theorem q1812 : (Jvm.Cond.privateMethod ({ cls := "LeekReadingsModel", name := "refuses", desc := "(I)I" } : Jvm.MethodName)) ∈ lw_tbl := lw_at lw_m7 236 rfl
theorem q1813 : (Jvm.Cond.instanceMethod ({ cls := "LeekReadingsModel", name := "refuses", desc := "(I)I" } : Jvm.MethodName)) ∈ lw_all := lw_g (lw_at lw_m7 237 rfl) rfl
theorem q1814 : (Jvm.Cond.code ({ cls := "LeekReadingsModel", name := "refuses", desc := "(I)I" } : Jvm.MethodName) prog_24_method_4_code (2 : Nat) (Option.some Jvm.ClassFile.FieldType.int)) ∈ lw_all := lw_g (lw_at lw_m7 238 rfl) rfl
theorem q1815 : (Jvm.Cond.methodLink "LeekReadingsModel" (14 : Nat) ({ cls := "LeekReadingsModel", name := "good", desc := "(I)I" } : Jvm.MethodName)) ∈ lw_all := lw_g (lw_at lw_m7 239 rfl) rfl
theorem q1816 : (Jvm.Cond.privateMethod ({ cls := "LeekReadingsModel", name := "good", desc := "(I)I" } : Jvm.MethodName)) ∈ lw_tbl := lw_at lw_m8 0 rfl
theorem q1817 : (Jvm.Cond.instanceMethod ({ cls := "LeekReadingsModel", name := "good", desc := "(I)I" } : Jvm.MethodName)) ∈ lw_all := lw_g (lw_at lw_m8 1 rfl) rfl
theorem q1818 : (Jvm.Cond.code ({ cls := "LeekReadingsModel", name := "good", desc := "(I)I" } : Jvm.MethodName) prog_24_method_5_code (2 : Nat) (Option.some Jvm.ClassFile.FieldType.int)) ∈ lw_all := lw_g (lw_at lw_m8 2 rfl) rfl
theorem q1820 : (Jvm.Cond.instanceMethod ({ cls := "LeekReadingsModel", name := "back", desc := "(I)I" } : Jvm.MethodName)) ∈ lw_all := lw_g (lw_at lw_m8 4 rfl) rfl
theorem q1821 : (Jvm.Cond.selects "LeekReadingsModel" ({ cls := "LeekReadingsModel", name := "back", desc := "(I)I" } : Jvm.MethodName) ({ cls := "LeekReadingsModel", name := "back", desc := "(I)I" } : Jvm.MethodName)) ∈ lw_all := lw_g (lw_at lw_m8 5 rfl) rfl
theorem q1822 : (Jvm.Cond.code ({ cls := "LeekReadingsModel", name := "back", desc := "(I)I" } : Jvm.MethodName) prog_24_method_13_code (3 : Nat) (Option.some Jvm.ClassFile.FieldType.int)) ∈ lw_all := lw_g (lw_at lw_m8 6 rfl) rfl
theorem q1823 : (Jvm.Cond.methodLink "LeekReadingsModel" (109 : Nat) ({ cls := "LeekReadingsModel", name := "settled", desc := "(I)I" } : Jvm.MethodName)) ∈ lw_all := lw_g (lw_at lw_m8 7 rfl) rfl
theorem q1824 : (Jvm.Cond.privateMethod ({ cls := "LeekReadingsModel", name := "settled", desc := "(I)I" } : Jvm.MethodName)) ∈ lw_tbl := lw_at lw_m8 8 rfl
theorem q1825 : (Jvm.Cond.instanceMethod ({ cls := "LeekReadingsModel", name := "settled", desc := "(I)I" } : Jvm.MethodName)) ∈ lw_all := lw_g (lw_at lw_m8 9 rfl) rfl
theorem q1826 : (Jvm.Cond.code ({ cls := "LeekReadingsModel", name := "settled", desc := "(I)I" } : Jvm.MethodName) prog_24_method_6_code (2 : Nat) (Option.some Jvm.ClassFile.FieldType.int)) ∈ lw_all := lw_g (lw_at lw_m8 10 rfl) rfl
theorem q1828 : (Jvm.Cond.instanceMethod ({ cls := "LeekReadingsModel", name := "book", desc := "(II)I" } : Jvm.MethodName)) ∈ lw_all := lw_g (lw_at lw_m8 12 rfl) rfl
theorem q1829 : (Jvm.Cond.selects "LeekReadingsModel" ({ cls := "LeekReadingsModel", name := "book", desc := "(II)I" } : Jvm.MethodName) ({ cls := "LeekReadingsModel", name := "book", desc := "(II)I" } : Jvm.MethodName)) ∈ lw_all := lw_g (lw_at lw_m8 13 rfl) rfl
theorem q1830 : (Jvm.Cond.code ({ cls := "LeekReadingsModel", name := "book", desc := "(II)I" } : Jvm.MethodName) prog_24_method_21_code (3 : Nat) (Option.some Jvm.ClassFile.FieldType.int)) ∈ lw_all := lw_g (lw_at lw_m8 14 rfl) rfl
theorem q1831 : (Jvm.Cond.methodLink "LeekReadingsModel" (123 : Nat) ({ cls := "LeekReadingsModel", name := "canBook", desc := "(II)Z" } : Jvm.MethodName)) ∈ lw_all := lw_g (lw_at lw_m8 15 rfl) rfl
theorem q1832 : (Jvm.Cond.static ({ cls := "LeekReadingsModel", name := "canBook", desc := "(II)Z" } : Jvm.MethodName)) ∈ lw_all := lw_g (lw_at lw_m8 16 rfl) rfl
theorem q1833 : (Jvm.Cond.code ({ cls := "LeekReadingsModel", name := "canBook", desc := "(II)Z" } : Jvm.MethodName) prog_24_method_19_code (2 : Nat) (Option.some Jvm.ClassFile.FieldType.boolean)) ∈ lw_all := lw_g (lw_at lw_m8 17 rfl) rfl
theorem q1834 : (Jvm.Cond.methodLink "LeekReadingsModel" (112 : Nat) ({ cls := "LeekReadingsModel", name := "bookMany", desc := "()I" } : Jvm.MethodName)) ∈ lw_all := lw_g (lw_at lw_m8 18 rfl) rfl
theorem q1835 : (Jvm.Cond.privateMethod ({ cls := "LeekReadingsModel", name := "bookMany", desc := "()I" } : Jvm.MethodName)) ∈ lw_tbl := lw_at lw_m8 19 rfl
theorem q1836 : (Jvm.Cond.instanceMethod ({ cls := "LeekReadingsModel", name := "bookMany", desc := "()I" } : Jvm.MethodName)) ∈ lw_all := lw_g (lw_at lw_m8 20 rfl) rfl
theorem q1837 : (Jvm.Cond.code ({ cls := "LeekReadingsModel", name := "bookMany", desc := "()I" } : Jvm.MethodName) prog_24_method_14_code (1 : Nat) (Option.some Jvm.ClassFile.FieldType.int)) ∈ lw_all := lw_g (lw_at lw_m8 21 rfl) rfl
theorem q1838 : (Jvm.Cond.methodLink "LeekReadingsModel" (126 : Nat) ({ cls := "LeekReadingsModel", name := "adds", desc := "(III)V" } : Jvm.MethodName)) ∈ lw_all := lw_g (lw_at lw_m8 22 rfl) rfl
theorem q1839 : (Jvm.Cond.privateMethod ({ cls := "LeekReadingsModel", name := "adds", desc := "(III)V" } : Jvm.MethodName)) ∈ lw_tbl := lw_at lw_m8 23 rfl
theorem q1840 : (Jvm.Cond.instanceMethod ({ cls := "LeekReadingsModel", name := "adds", desc := "(III)V" } : Jvm.MethodName)) ∈ lw_all := lw_g (lw_at lw_m8 24 rfl) rfl
theorem q1841 : (Jvm.Cond.code ({ cls := "LeekReadingsModel", name := "adds", desc := "(III)V" } : Jvm.MethodName) prog_24_method_20_code (5 : Nat) (Option.none : Option Jvm.ClassFile.FieldType)) ∈ lw_all := lw_g (lw_at lw_m8 25 rfl) rfl
theorem q1843 : (Jvm.Cond.instanceMethod ({ cls := "LeekReadingsModel", name := "need", desc := "(III)I" } : Jvm.MethodName)) ∈ lw_all := lw_g (lw_at lw_m8 27 rfl) rfl
theorem q1844 : (Jvm.Cond.selects "LeekReadingsModel" ({ cls := "LeekReadingsModel", name := "need", desc := "(III)I" } : Jvm.MethodName) ({ cls := "LeekReadingsModel", name := "need", desc := "(III)I" } : Jvm.MethodName)) ∈ lw_all := lw_g (lw_at lw_m8 28 rfl) rfl
theorem q1845 : (Jvm.Cond.code ({ cls := "LeekReadingsModel", name := "need", desc := "(III)I" } : Jvm.MethodName) prog_24_method_22_code (5 : Nat) (Option.some Jvm.ClassFile.FieldType.int)) ∈ lw_all := lw_g (lw_at lw_m8 29 rfl) rfl
theorem q1846 : (Jvm.Cond.methodLink "LeekReadingsModel" (130 : Nat) ({ cls := "LeekReadingsModel", name := "isBook", desc := "(I)Z" } : Jvm.MethodName)) ∈ lw_all := lw_g (lw_at lw_m8 30 rfl) rfl
theorem q1847 : (Jvm.Cond.privateMethod ({ cls := "LeekReadingsModel", name := "isBook", desc := "(I)Z" } : Jvm.MethodName)) ∈ lw_tbl := lw_at lw_m8 31 rfl
theorem q1848 : (Jvm.Cond.instanceMethod ({ cls := "LeekReadingsModel", name := "isBook", desc := "(I)Z" } : Jvm.MethodName)) ∈ lw_all := lw_g (lw_at lw_m8 32 rfl) rfl
theorem q1849 : (Jvm.Cond.code ({ cls := "LeekReadingsModel", name := "isBook", desc := "(I)Z" } : Jvm.MethodName) prog_24_method_16_code (2 : Nat) (Option.some Jvm.ClassFile.FieldType.boolean)) ∈ lw_all := lw_g (lw_at lw_m8 33 rfl) rfl
theorem q1851 : (Jvm.Cond.instanceMethod ({ cls := "LeekReadingsModel", name := "of", desc := "(II)I" } : Jvm.MethodName)) ∈ lw_all := lw_g (lw_at lw_m8 35 rfl) rfl
theorem q1852 : (Jvm.Cond.selects "LeekReadingsModel" ({ cls := "LeekReadingsModel", name := "of", desc := "(II)I" } : Jvm.MethodName) ({ cls := "LeekReadingsModel", name := "of", desc := "(II)I" } : Jvm.MethodName)) ∈ lw_all := lw_g (lw_at lw_m8 36 rfl) rfl
theorem q1853 : (Jvm.Cond.code ({ cls := "LeekReadingsModel", name := "of", desc := "(II)I" } : Jvm.MethodName) prog_24_method_23_code (3 : Nat) (Option.some Jvm.ClassFile.FieldType.int)) ∈ lw_all := lw_g (lw_at lw_m8 37 rfl) rfl
theorem q1854 : (Jvm.Cond.methodLink "LeekReadingsModel" (134 : Nat) ({ cls := "LeekReadingsModel", name := "isRead", desc := "(I)Z" } : Jvm.MethodName)) ∈ lw_all := lw_g (lw_at lw_m8 38 rfl) rfl
theorem q1855 : (Jvm.Cond.privateMethod ({ cls := "LeekReadingsModel", name := "isRead", desc := "(I)Z" } : Jvm.MethodName)) ∈ lw_tbl := lw_at lw_m8 39 rfl
theorem q1856 : (Jvm.Cond.instanceMethod ({ cls := "LeekReadingsModel", name := "isRead", desc := "(I)Z" } : Jvm.MethodName)) ∈ lw_all := lw_g (lw_at lw_m8 40 rfl) rfl
theorem q1857 : (Jvm.Cond.code ({ cls := "LeekReadingsModel", name := "isRead", desc := "(I)Z" } : Jvm.MethodName) prog_24_method_18_code (2 : Nat) (Option.some Jvm.ClassFile.FieldType.boolean)) ∈ lw_all := lw_g (lw_at lw_m8 41 rfl) rfl
theorem q1858 : (Jvm.Cond.methodLink "LeekReadingsModel" (119 : Nat) ({ cls := "LeekReadingsModel", name := "isIn", desc := "(II)Z" } : Jvm.MethodName)) ∈ lw_all := lw_g (lw_at lw_m8 42 rfl) rfl
theorem q1859 : (Jvm.Cond.static ({ cls := "LeekReadingsModel", name := "isIn", desc := "(II)Z" } : Jvm.MethodName)) ∈ lw_all := lw_g (lw_at lw_m8 43 rfl) rfl
theorem q1860 : (Jvm.Cond.code ({ cls := "LeekReadingsModel", name := "isIn", desc := "(II)Z" } : Jvm.MethodName) prog_24_method_7_code (2 : Nat) (Option.some Jvm.ClassFile.FieldType.boolean)) ∈ lw_all := lw_g (lw_at lw_m8 44 rfl) rfl
theorem q1861 : (Jvm.Cond.methodLink "LeekReadingsModel" (137 : Nat) ({ cls := "LeekReadingsModel", name := "isOpen", desc := "(II)Z" } : Jvm.MethodName)) ∈ lw_all := lw_g (lw_at lw_m8 45 rfl) rfl
theorem q1862 : (Jvm.Cond.privateMethod ({ cls := "LeekReadingsModel", name := "isOpen", desc := "(II)Z" } : Jvm.MethodName)) ∈ lw_tbl := lw_at lw_m8 46 rfl
theorem q1863 : (Jvm.Cond.instanceMethod ({ cls := "LeekReadingsModel", name := "isOpen", desc := "(II)Z" } : Jvm.MethodName)) ∈ lw_all := lw_g (lw_at lw_m8 47 rfl) rfl
theorem q1864 : (Jvm.Cond.code ({ cls := "LeekReadingsModel", name := "isOpen", desc := "(II)Z" } : Jvm.MethodName) prog_24_method_79_code (3 : Nat) (Option.some Jvm.ClassFile.FieldType.boolean)) ∈ lw_all := lw_g (lw_at lw_m8 48 rfl) rfl
theorem q1865 : (Jvm.Cond.methodLink "LeekReadingsModel" (140 : Nat) ({ cls := "LeekReadingsModel", name := "isBarred", desc := "(I)Z" } : Jvm.MethodName)) ∈ lw_all := lw_g (lw_at lw_m8 49 rfl) rfl
theorem q1866 : (Jvm.Cond.privateMethod ({ cls := "LeekReadingsModel", name := "isBarred", desc := "(I)Z" } : Jvm.MethodName)) ∈ lw_tbl := lw_at lw_m8 50 rfl
theorem q1867 : (Jvm.Cond.instanceMethod ({ cls := "LeekReadingsModel", name := "isBarred", desc := "(I)Z" } : Jvm.MethodName)) ∈ lw_all := lw_g (lw_at lw_m8 51 rfl) rfl
theorem q1868 : (Jvm.Cond.code ({ cls := "LeekReadingsModel", name := "isBarred", desc := "(I)Z" } : Jvm.MethodName) prog_24_method_78_code (2 : Nat) (Option.some Jvm.ClassFile.FieldType.boolean)) ∈ lw_all := lw_g (lw_at lw_m8 52 rfl) rfl
theorem q1869 : (Jvm.Cond.methodLink "LeekReadingsModel" (304 : Nat) ({ cls := "LeekReadingsModel", name := "ones", desc := "(I)I" } : Jvm.MethodName)) ∈ lw_all := lw_g (lw_at lw_m8 53 rfl) rfl
theorem q1870 : (Jvm.Cond.static ({ cls := "LeekReadingsModel", name := "ones", desc := "(I)I" } : Jvm.MethodName)) ∈ lw_all := lw_g (lw_at lw_m8 54 rfl) rfl
theorem q1871 : (Jvm.Cond.code ({ cls := "LeekReadingsModel", name := "ones", desc := "(I)I" } : Jvm.MethodName) prog_24_method_8_code (3 : Nat) (Option.some Jvm.ClassFile.FieldType.int)) ∈ lw_all := lw_g (lw_at lw_m8 55 rfl) rfl
theorem q1872 : (Jvm.Cond.methodLink "LeekReadingsModel" (340 : Nat) ({ cls := "LeekReadingsModel", name := "isBarredBy", desc := "(III)Z" } : Jvm.MethodName)) ∈ lw_all := lw_g (lw_at lw_m8 56 rfl) rfl
theorem q1873 : (Jvm.Cond.privateMethod ({ cls := "LeekReadingsModel", name := "isBarredBy", desc := "(III)Z" } : Jvm.MethodName)) ∈ lw_tbl := lw_at lw_m8 57 rfl
theorem q1874 : (Jvm.Cond.instanceMethod ({ cls := "LeekReadingsModel", name := "isBarredBy", desc := "(III)Z" } : Jvm.MethodName)) ∈ lw_all := lw_g (lw_at lw_m8 58 rfl) rfl
theorem q1875 : (Jvm.Cond.code ({ cls := "LeekReadingsModel", name := "isBarredBy", desc := "(III)Z" } : Jvm.MethodName) prog_24_method_77_code (4 : Nat) (Option.some Jvm.ClassFile.FieldType.boolean)) ∈ lw_all := lw_g (lw_at lw_m8 59 rfl) rfl
theorem q1876 : (Jvm.Cond.methodLink "LeekReadingsModel" (328 : Nat) ({ cls := "LeekReadingsModel", name := "setsAsked", desc := "(IIIII)V" } : Jvm.MethodName)) ∈ lw_all := lw_g (lw_at lw_m8 60 rfl) rfl
theorem q1877 : (Jvm.Cond.privateMethod ({ cls := "LeekReadingsModel", name := "setsAsked", desc := "(IIIII)V" } : Jvm.MethodName)) ∈ lw_tbl := lw_at lw_m8 61 rfl
theorem q1878 : (Jvm.Cond.instanceMethod ({ cls := "LeekReadingsModel", name := "setsAsked", desc := "(IIIII)V" } : Jvm.MethodName)) ∈ lw_all := lw_g (lw_at lw_m8 62 rfl) rfl
theorem q1879 : (Jvm.Cond.code ({ cls := "LeekReadingsModel", name := "setsAsked", desc := "(IIIII)V" } : Jvm.MethodName) prog_24_method_72_code (6 : Nat) (Option.none : Option Jvm.ClassFile.FieldType)) ∈ lw_all := lw_g (lw_at lw_m8 63 rfl) rfl
theorem q1880 : (Jvm.Cond.methodLink "LeekReadingsModel" (332 : Nat) ({ cls := "LeekReadingsModel", name := "tells", desc := "(III)I" } : Jvm.MethodName)) ∈ lw_all := lw_g (lw_at lw_m8 64 rfl) rfl
theorem q1881 : (Jvm.Cond.privateMethod ({ cls := "LeekReadingsModel", name := "tells", desc := "(III)I" } : Jvm.MethodName)) ∈ lw_tbl := lw_at lw_m8 65 rfl
theorem q1882 : (Jvm.Cond.instanceMethod ({ cls := "LeekReadingsModel", name := "tells", desc := "(III)I" } : Jvm.MethodName)) ∈ lw_all := lw_g (lw_at lw_m8 66 rfl) rfl
theorem q1883 : (Jvm.Cond.code ({ cls := "LeekReadingsModel", name := "tells", desc := "(III)I" } : Jvm.MethodName) prog_24_method_73_code (11 : Nat) (Option.some Jvm.ClassFile.FieldType.int)) ∈ lw_all := lw_g (lw_at lw_m8 67 rfl) rfl
theorem q1884 : (Jvm.Cond.methodLink "LeekReadingsModel" (271 : Nat) ({ cls := "LeekReadingsModel", name := "codeAt", desc := "(I)I" } : Jvm.MethodName)) ∈ lw_all := lw_g (lw_at lw_m8 68 rfl) rfl
theorem q1885 : (Jvm.Cond.privateMethod ({ cls := "LeekReadingsModel", name := "codeAt", desc := "(I)I" } : Jvm.MethodName)) ∈ lw_tbl := lw_at lw_m8 69 rfl
theorem q1886 : (Jvm.Cond.instanceMethod ({ cls := "LeekReadingsModel", name := "codeAt", desc := "(I)I" } : Jvm.MethodName)) ∈ lw_all := lw_g (lw_at lw_m8 70 rfl) rfl
theorem q1887 : (Jvm.Cond.code ({ cls := "LeekReadingsModel", name := "codeAt", desc := "(I)I" } : Jvm.MethodName) prog_24_method_60_code (2 : Nat) (Option.some Jvm.ClassFile.FieldType.int)) ∈ lw_all := lw_g (lw_at lw_m8 71 rfl) rfl
theorem q1888 : (Jvm.Cond.methodLink "LeekReadingsModel" (295 : Nat) ({ cls := "LeekReadingsModel", name := "sumOf", desc := "(Z)J" } : Jvm.MethodName)) ∈ lw_all := lw_g (lw_at lw_m8 72 rfl) rfl
theorem q1889 : (Jvm.Cond.privateMethod ({ cls := "LeekReadingsModel", name := "sumOf", desc := "(Z)J" } : Jvm.MethodName)) ∈ lw_tbl := lw_at lw_m8 73 rfl
theorem q1890 : (Jvm.Cond.instanceMethod ({ cls := "LeekReadingsModel", name := "sumOf", desc := "(Z)J" } : Jvm.MethodName)) ∈ lw_all := lw_g (lw_at lw_m8 74 rfl) rfl
theorem q1891 : (Jvm.Cond.code ({ cls := "LeekReadingsModel", name := "sumOf", desc := "(Z)J" } : Jvm.MethodName) prog_24_method_63_code (7 : Nat) (Option.some Jvm.ClassFile.FieldType.long)) ∈ lw_all := lw_g (lw_at lw_m8 75 rfl) rfl
theorem q1892 : (Jvm.Cond.methodLink "LeekReadingsModel" (281 : Nat) ({ cls := "LeekReadingsModel", name := "termOf", desc := "(Z)J" } : Jvm.MethodName)) ∈ lw_all := lw_g (lw_at lw_m8 76 rfl) rfl
theorem q1893 : (Jvm.Cond.privateMethod ({ cls := "LeekReadingsModel", name := "termOf", desc := "(Z)J" } : Jvm.MethodName)) ∈ lw_tbl := lw_at lw_m8 77 rfl
theorem q1894 : (Jvm.Cond.instanceMethod ({ cls := "LeekReadingsModel", name := "termOf", desc := "(Z)J" } : Jvm.MethodName)) ∈ lw_all := lw_g (lw_at lw_m8 78 rfl) rfl
theorem q1895 : (Jvm.Cond.code ({ cls := "LeekReadingsModel", name := "termOf", desc := "(Z)J" } : Jvm.MethodName) prog_24_method_64_code (7 : Nat) (Option.some Jvm.ClassFile.FieldType.long)) ∈ lw_all := lw_g (lw_at lw_m8 79 rfl) rfl
theorem q1896 : (Jvm.Cond.methodLink "LeekReadingsModel" (289 : Nat) ({ cls := "LeekReadingsModel", name := "partOf", desc := "(Z)J" } : Jvm.MethodName)) ∈ lw_all := lw_g (lw_at lw_m8 80 rfl) rfl
theorem q1897 : (Jvm.Cond.privateMethod ({ cls := "LeekReadingsModel", name := "partOf", desc := "(Z)J" } : Jvm.MethodName)) ∈ lw_tbl := lw_at lw_m8 81 rfl
theorem q1898 : (Jvm.Cond.instanceMethod ({ cls := "LeekReadingsModel", name := "partOf", desc := "(Z)J" } : Jvm.MethodName)) ∈ lw_all := lw_g (lw_at lw_m8 82 rfl) rfl
theorem q1899 : (Jvm.Cond.code ({ cls := "LeekReadingsModel", name := "partOf", desc := "(Z)J" } : Jvm.MethodName) prog_24_method_65_code (4 : Nat) (Option.some Jvm.ClassFile.FieldType.long)) ∈ lw_all := lw_g (lw_at lw_m8 83 rfl) rfl
theorem q1900 : (Jvm.Cond.methodLink "LeekReadingsModel" (227 : Nat) ({ cls := "LeekReadingsModel", name := "sign", desc := "(C)I" } : Jvm.MethodName)) ∈ lw_all := lw_g (lw_at lw_m8 84 rfl) rfl
theorem q1901 : (Jvm.Cond.static ({ cls := "LeekReadingsModel", name := "sign", desc := "(C)I" } : Jvm.MethodName)) ∈ lw_all := lw_g (lw_at lw_m8 85 rfl) rfl
theorem q1902 : (Jvm.Cond.code ({ cls := "LeekReadingsModel", name := "sign", desc := "(C)I" } : Jvm.MethodName) prog_24_method_42_code (1 : Nat) (Option.some Jvm.ClassFile.FieldType.int)) ∈ lw_all := lw_g (lw_at lw_m8 86 rfl) rfl
theorem q1903 : (Jvm.Cond.methodLink "LeekReadingsModel" (292 : Nat) ({ cls := "LeekReadingsModel", name := "passes0", desc := "(I)Z" } : Jvm.MethodName)) ∈ lw_all := lw_g (lw_at lw_m8 87 rfl) rfl
theorem q1904 : (Jvm.Cond.privateMethod ({ cls := "LeekReadingsModel", name := "passes0", desc := "(I)Z" } : Jvm.MethodName)) ∈ lw_tbl := lw_at lw_m8 88 rfl
theorem q1905 : (Jvm.Cond.instanceMethod ({ cls := "LeekReadingsModel", name := "passes0", desc := "(I)Z" } : Jvm.MethodName)) ∈ lw_all := lw_g (lw_at lw_m8 89 rfl) rfl
theorem q1906 : (Jvm.Cond.code ({ cls := "LeekReadingsModel", name := "passes0", desc := "(I)Z" } : Jvm.MethodName) prog_24_method_61_code (3 : Nat) (Option.some Jvm.ClassFile.FieldType.boolean)) ∈ lw_all := lw_g (lw_at lw_m8 90 rfl) rfl
theorem q1907 : (Jvm.Cond.methodLink "LeekReadingsModel" (301 : Nat) ({ cls := "LeekReadingsModel", name := "orderValue", desc := "(II)I" } : Jvm.MethodName)) ∈ lw_all := lw_g (lw_at lw_m8 91 rfl) rfl
theorem q1908 : (Jvm.Cond.privateMethod ({ cls := "LeekReadingsModel", name := "orderValue", desc := "(II)I" } : Jvm.MethodName)) ∈ lw_tbl := lw_at lw_m8 92 rfl
theorem q1909 : (Jvm.Cond.instanceMethod ({ cls := "LeekReadingsModel", name := "orderValue", desc := "(II)I" } : Jvm.MethodName)) ∈ lw_all := lw_g (lw_at lw_m8 93 rfl) rfl
theorem q1910 : (Jvm.Cond.code ({ cls := "LeekReadingsModel", name := "orderValue", desc := "(II)I" } : Jvm.MethodName) prog_24_method_67_code (3 : Nat) (Option.some Jvm.ClassFile.FieldType.int)) ∈ lw_all := lw_g (lw_at lw_m8 94 rfl) rfl
theorem q1911 : (Jvm.Cond.methodLink "LeekReadingsModel" (143 : Nat) ({ cls := "LeekReadingsModel", name := "isLeek", desc := "(I)Z" } : Jvm.MethodName)) ∈ lw_all := lw_g (lw_at lw_m8 95 rfl) rfl
theorem q1912 : (Jvm.Cond.privateMethod ({ cls := "LeekReadingsModel", name := "isLeek", desc := "(I)Z" } : Jvm.MethodName)) ∈ lw_tbl := lw_at lw_m8 96 rfl
theorem q1913 : (Jvm.Cond.instanceMethod ({ cls := "LeekReadingsModel", name := "isLeek", desc := "(I)Z" } : Jvm.MethodName)) ∈ lw_all := lw_g (lw_at lw_m8 97 rfl) rfl
theorem q1914 : (Jvm.Cond.code ({ cls := "LeekReadingsModel", name := "isLeek", desc := "(I)Z" } : Jvm.MethodName) prog_24_method_17_code (2 : Nat) (Option.some Jvm.ClassFile.FieldType.boolean)) ∈ lw_all := lw_g (lw_at lw_m8 98 rfl) rfl
theorem q1915 : (Jvm.Cond.methodLink "LeekReadingsModel" (116 : Nat) ({ cls := "LeekReadingsModel", name := "leekMany", desc := "()I" } : Jvm.MethodName)) ∈ lw_all := lw_g (lw_at lw_m8 99 rfl) rfl
theorem q1916 : (Jvm.Cond.privateMethod ({ cls := "LeekReadingsModel", name := "leekMany", desc := "()I" } : Jvm.MethodName)) ∈ lw_tbl := lw_at lw_m8 100 rfl
theorem q1917 : (Jvm.Cond.instanceMethod ({ cls := "LeekReadingsModel", name := "leekMany", desc := "()I" } : Jvm.MethodName)) ∈ lw_all := lw_g (lw_at lw_m8 101 rfl) rfl
theorem q1918 : (Jvm.Cond.code ({ cls := "LeekReadingsModel", name := "leekMany", desc := "()I" } : Jvm.MethodName) prog_24_method_15_code (1 : Nat) (Option.some Jvm.ClassFile.FieldType.int)) ∈ lw_all := lw_g (lw_at lw_m8 102 rfl) rfl
theorem q1919 : (Jvm.Cond.methodLink "LeekReadingsModel" (313 : Nat) ({ cls := "LeekReadingsModel", name := "allHigh", desc := "()I" } : Jvm.MethodName)) ∈ lw_all := lw_g (lw_at lw_m8 103 rfl) rfl
theorem q1920 : (Jvm.Cond.privateMethod ({ cls := "LeekReadingsModel", name := "allHigh", desc := "()I" } : Jvm.MethodName)) ∈ lw_tbl := lw_at lw_m8 104 rfl
theorem q1921 : (Jvm.Cond.instanceMethod ({ cls := "LeekReadingsModel", name := "allHigh", desc := "()I" } : Jvm.MethodName)) ∈ lw_all := lw_g (lw_at lw_m8 105 rfl) rfl
theorem q1922 : (Jvm.Cond.code ({ cls := "LeekReadingsModel", name := "allHigh", desc := "()I" } : Jvm.MethodName) prog_24_method_66_code (3 : Nat) (Option.some Jvm.ClassFile.FieldType.int)) ∈ lw_all := lw_g (lw_at lw_m8 106 rfl) rfl
theorem q1923 : (Jvm.Cond.methodLink "LeekReadingsModel" (285 : Nat) ({ cls := "LeekReadingsModel", name := "bounded", desc := "(JZ)J" } : Jvm.MethodName)) ∈ lw_all := lw_g (lw_at lw_m8 107 rfl) rfl
theorem q1924 : (Jvm.Cond.privateMethod ({ cls := "LeekReadingsModel", name := "bounded", desc := "(JZ)J" } : Jvm.MethodName)) ∈ lw_tbl := lw_at lw_m8 108 rfl
theorem q1925 : (Jvm.Cond.instanceMethod ({ cls := "LeekReadingsModel", name := "bounded", desc := "(JZ)J" } : Jvm.MethodName)) ∈ lw_all := lw_g (lw_at lw_m8 109 rfl) rfl
theorem q1926 : (Jvm.Cond.code ({ cls := "LeekReadingsModel", name := "bounded", desc := "(JZ)J" } : Jvm.MethodName) prog_24_method_62_code (4 : Nat) (Option.some Jvm.ClassFile.FieldType.long)) ∈ lw_all := lw_g (lw_at lw_m8 110 rfl) rfl
theorem q1927 : (Jvm.Cond.constantLong "LeekReadingsModel" (274 : Nat) (1000000000 : Int64)) ∈ lw_all := lw_g (lw_at lw_m8 111 rfl) rfl
theorem q1928 : (Jvm.Cond.constantLong "LeekReadingsModel" (276 : Nat) (-1000000000 : Int64)) ∈ lw_all := lw_g (lw_at lw_m8 112 rfl) rfl
theorem q1929 : (Jvm.Cond.methodLink "LeekReadingsModel" (325 : Nat) ({ cls := "LeekReadingsModel", name := "testOf", desc := "(Z)Z" } : Jvm.MethodName)) ∈ lw_all := lw_g (lw_at lw_m8 113 rfl) rfl
theorem q1930 : (Jvm.Cond.privateMethod ({ cls := "LeekReadingsModel", name := "testOf", desc := "(Z)Z" } : Jvm.MethodName)) ∈ lw_tbl := lw_at lw_m8 114 rfl
theorem q1931 : (Jvm.Cond.instanceMethod ({ cls := "LeekReadingsModel", name := "testOf", desc := "(Z)Z" } : Jvm.MethodName)) ∈ lw_all := lw_g (lw_at lw_m8 115 rfl) rfl
theorem q1932 : (Jvm.Cond.code ({ cls := "LeekReadingsModel", name := "testOf", desc := "(Z)Z" } : Jvm.MethodName) prog_24_method_68_code (4 : Nat) (Option.some Jvm.ClassFile.FieldType.boolean)) ∈ lw_all := lw_g (lw_at lw_m8 116 rfl) rfl
theorem q1933 : (Jvm.Cond.methodLink "LeekReadingsModel" (316 : Nat) ({ cls := "LeekReadingsModel", name := "bothOf", desc := "(Z)Z" } : Jvm.MethodName)) ∈ lw_all := lw_g (lw_at lw_m8 117 rfl) rfl
theorem q1934 : (Jvm.Cond.privateMethod ({ cls := "LeekReadingsModel", name := "bothOf", desc := "(Z)Z" } : Jvm.MethodName)) ∈ lw_tbl := lw_at lw_m8 118 rfl
theorem q1935 : (Jvm.Cond.instanceMethod ({ cls := "LeekReadingsModel", name := "bothOf", desc := "(Z)Z" } : Jvm.MethodName)) ∈ lw_all := lw_g (lw_at lw_m8 119 rfl) rfl
theorem q1936 : (Jvm.Cond.code ({ cls := "LeekReadingsModel", name := "bothOf", desc := "(Z)Z" } : Jvm.MethodName) prog_24_method_69_code (4 : Nat) (Option.some Jvm.ClassFile.FieldType.boolean)) ∈ lw_all := lw_g (lw_at lw_m8 120 rfl) rfl
theorem q1937 : (Jvm.Cond.methodLink "LeekReadingsModel" (319 : Nat) ({ cls := "LeekReadingsModel", name := "plainOf", desc := "(Z)Z" } : Jvm.MethodName)) ∈ lw_all := lw_g (lw_at lw_m8 121 rfl) rfl
theorem q1938 : (Jvm.Cond.privateMethod ({ cls := "LeekReadingsModel", name := "plainOf", desc := "(Z)Z" } : Jvm.MethodName)) ∈ lw_tbl := lw_at lw_m8 122 rfl
theorem q1939 : (Jvm.Cond.instanceMethod ({ cls := "LeekReadingsModel", name := "plainOf", desc := "(Z)Z" } : Jvm.MethodName)) ∈ lw_all := lw_g (lw_at lw_m8 123 rfl) rfl
theorem q1940 : (Jvm.Cond.code ({ cls := "LeekReadingsModel", name := "plainOf", desc := "(Z)Z" } : Jvm.MethodName) prog_24_method_70_code (3 : Nat) (Option.some Jvm.ClassFile.FieldType.boolean)) ∈ lw_all := lw_g (lw_at lw_m8 124 rfl) rfl
theorem q1941 : (Jvm.Cond.methodLink "LeekReadingsModel" (322 : Nat) ({ cls := "LeekReadingsModel", name := "positiveOf", desc := "(Z)Z" } : Jvm.MethodName)) ∈ lw_all := lw_g (lw_at lw_m8 125 rfl) rfl
theorem q1942 : (Jvm.Cond.privateMethod ({ cls := "LeekReadingsModel", name := "positiveOf", desc := "(Z)Z" } : Jvm.MethodName)) ∈ lw_tbl := lw_at lw_m8 126 rfl
theorem q1943 : (Jvm.Cond.instanceMethod ({ cls := "LeekReadingsModel", name := "positiveOf", desc := "(Z)Z" } : Jvm.MethodName)) ∈ lw_all := lw_g (lw_at lw_m8 127 rfl) rfl
theorem q1944 : (Jvm.Cond.code ({ cls := "LeekReadingsModel", name := "positiveOf", desc := "(Z)Z" } : Jvm.MethodName) prog_24_method_71_code (7 : Nat) (Option.some Jvm.ClassFile.FieldType.boolean)) ∈ lw_all := lw_g (lw_at lw_m8 128 rfl) rfl
theorem q1946 : (Jvm.Cond.instanceMethod ({ cls := "LeekReadingsModel", name := "leek", desc := "(I)I" } : Jvm.MethodName)) ∈ lw_all := lw_g (lw_at lw_m8 130 rfl) rfl
theorem q1947 : (Jvm.Cond.selects "LeekReadingsModel" ({ cls := "LeekReadingsModel", name := "leek", desc := "(I)I" } : Jvm.MethodName) ({ cls := "LeekReadingsModel", name := "leek", desc := "(I)I" } : Jvm.MethodName)) ∈ lw_all := lw_g (lw_at lw_m8 131 rfl) rfl
theorem q1948 : (Jvm.Cond.code ({ cls := "LeekReadingsModel", name := "leek", desc := "(I)I" } : Jvm.MethodName) prog_24_method_24_code (3 : Nat) (Option.some Jvm.ClassFile.FieldType.int)) ∈ lw_all := lw_g (lw_at lw_m8 132 rfl) rfl
theorem q1950 : (Jvm.Cond.instanceMethod ({ cls := "LeekReadingsModel", name := "at", desc := "(II)I" } : Jvm.MethodName)) ∈ lw_all := lw_g (lw_at lw_m8 134 rfl) rfl
theorem q1951 : (Jvm.Cond.selects "LeekReadingsModel" ({ cls := "LeekReadingsModel", name := "at", desc := "(II)I" } : Jvm.MethodName) ({ cls := "LeekReadingsModel", name := "at", desc := "(II)I" } : Jvm.MethodName)) ∈ lw_all := lw_g (lw_at lw_m8 135 rfl) rfl
theorem q1952 : (Jvm.Cond.code ({ cls := "LeekReadingsModel", name := "at", desc := "(II)I" } : Jvm.MethodName) prog_24_method_25_code (3 : Nat) (Option.some Jvm.ClassFile.FieldType.int)) ∈ lw_all := lw_g (lw_at lw_m8 136 rfl) rfl
theorem q1953 : (Jvm.Cond.methodLink "LeekReadingsModel" (146 : Nat) ({ cls := "LeekReadingsModel", name := "growsNow", desc := "(II)I" } : Jvm.MethodName)) ∈ lw_all := lw_g (lw_at lw_m8 137 rfl) rfl
theorem q1954 : (Jvm.Cond.privateMethod ({ cls := "LeekReadingsModel", name := "growsNow", desc := "(II)I" } : Jvm.MethodName)) ∈ lw_tbl := lw_at lw_m8 138 rfl
theorem q1955 : (Jvm.Cond.instanceMethod ({ cls := "LeekReadingsModel", name := "growsNow", desc := "(II)I" } : Jvm.MethodName)) ∈ lw_all := lw_g (lw_at lw_m8 139 rfl) rfl
theorem q1956 : (Jvm.Cond.code ({ cls := "LeekReadingsModel", name := "growsNow", desc := "(II)I" } : Jvm.MethodName) prog_24_method_75_code (3 : Nat) (Option.some Jvm.ClassFile.FieldType.int)) ∈ lw_all := lw_g (lw_at lw_m8 140 rfl) rfl
theorem q1957 : (Jvm.Cond.methodLink "LeekReadingsModel" (336 : Nat) ({ cls := "LeekReadingsModel", name := "growsBy", desc := "(IIIII)I" } : Jvm.MethodName)) ∈ lw_all := lw_g (lw_at lw_m8 141 rfl) rfl
theorem q1958 : (Jvm.Cond.privateMethod ({ cls := "LeekReadingsModel", name := "growsBy", desc := "(IIIII)I" } : Jvm.MethodName)) ∈ lw_tbl := lw_at lw_m8 142 rfl
theorem q1959 : (Jvm.Cond.instanceMethod ({ cls := "LeekReadingsModel", name := "growsBy", desc := "(IIIII)I" } : Jvm.MethodName)) ∈ lw_all := lw_g (lw_at lw_m8 143 rfl) rfl
theorem q1960 : (Jvm.Cond.code ({ cls := "LeekReadingsModel", name := "growsBy", desc := "(IIIII)I" } : Jvm.MethodName) prog_24_method_74_code (6 : Nat) (Option.some Jvm.ClassFile.FieldType.int)) ∈ lw_all := lw_g (lw_at lw_m8 144 rfl) rfl
theorem q1961 : (Jvm.Cond.methodLink "LeekReadingsModel" (150 : Nat) ({ cls := "LeekReadingsModel", name := "wiltsNow", desc := "(I)I" } : Jvm.MethodName)) ∈ lw_all := lw_g (lw_at lw_m8 145 rfl) rfl
theorem q1962 : (Jvm.Cond.privateMethod ({ cls := "LeekReadingsModel", name := "wiltsNow", desc := "(I)I" } : Jvm.MethodName)) ∈ lw_tbl := lw_at lw_m8 146 rfl
theorem q1963 : (Jvm.Cond.instanceMethod ({ cls := "LeekReadingsModel", name := "wiltsNow", desc := "(I)I" } : Jvm.MethodName)) ∈ lw_all := lw_g (lw_at lw_m8 147 rfl) rfl
theorem q1964 : (Jvm.Cond.code ({ cls := "LeekReadingsModel", name := "wiltsNow", desc := "(I)I" } : Jvm.MethodName) prog_24_method_76_code (2 : Nat) (Option.some Jvm.ClassFile.FieldType.int)) ∈ lw_all := lw_g (lw_at lw_m8 148 rfl) rfl
theorem q1966 : (Jvm.Cond.instanceMethod ({ cls := "LeekReadingsModel", name := "terms", desc := "(II)I" } : Jvm.MethodName)) ∈ lw_all := lw_g (lw_at lw_m8 150 rfl) rfl
theorem q1967 : (Jvm.Cond.selects "LeekReadingsModel" ({ cls := "LeekReadingsModel", name := "terms", desc := "(II)I" } : Jvm.MethodName) ({ cls := "LeekReadingsModel", name := "terms", desc := "(II)I" } : Jvm.MethodName)) ∈ lw_all := lw_g (lw_at lw_m8 151 rfl) rfl
theorem q1968 : (Jvm.Cond.code ({ cls := "LeekReadingsModel", name := "terms", desc := "(II)I" } : Jvm.MethodName) prog_24_method_28_code (4 : Nat) (Option.some Jvm.ClassFile.FieldType.int)) ∈ lw_all := lw_g (lw_at lw_m8 152 rfl) rfl
theorem q1969 : (Jvm.Cond.methodLink "LeekReadingsModel" (153 : Nat) ({ cls := "LeekReadingsModel", name := "isTerm", desc := "(II)Z" } : Jvm.MethodName)) ∈ lw_all := lw_g (lw_at lw_m8 153 rfl) rfl
theorem q1970 : (Jvm.Cond.static ({ cls := "LeekReadingsModel", name := "isTerm", desc := "(II)Z" } : Jvm.MethodName)) ∈ lw_all := lw_g (lw_at lw_m8 154 rfl) rfl
theorem q1971 : (Jvm.Cond.code ({ cls := "LeekReadingsModel", name := "isTerm", desc := "(II)Z" } : Jvm.MethodName) prog_24_method_26_code (2 : Nat) (Option.some Jvm.ClassFile.FieldType.boolean)) ∈ lw_all := lw_g (lw_at lw_m8 155 rfl) rfl
theorem q1972 : (Jvm.Cond.methodLink "LeekReadingsModel" (156 : Nat) ({ cls := "LeekReadingsModel", name := "termAt", desc := "(I)I" } : Jvm.MethodName)) ∈ lw_all := lw_g (lw_at lw_m8 156 rfl) rfl
theorem q1973 : (Jvm.Cond.static ({ cls := "LeekReadingsModel", name := "termAt", desc := "(I)I" } : Jvm.MethodName)) ∈ lw_all := lw_g (lw_at lw_m8 157 rfl) rfl
theorem q1974 : (Jvm.Cond.code ({ cls := "LeekReadingsModel", name := "termAt", desc := "(I)I" } : Jvm.MethodName) prog_24_method_27_code (1 : Nat) (Option.some Jvm.ClassFile.FieldType.int)) ∈ lw_all := lw_g (lw_at lw_m8 158 rfl) rfl
theorem q1976 : (Jvm.Cond.instanceMethod ({ cls := "LeekReadingsModel", name := "row", desc := "()I" } : Jvm.MethodName)) ∈ lw_all := lw_g (lw_at lw_m8 160 rfl) rfl
theorem q1977 : (Jvm.Cond.selects "LeekReadingsModel" ({ cls := "LeekReadingsModel", name := "row", desc := "()I" } : Jvm.MethodName) ({ cls := "LeekReadingsModel", name := "row", desc := "()I" } : Jvm.MethodName)) ∈ lw_all := lw_g (lw_at lw_m8 161 rfl) rfl
theorem q1978 : (Jvm.Cond.code ({ cls := "LeekReadingsModel", name := "row", desc := "()I" } : Jvm.MethodName) prog_24_method_29_code (6 : Nat) (Option.some Jvm.ClassFile.FieldType.int)) ∈ lw_all := lw_g (lw_at lw_m8 162 rfl) rfl
theorem q1980 : (Jvm.Cond.instanceMethod ({ cls := "LeekReadingsModel", name := "slugs", desc := "()I" } : Jvm.MethodName)) ∈ lw_all := lw_g (lw_at lw_m8 164 rfl) rfl
theorem q1981 : (Jvm.Cond.selects "LeekReadingsModel" ({ cls := "LeekReadingsModel", name := "slugs", desc := "()I" } : Jvm.MethodName) ({ cls := "LeekReadingsModel", name := "slugs", desc := "()I" } : Jvm.MethodName)) ∈ lw_all := lw_g (lw_at lw_m8 165 rfl) rfl
theorem q1982 : (Jvm.Cond.code ({ cls := "LeekReadingsModel", name := "slugs", desc := "()I" } : Jvm.MethodName) prog_24_method_30_code (1 : Nat) (Option.some Jvm.ClassFile.FieldType.int)) ∈ lw_all := lw_g (lw_at lw_m8 166 rfl) rfl
theorem q1984 : (Jvm.Cond.instanceMethod ({ cls := "LeekReadingsModel", name := "feed", desc := "(IIIII)I" } : Jvm.MethodName)) ∈ lw_all := lw_g (lw_at lw_m8 168 rfl) rfl
theorem q1985 : (Jvm.Cond.selects "LeekReadingsModel" ({ cls := "LeekReadingsModel", name := "feed", desc := "(IIIII)I" } : Jvm.MethodName) ({ cls := "LeekReadingsModel", name := "feed", desc := "(IIIII)I" } : Jvm.MethodName)) ∈ lw_all := lw_g (lw_at lw_m8 169 rfl) rfl
theorem q1986 : (Jvm.Cond.code ({ cls := "LeekReadingsModel", name := "feed", desc := "(IIIII)I" } : Jvm.MethodName) prog_24_method_31_code (7 : Nat) (Option.some Jvm.ClassFile.FieldType.int)) ∈ lw_all := lw_g (lw_at lw_m8 170 rfl) rfl
theorem q1988 : (Jvm.Cond.instanceMethod ({ cls := "LeekReadingsModel", name := "end", desc := "(I)I" } : Jvm.MethodName)) ∈ lw_all := lw_g (lw_at lw_m8 172 rfl) rfl
theorem q1989 : (Jvm.Cond.selects "LeekReadingsModel" ({ cls := "LeekReadingsModel", name := "end", desc := "(I)I" } : Jvm.MethodName) ({ cls := "LeekReadingsModel", name := "end", desc := "(I)I" } : Jvm.MethodName)) ∈ lw_all := lw_g (lw_at lw_m8 173 rfl) rfl
theorem q1990 : (Jvm.Cond.code ({ cls := "LeekReadingsModel", name := "end", desc := "(I)I" } : Jvm.MethodName) prog_24_method_32_code (2 : Nat) (Option.some Jvm.ClassFile.FieldType.int)) ∈ lw_all := lw_g (lw_at lw_m8 174 rfl) rfl
theorem q1992 : (Jvm.Cond.instanceMethod ({ cls := "LeekReadingsModel", name := "law", desc := "()I" } : Jvm.MethodName)) ∈ lw_all := lw_g (lw_at lw_m8 176 rfl) rfl
theorem q1993 : (Jvm.Cond.selects "LeekReadingsModel" ({ cls := "LeekReadingsModel", name := "law", desc := "()I" } : Jvm.MethodName) ({ cls := "LeekReadingsModel", name := "law", desc := "()I" } : Jvm.MethodName)) ∈ lw_all := lw_g (lw_at lw_m8 177 rfl) rfl
theorem q1994 : (Jvm.Cond.code ({ cls := "LeekReadingsModel", name := "law", desc := "()I" } : Jvm.MethodName) prog_24_method_56_code (1 : Nat) (Option.some Jvm.ClassFile.FieldType.int)) ∈ lw_all := lw_g (lw_at lw_m8 178 rfl) rfl
theorem q1995 : (Jvm.Cond.methodLink "LeekReadingsModel" (255 : Nat) ({ cls := "LeekReadingsModel", name := "readsAs", desc := "(Z)Z" } : Jvm.MethodName)) ∈ lw_all := lw_g (lw_at lw_m8 179 rfl) rfl
theorem q1996 : (Jvm.Cond.privateMethod ({ cls := "LeekReadingsModel", name := "readsAs", desc := "(Z)Z" } : Jvm.MethodName)) ∈ lw_tbl := lw_at lw_m8 180 rfl
theorem q1997 : (Jvm.Cond.instanceMethod ({ cls := "LeekReadingsModel", name := "readsAs", desc := "(Z)Z" } : Jvm.MethodName)) ∈ lw_all := lw_g (lw_at lw_m8 181 rfl) rfl
theorem q1998 : (Jvm.Cond.code ({ cls := "LeekReadingsModel", name := "readsAs", desc := "(Z)Z" } : Jvm.MethodName) prog_24_method_54_code (2 : Nat) (Option.some Jvm.ClassFile.FieldType.boolean)) ∈ lw_all := lw_g (lw_at lw_m8 182 rfl) rfl
theorem q1999 : (Jvm.Cond.methodLink "LeekReadingsModel" (252 : Nat) ({ cls := "LeekReadingsModel", name := "reads", desc := "()Z" } : Jvm.MethodName)) ∈ lw_all := lw_g (lw_at lw_m8 183 rfl) rfl
theorem q2000 : (Jvm.Cond.privateMethod ({ cls := "LeekReadingsModel", name := "reads", desc := "()Z" } : Jvm.MethodName)) ∈ lw_tbl := lw_at lw_m8 184 rfl
theorem q2001 : (Jvm.Cond.instanceMethod ({ cls := "LeekReadingsModel", name := "reads", desc := "()Z" } : Jvm.MethodName)) ∈ lw_all := lw_g (lw_at lw_m8 185 rfl) rfl
theorem q2002 : (Jvm.Cond.code ({ cls := "LeekReadingsModel", name := "reads", desc := "()Z" } : Jvm.MethodName) prog_24_method_53_code (2 : Nat) (Option.some Jvm.ClassFile.FieldType.boolean)) ∈ lw_all := lw_g (lw_at lw_m8 186 rfl) rfl
theorem q2003 : (Jvm.Cond.methodLink "LeekReadingsModel" (246 : Nat) ({ cls := "LeekReadingsModel", name := "splits", desc := "(I)V" } : Jvm.MethodName)) ∈ lw_all := lw_g (lw_at lw_m8 187 rfl) rfl
theorem q2004 : (Jvm.Cond.privateMethod ({ cls := "LeekReadingsModel", name := "splits", desc := "(I)V" } : Jvm.MethodName)) ∈ lw_tbl := lw_at lw_m8 188 rfl
theorem q2005 : (Jvm.Cond.instanceMethod ({ cls := "LeekReadingsModel", name := "splits", desc := "(I)V" } : Jvm.MethodName)) ∈ lw_all := lw_g (lw_at lw_m8 189 rfl) rfl
theorem q2006 : (Jvm.Cond.code ({ cls := "LeekReadingsModel", name := "splits", desc := "(I)V" } : Jvm.MethodName) prog_24_method_36_code (6 : Nat) (Option.none : Option Jvm.ClassFile.FieldType)) ∈ lw_all := lw_g (lw_at lw_m8 190 rfl) rfl
theorem q2007 : (Jvm.Cond.methodLink "LeekReadingsModel" (168 : Nat) ({ cls := "LeekReadingsModel", name := "isSmall", desc := "(I)Z" } : Jvm.MethodName)) ∈ lw_all := lw_g (lw_at lw_m8 191 rfl) rfl
theorem q2008 : (Jvm.Cond.static ({ cls := "LeekReadingsModel", name := "isSmall", desc := "(I)Z" } : Jvm.MethodName)) ∈ lw_all := lw_g (lw_at lw_m8 192 rfl) rfl
theorem q2009 : (Jvm.Cond.code ({ cls := "LeekReadingsModel", name := "isSmall", desc := "(I)Z" } : Jvm.MethodName) prog_24_method_33_code (1 : Nat) (Option.some Jvm.ClassFile.FieldType.boolean)) ∈ lw_all := lw_g (lw_at lw_m8 193 rfl) rfl
theorem q2010 : (Jvm.Cond.methodLink "LeekReadingsModel" (171 : Nat) ({ cls := "LeekReadingsModel", name := "isDigit", desc := "(I)Z" } : Jvm.MethodName)) ∈ lw_all := lw_g (lw_at lw_m8 194 rfl) rfl
theorem q2011 : (Jvm.Cond.static ({ cls := "LeekReadingsModel", name := "isDigit", desc := "(I)Z" } : Jvm.MethodName)) ∈ lw_all := lw_g (lw_at lw_m8 195 rfl) rfl
theorem q2012 : (Jvm.Cond.code ({ cls := "LeekReadingsModel", name := "isDigit", desc := "(I)Z" } : Jvm.MethodName) prog_24_method_34_code (1 : Nat) (Option.some Jvm.ClassFile.FieldType.boolean)) ∈ lw_all := lw_g (lw_at lw_m8 196 rfl) rfl
theorem q2013 : (Jvm.Cond.methodLink "LeekReadingsModel" (174 : Nat) ({ cls := "LeekReadingsModel", name := "wordOf", desc := "(II)I" } : Jvm.MethodName)) ∈ lw_all := lw_g (lw_at lw_m8 197 rfl) rfl
theorem q2014 : (Jvm.Cond.privateMethod ({ cls := "LeekReadingsModel", name := "wordOf", desc := "(II)I" } : Jvm.MethodName)) ∈ lw_tbl := lw_at lw_m8 198 rfl
theorem q2015 : (Jvm.Cond.instanceMethod ({ cls := "LeekReadingsModel", name := "wordOf", desc := "(II)I" } : Jvm.MethodName)) ∈ lw_all := lw_g (lw_at lw_m8 199 rfl) rfl
theorem q2016 : (Jvm.Cond.code ({ cls := "LeekReadingsModel", name := "wordOf", desc := "(II)I" } : Jvm.MethodName) prog_24_method_35_code (8 : Nat) (Option.some Jvm.ClassFile.FieldType.int)) ∈ lw_all := lw_g (lw_at lw_m8 200 rfl) rfl
theorem q2017 : (Jvm.Cond.constant "LeekReadingsModel" (177 : Nat) (1000000 : Int32)) ∈ lw_all := lw_g (lw_at lw_m8 201 rfl) rfl
theorem q2018 : (Jvm.Cond.methodLink "LeekReadingsModel" (249 : Nat) ({ cls := "LeekReadingsModel", name := "readOne", desc := "()V" } : Jvm.MethodName)) ∈ lw_all := lw_g (lw_at lw_m8 202 rfl) rfl
theorem q2019 : (Jvm.Cond.privateMethod ({ cls := "LeekReadingsModel", name := "readOne", desc := "()V" } : Jvm.MethodName)) ∈ lw_tbl := lw_at lw_m8 203 rfl
theorem q2020 : (Jvm.Cond.instanceMethod ({ cls := "LeekReadingsModel", name := "readOne", desc := "()V" } : Jvm.MethodName)) ∈ lw_all := lw_g (lw_at lw_m8 204 rfl) rfl
theorem q2021 : (Jvm.Cond.code ({ cls := "LeekReadingsModel", name := "readOne", desc := "()V" } : Jvm.MethodName) prog_24_method_46_code (1 : Nat) (Option.none : Option Jvm.ClassFile.FieldType)) ∈ lw_all := lw_g (lw_at lw_m8 205 rfl) rfl
theorem q2022 : (Jvm.Cond.methodLink "LeekReadingsModel" (215 : Nat) ({ cls := "LeekReadingsModel", name := "readOrder", desc := "()V" } : Jvm.MethodName)) ∈ lw_all := lw_g (lw_at lw_m8 206 rfl) rfl
theorem q2023 : (Jvm.Cond.privateMethod ({ cls := "LeekReadingsModel", name := "readOrder", desc := "()V" } : Jvm.MethodName)) ∈ lw_tbl := lw_at lw_m8 207 rfl
theorem q2024 : (Jvm.Cond.instanceMethod ({ cls := "LeekReadingsModel", name := "readOrder", desc := "()V" } : Jvm.MethodName)) ∈ lw_all := lw_g (lw_at lw_m8 208 rfl) rfl
theorem q2025 : (Jvm.Cond.code ({ cls := "LeekReadingsModel", name := "readOrder", desc := "()V" } : Jvm.MethodName) prog_24_method_45_code (1 : Nat) (Option.none : Option Jvm.ClassFile.FieldType)) ∈ lw_all := lw_g (lw_at lw_m8 209 rfl) rfl
theorem q2026 : (Jvm.Cond.methodLink "LeekReadingsModel" (188 : Nat) ({ cls := "LeekReadingsModel", name := "takes0", desc := "(I)Z" } : Jvm.MethodName)) ∈ lw_all := lw_g (lw_at lw_m8 210 rfl) rfl
theorem q2027 : (Jvm.Cond.privateMethod ({ cls := "LeekReadingsModel", name := "takes0", desc := "(I)Z" } : Jvm.MethodName)) ∈ lw_tbl := lw_at lw_m8 211 rfl
theorem q2028 : (Jvm.Cond.instanceMethod ({ cls := "LeekReadingsModel", name := "takes0", desc := "(I)Z" } : Jvm.MethodName)) ∈ lw_all := lw_g (lw_at lw_m8 212 rfl) rfl
theorem q2029 : (Jvm.Cond.code ({ cls := "LeekReadingsModel", name := "takes0", desc := "(I)Z" } : Jvm.MethodName) prog_24_method_39_code (3 : Nat) (Option.some Jvm.ClassFile.FieldType.boolean)) ∈ lw_all := lw_g (lw_at lw_m8 213 rfl) rfl
theorem q2030 : (Jvm.Cond.methodLink "LeekReadingsModel" (181 : Nat) ({ cls := "LeekReadingsModel", name := "fine", desc := "()Z" } : Jvm.MethodName)) ∈ lw_all := lw_g (lw_at lw_m8 214 rfl) rfl
theorem q2031 : (Jvm.Cond.privateMethod ({ cls := "LeekReadingsModel", name := "fine", desc := "()Z" } : Jvm.MethodName)) ∈ lw_tbl := lw_at lw_m8 215 rfl
theorem q2032 : (Jvm.Cond.instanceMethod ({ cls := "LeekReadingsModel", name := "fine", desc := "()Z" } : Jvm.MethodName)) ∈ lw_all := lw_g (lw_at lw_m8 216 rfl) rfl
theorem q2033 : (Jvm.Cond.code ({ cls := "LeekReadingsModel", name := "fine", desc := "()Z" } : Jvm.MethodName) prog_24_method_37_code (1 : Nat) (Option.some Jvm.ClassFile.FieldType.boolean)) ∈ lw_all := lw_g (lw_at lw_m8 217 rfl) rfl
theorem q2034 : (Jvm.Cond.methodLink "LeekReadingsModel" (197 : Nat) ({ cls := "LeekReadingsModel", name := "readSum", desc := "(I)V" } : Jvm.MethodName)) ∈ lw_all := lw_g (lw_at lw_m8 218 rfl) rfl
theorem q2035 : (Jvm.Cond.privateMethod ({ cls := "LeekReadingsModel", name := "readSum", desc := "(I)V" } : Jvm.MethodName)) ∈ lw_tbl := lw_at lw_m8 219 rfl
theorem q2036 : (Jvm.Cond.instanceMethod ({ cls := "LeekReadingsModel", name := "readSum", desc := "(I)V" } : Jvm.MethodName)) ∈ lw_all := lw_g (lw_at lw_m8 220 rfl) rfl
theorem q2037 : (Jvm.Cond.code ({ cls := "LeekReadingsModel", name := "readSum", desc := "(I)V" } : Jvm.MethodName) prog_24_method_50_code (2 : Nat) (Option.none : Option Jvm.ClassFile.FieldType)) ∈ lw_all := lw_g (lw_at lw_m8 221 rfl) rfl
theorem q2038 : (Jvm.Cond.methodLink "LeekReadingsModel" (231 : Nat) ({ cls := "LeekReadingsModel", name := "readTerm", desc := "(I)V" } : Jvm.MethodName)) ∈ lw_all := lw_g (lw_at lw_m8 222 rfl) rfl
theorem q2039 : (Jvm.Cond.privateMethod ({ cls := "LeekReadingsModel", name := "readTerm", desc := "(I)V" } : Jvm.MethodName)) ∈ lw_tbl := lw_at lw_m8 223 rfl
theorem q2040 : (Jvm.Cond.instanceMethod ({ cls := "LeekReadingsModel", name := "readTerm", desc := "(I)V" } : Jvm.MethodName)) ∈ lw_all := lw_g (lw_at lw_m8 224 rfl) rfl
theorem q2041 : (Jvm.Cond.code ({ cls := "LeekReadingsModel", name := "readTerm", desc := "(I)V" } : Jvm.MethodName) prog_24_method_51_code (2 : Nat) (Option.none : Option Jvm.ClassFile.FieldType)) ∈ lw_all := lw_g (lw_at lw_m8 225 rfl) rfl
theorem q2042 : (Jvm.Cond.methodLink "LeekReadingsModel" (234 : Nat) ({ cls := "LeekReadingsModel", name := "readPart", desc := "(I)V" } : Jvm.MethodName)) ∈ lw_all := lw_g (lw_at lw_m8 226 rfl) rfl
theorem q2043 : (Jvm.Cond.privateMethod ({ cls := "LeekReadingsModel", name := "readPart", desc := "(I)V" } : Jvm.MethodName)) ∈ lw_tbl := lw_at lw_m8 227 rfl
theorem q2044 : (Jvm.Cond.instanceMethod ({ cls := "LeekReadingsModel", name := "readPart", desc := "(I)V" } : Jvm.MethodName)) ∈ lw_all := lw_g (lw_at lw_m8 228 rfl) rfl
theorem q2045 : (Jvm.Cond.code ({ cls := "LeekReadingsModel", name := "readPart", desc := "(I)V" } : Jvm.MethodName) prog_24_method_52_code (3 : Nat) (Option.none : Option Jvm.ClassFile.FieldType)) ∈ lw_all := lw_g (lw_at lw_m8 229 rfl) rfl
theorem q2046 : (Jvm.Cond.methodLink "LeekReadingsModel" (191 : Nat) ({ cls := "LeekReadingsModel", name := "faults", desc := "()V" } : Jvm.MethodName)) ∈ lw_all := lw_g (lw_at lw_m8 230 rfl) rfl
theorem q2047 : (Jvm.Cond.privateMethod ({ cls := "LeekReadingsModel", name := "faults", desc := "()V" } : Jvm.MethodName)) ∈ lw_tbl := lw_at lw_m8 231 rfl
theorem q2048 : (Jvm.Cond.instanceMethod ({ cls := "LeekReadingsModel", name := "faults", desc := "()V" } : Jvm.MethodName)) ∈ lw_all := lw_g (lw_at lw_m8 232 rfl) rfl
theorem q2049 : (Jvm.Cond.code ({ cls := "LeekReadingsModel", name := "faults", desc := "()V" } : Jvm.MethodName) prog_24_method_38_code (1 : Nat) (Option.none : Option Jvm.ClassFile.FieldType)) ∈ lw_all := lw_g (lw_at lw_m8 233 rfl) rfl
theorem q2050 : (Jvm.Cond.methodLink "LeekReadingsModel" (201 : Nat) ({ cls := "LeekReadingsModel", name := "must", desc := "(I)V" } : Jvm.MethodName)) ∈ lw_all := lw_g (lw_at lw_m8 234 rfl) rfl
theorem q2051 : (Jvm.Cond.privateMethod ({ cls := "LeekReadingsModel", name := "must", desc := "(I)V" } : Jvm.MethodName)) ∈ lw_tbl := lw_at lw_m8 235 rfl
theorem q2052 : (Jvm.Cond.instanceMethod ({ cls := "LeekReadingsModel", name := "must", desc := "(I)V" } : Jvm.MethodName)) ∈ lw_all := lw_g (lw_at lw_m8 236 rfl) rfl
theorem q2053 : (Jvm.Cond.code ({ cls := "LeekReadingsModel", name := "must", desc := "(I)V" } : Jvm.MethodName) prog_24_method_40_code (2 : Nat) (Option.none : Option Jvm.ClassFile.FieldType)) ∈ lw_all := lw_g (lw_at lw_m8 237 rfl) rfl
theorem q2054 : (Jvm.Cond.methodLink "LeekReadingsModel" (243 : Nat) ({ cls := "LeekReadingsModel", name := "leaf", desc := "()V" } : Jvm.MethodName)) ∈ lw_all := lw_g (lw_at lw_m8 238 rfl) rfl
theorem q2055 : (Jvm.Cond.privateMethod ({ cls := "LeekReadingsModel", name := "leaf", desc := "()V" } : Jvm.MethodName)) ∈ lw_tbl := lw_at lw_m8 239 rfl
theorem q2056 : (Jvm.Cond.instanceMethod ({ cls := "LeekReadingsModel", name := "leaf", desc := "()V" } : Jvm.MethodName)) ∈ lw_all := lw_g (lw_at lw_m9 0 rfl) rfl
theorem q2057 : (Jvm.Cond.code ({ cls := "LeekReadingsModel", name := "leaf", desc := "()V" } : Jvm.MethodName) prog_24_method_41_code (1 : Nat) (Option.none : Option Jvm.ClassFile.FieldType)) ∈ lw_all := lw_g (lw_at lw_m9 1 rfl) rfl
theorem q2058 : (Jvm.Cond.methodLink "LeekReadingsModel" (207 : Nat) ({ cls := "LeekReadingsModel", name := "mustNumber", desc := "(II)V" } : Jvm.MethodName)) ∈ lw_all := lw_g (lw_at lw_m9 2 rfl) rfl
theorem q2059 : (Jvm.Cond.privateMethod ({ cls := "LeekReadingsModel", name := "mustNumber", desc := "(II)V" } : Jvm.MethodName)) ∈ lw_tbl := lw_at lw_m9 3 rfl
theorem q2060 : (Jvm.Cond.instanceMethod ({ cls := "LeekReadingsModel", name := "mustNumber", desc := "(II)V" } : Jvm.MethodName)) ∈ lw_all := lw_g (lw_at lw_m9 4 rfl) rfl
theorem q2061 : (Jvm.Cond.code ({ cls := "LeekReadingsModel", name := "mustNumber", desc := "(II)V" } : Jvm.MethodName) prog_24_method_43_code (3 : Nat) (Option.none : Option Jvm.ClassFile.FieldType)) ∈ lw_all := lw_g (lw_at lw_m9 5 rfl) rfl
theorem q2062 : (Jvm.Cond.methodLink "LeekReadingsModel" (204 : Nat) ({ cls := "LeekReadingsModel", name := "readTest", desc := "(I)V" } : Jvm.MethodName)) ∈ lw_all := lw_g (lw_at lw_m9 6 rfl) rfl
theorem q2063 : (Jvm.Cond.privateMethod ({ cls := "LeekReadingsModel", name := "readTest", desc := "(I)V" } : Jvm.MethodName)) ∈ lw_tbl := lw_at lw_m9 7 rfl
theorem q2064 : (Jvm.Cond.instanceMethod ({ cls := "LeekReadingsModel", name := "readTest", desc := "(I)V" } : Jvm.MethodName)) ∈ lw_all := lw_g (lw_at lw_m9 8 rfl) rfl
theorem q2065 : (Jvm.Cond.code ({ cls := "LeekReadingsModel", name := "readTest", desc := "(I)V" } : Jvm.MethodName) prog_24_method_47_code (2 : Nat) (Option.none : Option Jvm.ClassFile.FieldType)) ∈ lw_all := lw_g (lw_at lw_m9 9 rfl) rfl
theorem q2066 : (Jvm.Cond.methodLink "LeekReadingsModel" (221 : Nat) ({ cls := "LeekReadingsModel", name := "readBoth", desc := "(I)V" } : Jvm.MethodName)) ∈ lw_all := lw_g (lw_at lw_m9 10 rfl) rfl
theorem q2067 : (Jvm.Cond.privateMethod ({ cls := "LeekReadingsModel", name := "readBoth", desc := "(I)V" } : Jvm.MethodName)) ∈ lw_tbl := lw_at lw_m9 11 rfl
theorem q2068 : (Jvm.Cond.instanceMethod ({ cls := "LeekReadingsModel", name := "readBoth", desc := "(I)V" } : Jvm.MethodName)) ∈ lw_all := lw_g (lw_at lw_m9 12 rfl) rfl
theorem q2069 : (Jvm.Cond.code ({ cls := "LeekReadingsModel", name := "readBoth", desc := "(I)V" } : Jvm.MethodName) prog_24_method_48_code (2 : Nat) (Option.none : Option Jvm.ClassFile.FieldType)) ∈ lw_all := lw_g (lw_at lw_m9 13 rfl) rfl
theorem q2070 : (Jvm.Cond.methodLink "LeekReadingsModel" (224 : Nat) ({ cls := "LeekReadingsModel", name := "readPlain", desc := "(I)V" } : Jvm.MethodName)) ∈ lw_all := lw_g (lw_at lw_m9 14 rfl) rfl
theorem q2071 : (Jvm.Cond.privateMethod ({ cls := "LeekReadingsModel", name := "readPlain", desc := "(I)V" } : Jvm.MethodName)) ∈ lw_tbl := lw_at lw_m9 15 rfl
theorem q2072 : (Jvm.Cond.instanceMethod ({ cls := "LeekReadingsModel", name := "readPlain", desc := "(I)V" } : Jvm.MethodName)) ∈ lw_all := lw_g (lw_at lw_m9 16 rfl) rfl
theorem q2073 : (Jvm.Cond.code ({ cls := "LeekReadingsModel", name := "readPlain", desc := "(I)V" } : Jvm.MethodName) prog_24_method_49_code (4 : Nat) (Option.none : Option Jvm.ClassFile.FieldType)) ∈ lw_all := lw_g (lw_at lw_m9 17 rfl) rfl
theorem q2074 : (Jvm.Cond.methodLink "LeekReadingsModel" (218 : Nat) ({ cls := "LeekReadingsModel", name := "readClause", desc := "()V" } : Jvm.MethodName)) ∈ lw_all := lw_g (lw_at lw_m9 18 rfl) rfl
theorem q2075 : (Jvm.Cond.privateMethod ({ cls := "LeekReadingsModel", name := "readClause", desc := "()V" } : Jvm.MethodName)) ∈ lw_tbl := lw_at lw_m9 19 rfl
theorem q2076 : (Jvm.Cond.instanceMethod ({ cls := "LeekReadingsModel", name := "readClause", desc := "()V" } : Jvm.MethodName)) ∈ lw_all := lw_g (lw_at lw_m9 20 rfl) rfl
theorem q2077 : (Jvm.Cond.code ({ cls := "LeekReadingsModel", name := "readClause", desc := "()V" } : Jvm.MethodName) prog_24_method_44_code (1 : Nat) (Option.none : Option Jvm.ClassFile.FieldType)) ∈ lw_all := lw_g (lw_at lw_m9 21 rfl) rfl
theorem q2078 : (Jvm.Cond.methodLink "LeekReadingsModel" (259 : Nat) ({ cls := "LeekReadingsModel", name := "lays", desc := "(I)V" } : Jvm.MethodName)) ∈ lw_all := lw_g (lw_at lw_m9 22 rfl) rfl
theorem q2079 : (Jvm.Cond.privateMethod ({ cls := "LeekReadingsModel", name := "lays", desc := "(I)V" } : Jvm.MethodName)) ∈ lw_tbl := lw_at lw_m9 23 rfl
theorem q2080 : (Jvm.Cond.instanceMethod ({ cls := "LeekReadingsModel", name := "lays", desc := "(I)V" } : Jvm.MethodName)) ∈ lw_all := lw_g (lw_at lw_m9 24 rfl) rfl
theorem q2081 : (Jvm.Cond.code ({ cls := "LeekReadingsModel", name := "lays", desc := "(I)V" } : Jvm.MethodName) prog_24_method_55_code (3 : Nat) (Option.none : Option Jvm.ClassFile.FieldType)) ∈ lw_all := lw_g (lw_at lw_m9 25 rfl) rfl
theorem q2083 : (Jvm.Cond.instanceMethod ({ cls := "LeekReadingsModel", name := "fault", desc := "()I" } : Jvm.MethodName)) ∈ lw_all := lw_g (lw_at lw_m9 27 rfl) rfl
theorem q2084 : (Jvm.Cond.selects "LeekReadingsModel" ({ cls := "LeekReadingsModel", name := "fault", desc := "()I" } : Jvm.MethodName) ({ cls := "LeekReadingsModel", name := "fault", desc := "()I" } : Jvm.MethodName)) ∈ lw_all := lw_g (lw_at lw_m9 28 rfl) rfl
theorem q2085 : (Jvm.Cond.code ({ cls := "LeekReadingsModel", name := "fault", desc := "()I" } : Jvm.MethodName) prog_24_method_57_code (1 : Nat) (Option.some Jvm.ClassFile.FieldType.int)) ∈ lw_all := lw_g (lw_at lw_m9 29 rfl) rfl
theorem q2087 : (Jvm.Cond.instanceMethod ({ cls := "LeekReadingsModel", name := "force", desc := "(I)I" } : Jvm.MethodName)) ∈ lw_all := lw_g (lw_at lw_m9 31 rfl) rfl
theorem q2088 : (Jvm.Cond.selects "LeekReadingsModel" ({ cls := "LeekReadingsModel", name := "force", desc := "(I)I" } : Jvm.MethodName) ({ cls := "LeekReadingsModel", name := "force", desc := "(I)I" } : Jvm.MethodName)) ∈ lw_all := lw_g (lw_at lw_m9 32 rfl) rfl
theorem q2089 : (Jvm.Cond.code ({ cls := "LeekReadingsModel", name := "force", desc := "(I)I" } : Jvm.MethodName) prog_24_method_59_code (3 : Nat) (Option.some Jvm.ClassFile.FieldType.int)) ∈ lw_all := lw_g (lw_at lw_m9 33 rfl) rfl
theorem q2090 : (Jvm.Cond.methodLink "LeekReadingsModel" (262 : Nat) ({ cls := "LeekReadingsModel", name := "isLaw", desc := "(I)Z" } : Jvm.MethodName)) ∈ lw_all := lw_g (lw_at lw_m9 34 rfl) rfl
theorem q2091 : (Jvm.Cond.privateMethod ({ cls := "LeekReadingsModel", name := "isLaw", desc := "(I)Z" } : Jvm.MethodName)) ∈ lw_tbl := lw_at lw_m9 35 rfl
theorem q2092 : (Jvm.Cond.instanceMethod ({ cls := "LeekReadingsModel", name := "isLaw", desc := "(I)Z" } : Jvm.MethodName)) ∈ lw_all := lw_g (lw_at lw_m9 36 rfl) rfl
theorem q2093 : (Jvm.Cond.code ({ cls := "LeekReadingsModel", name := "isLaw", desc := "(I)Z" } : Jvm.MethodName) prog_24_method_58_code (2 : Nat) (Option.some Jvm.ClassFile.FieldType.boolean)) ∈ lw_all := lw_g (lw_at lw_m9 37 rfl) rfl
theorem q2095 : (Jvm.Cond.instanceMethod ({ cls := "LeekReadingsModel", name := "undo", desc := "()I" } : Jvm.MethodName)) ∈ lw_all := lw_g (lw_at lw_m9 39 rfl) rfl
theorem q2096 : (Jvm.Cond.selects "LeekReadingsModel" ({ cls := "LeekReadingsModel", name := "undo", desc := "()I" } : Jvm.MethodName) ({ cls := "LeekReadingsModel", name := "undo", desc := "()I" } : Jvm.MethodName)) ∈ lw_all := lw_g (lw_at lw_m9 40 rfl) rfl
theorem q2097 : (Jvm.Cond.code ({ cls := "LeekReadingsModel", name := "undo", desc := "()I" } : Jvm.MethodName) prog_24_method_85_code (3 : Nat) (Option.some Jvm.ClassFile.FieldType.int)) ∈ lw_all := lw_g (lw_at lw_m9 41 rfl) rfl
theorem q2099 : (Jvm.Cond.instanceMethod ({ cls := "LeekReadingsModel", name := "read", desc := "(I)I" } : Jvm.MethodName)) ∈ lw_all := lw_g (lw_at lw_m9 43 rfl) rfl
theorem q2100 : (Jvm.Cond.selects "LeekReadingsModel" ({ cls := "LeekReadingsModel", name := "read", desc := "(I)I" } : Jvm.MethodName) ({ cls := "LeekReadingsModel", name := "read", desc := "(I)I" } : Jvm.MethodName)) ∈ lw_all := lw_g (lw_at lw_m9 44 rfl) rfl
theorem q2101 : (Jvm.Cond.code ({ cls := "LeekReadingsModel", name := "read", desc := "(I)I" } : Jvm.MethodName) prog_24_method_91_code (2 : Nat) (Option.some Jvm.ClassFile.FieldType.int)) ∈ lw_all := lw_g (lw_at lw_m9 45 rfl) rfl
theorem q2102 : (Jvm.Cond.methodLink "LeekReadingsModel" (364 : Nat) ({ cls := "LeekReadingsModel", name := "readsKept", desc := "(I)I" } : Jvm.MethodName)) ∈ lw_all := lw_g (lw_at lw_m9 46 rfl) rfl
theorem q2103 : (Jvm.Cond.privateMethod ({ cls := "LeekReadingsModel", name := "readsKept", desc := "(I)I" } : Jvm.MethodName)) ∈ lw_tbl := lw_at lw_m9 47 rfl
theorem q2104 : (Jvm.Cond.instanceMethod ({ cls := "LeekReadingsModel", name := "readsKept", desc := "(I)I" } : Jvm.MethodName)) ∈ lw_all := lw_g (lw_at lw_m9 48 rfl) rfl
theorem q2105 : (Jvm.Cond.code ({ cls := "LeekReadingsModel", name := "readsKept", desc := "(I)I" } : Jvm.MethodName) prog_24_method_87_code (2 : Nat) (Option.some Jvm.ClassFile.FieldType.int)) ∈ lw_all := lw_g (lw_at lw_m9 49 rfl) rfl
theorem q2106 : (Jvm.Cond.methodLink "LeekReadingsModel" (349 : Nat) ({ cls := "LeekReadingsModel", name := "canRead", desc := "(I)Z" } : Jvm.MethodName)) ∈ lw_all := lw_g (lw_at lw_m9 50 rfl) rfl
theorem q2107 : (Jvm.Cond.privateMethod ({ cls := "LeekReadingsModel", name := "canRead", desc := "(I)Z" } : Jvm.MethodName)) ∈ lw_tbl := lw_at lw_m9 51 rfl
theorem q2108 : (Jvm.Cond.instanceMethod ({ cls := "LeekReadingsModel", name := "canRead", desc := "(I)Z" } : Jvm.MethodName)) ∈ lw_all := lw_g (lw_at lw_m9 52 rfl) rfl
theorem q2109 : (Jvm.Cond.code ({ cls := "LeekReadingsModel", name := "canRead", desc := "(I)Z" } : Jvm.MethodName) prog_24_method_80_code (2 : Nat) (Option.some Jvm.ClassFile.FieldType.boolean)) ∈ lw_all := lw_g (lw_at lw_m9 53 rfl) rfl
theorem q2110 : (Jvm.Cond.methodLink "LeekReadingsModel" (352 : Nat) ({ cls := "LeekReadingsModel", name := "keeps", desc := "(I)V" } : Jvm.MethodName)) ∈ lw_all := lw_g (lw_at lw_m9 54 rfl) rfl
theorem q2111 : (Jvm.Cond.privateMethod ({ cls := "LeekReadingsModel", name := "keeps", desc := "(I)V" } : Jvm.MethodName)) ∈ lw_tbl := lw_at lw_m9 55 rfl
theorem q2112 : (Jvm.Cond.instanceMethod ({ cls := "LeekReadingsModel", name := "keeps", desc := "(I)V" } : Jvm.MethodName)) ∈ lw_all := lw_g (lw_at lw_m9 56 rfl) rfl
theorem q2113 : (Jvm.Cond.code ({ cls := "LeekReadingsModel", name := "keeps", desc := "(I)V" } : Jvm.MethodName) prog_24_method_84_code (4 : Nat) (Option.none : Option Jvm.ClassFile.FieldType)) ∈ lw_all := lw_g (lw_at lw_m9 57 rfl) rfl
theorem q2114 : (Jvm.Cond.methodLink "LeekReadingsModel" (355 : Nat) ({ cls := "LeekReadingsModel", name := "reading", desc := "(I)I" } : Jvm.MethodName)) ∈ lw_all := lw_g (lw_at lw_m9 58 rfl) rfl
theorem q2115 : (Jvm.Cond.privateMethod ({ cls := "LeekReadingsModel", name := "reading", desc := "(I)I" } : Jvm.MethodName)) ∈ lw_tbl := lw_at lw_m9 59 rfl
theorem q2116 : (Jvm.Cond.instanceMethod ({ cls := "LeekReadingsModel", name := "reading", desc := "(I)I" } : Jvm.MethodName)) ∈ lw_all := lw_g (lw_at lw_m9 60 rfl) rfl
theorem q2117 : (Jvm.Cond.code ({ cls := "LeekReadingsModel", name := "reading", desc := "(I)I" } : Jvm.MethodName) prog_24_method_82_code (4 : Nat) (Option.some Jvm.ClassFile.FieldType.int)) ∈ lw_all := lw_g (lw_at lw_m9 61 rfl) rfl
theorem q2118 : (Jvm.Cond.methodLink "LeekReadingsModel" (343 : Nat) ({ cls := "LeekReadingsModel", name := "lesser", desc := "(II)I" } : Jvm.MethodName)) ∈ lw_all := lw_g (lw_at lw_m9 62 rfl) rfl
theorem q2119 : (Jvm.Cond.static ({ cls := "LeekReadingsModel", name := "lesser", desc := "(II)I" } : Jvm.MethodName)) ∈ lw_all := lw_g (lw_at lw_m9 63 rfl) rfl
theorem q2120 : (Jvm.Cond.code ({ cls := "LeekReadingsModel", name := "lesser", desc := "(II)I" } : Jvm.MethodName) prog_24_method_2_code (2 : Nat) (Option.some Jvm.ClassFile.FieldType.int)) ∈ lw_all := lw_g (lw_at lw_m9 64 rfl) rfl
theorem q2121 : (Jvm.Cond.methodLink "LeekReadingsModel" (367 : Nat) ({ cls := "LeekReadingsModel", name := "goodOr", desc := "(I)I" } : Jvm.MethodName)) ∈ lw_all := lw_g (lw_at lw_m9 65 rfl) rfl
theorem q2122 : (Jvm.Cond.privateMethod ({ cls := "LeekReadingsModel", name := "goodOr", desc := "(I)I" } : Jvm.MethodName)) ∈ lw_tbl := lw_at lw_m9 66 rfl
theorem q2123 : (Jvm.Cond.instanceMethod ({ cls := "LeekReadingsModel", name := "goodOr", desc := "(I)I" } : Jvm.MethodName)) ∈ lw_all := lw_g (lw_at lw_m9 67 rfl) rfl
theorem q2124 : (Jvm.Cond.code ({ cls := "LeekReadingsModel", name := "goodOr", desc := "(I)I" } : Jvm.MethodName) prog_24_method_86_code (2 : Nat) (Option.some Jvm.ClassFile.FieldType.int)) ∈ lw_all := lw_g (lw_at lw_m9 68 rfl) rfl
theorem q2126 : (Jvm.Cond.instanceMethod ({ cls := "LeekReadingsModel", name := "lose", desc := "(I)I" } : Jvm.MethodName)) ∈ lw_all := lw_g (lw_at lw_m9 70 rfl) rfl
theorem q2127 : (Jvm.Cond.selects "LeekReadingsModel" ({ cls := "LeekReadingsModel", name := "lose", desc := "(I)I" } : Jvm.MethodName) ({ cls := "LeekReadingsModel", name := "lose", desc := "(I)I" } : Jvm.MethodName)) ∈ lw_all := lw_g (lw_at lw_m9 71 rfl) rfl
theorem q2128 : (Jvm.Cond.code ({ cls := "LeekReadingsModel", name := "lose", desc := "(I)I" } : Jvm.MethodName) prog_24_method_92_code (2 : Nat) (Option.some Jvm.ClassFile.FieldType.int)) ∈ lw_all := lw_g (lw_at lw_m9 72 rfl) rfl
theorem q2129 : (Jvm.Cond.methodLink "LeekReadingsModel" (370 : Nat) ({ cls := "LeekReadingsModel", name := "losesKept", desc := "(I)I" } : Jvm.MethodName)) ∈ lw_all := lw_g (lw_at lw_m9 73 rfl) rfl
theorem q2130 : (Jvm.Cond.privateMethod ({ cls := "LeekReadingsModel", name := "losesKept", desc := "(I)I" } : Jvm.MethodName)) ∈ lw_tbl := lw_at lw_m9 74 rfl
theorem q2131 : (Jvm.Cond.instanceMethod ({ cls := "LeekReadingsModel", name := "losesKept", desc := "(I)I" } : Jvm.MethodName)) ∈ lw_all := lw_g (lw_at lw_m9 75 rfl) rfl
theorem q2132 : (Jvm.Cond.code ({ cls := "LeekReadingsModel", name := "losesKept", desc := "(I)I" } : Jvm.MethodName) prog_24_method_88_code (2 : Nat) (Option.some Jvm.ClassFile.FieldType.int)) ∈ lw_all := lw_g (lw_at lw_m9 76 rfl) rfl
theorem q2133 : (Jvm.Cond.methodLink "LeekReadingsModel" (358 : Nat) ({ cls := "LeekReadingsModel", name := "canLose", desc := "(I)Z" } : Jvm.MethodName)) ∈ lw_all := lw_g (lw_at lw_m9 77 rfl) rfl
theorem q2134 : (Jvm.Cond.privateMethod ({ cls := "LeekReadingsModel", name := "canLose", desc := "(I)Z" } : Jvm.MethodName)) ∈ lw_tbl := lw_at lw_m9 78 rfl
theorem q2135 : (Jvm.Cond.instanceMethod ({ cls := "LeekReadingsModel", name := "canLose", desc := "(I)Z" } : Jvm.MethodName)) ∈ lw_all := lw_g (lw_at lw_m9 79 rfl) rfl
theorem q2136 : (Jvm.Cond.code ({ cls := "LeekReadingsModel", name := "canLose", desc := "(I)Z" } : Jvm.MethodName) prog_24_method_81_code (4 : Nat) (Option.some Jvm.ClassFile.FieldType.boolean)) ∈ lw_all := lw_g (lw_at lw_m9 80 rfl) rfl
theorem q2138 : (Jvm.Cond.instanceMethod ({ cls := "LeekReadingsModel", name := "cut", desc := "(I)I" } : Jvm.MethodName)) ∈ lw_all := lw_g (lw_at lw_m9 82 rfl) rfl
theorem q2139 : (Jvm.Cond.selects "LeekReadingsModel" ({ cls := "LeekReadingsModel", name := "cut", desc := "(I)I" } : Jvm.MethodName) ({ cls := "LeekReadingsModel", name := "cut", desc := "(I)I" } : Jvm.MethodName)) ∈ lw_all := lw_g (lw_at lw_m9 83 rfl) rfl
theorem q2140 : (Jvm.Cond.code ({ cls := "LeekReadingsModel", name := "cut", desc := "(I)I" } : Jvm.MethodName) prog_24_method_93_code (2 : Nat) (Option.some Jvm.ClassFile.FieldType.int)) ∈ lw_all := lw_g (lw_at lw_m9 84 rfl) rfl
theorem q2141 : (Jvm.Cond.methodLink "LeekReadingsModel" (373 : Nat) ({ cls := "LeekReadingsModel", name := "cutsKept", desc := "(I)I" } : Jvm.MethodName)) ∈ lw_all := lw_g (lw_at lw_m9 85 rfl) rfl
theorem q2142 : (Jvm.Cond.privateMethod ({ cls := "LeekReadingsModel", name := "cutsKept", desc := "(I)I" } : Jvm.MethodName)) ∈ lw_tbl := lw_at lw_m9 86 rfl
theorem q2143 : (Jvm.Cond.instanceMethod ({ cls := "LeekReadingsModel", name := "cutsKept", desc := "(I)I" } : Jvm.MethodName)) ∈ lw_all := lw_g (lw_at lw_m9 87 rfl) rfl
theorem q2144 : (Jvm.Cond.code ({ cls := "LeekReadingsModel", name := "cutsKept", desc := "(I)I" } : Jvm.MethodName) prog_24_method_89_code (3 : Nat) (Option.some Jvm.ClassFile.FieldType.int)) ∈ lw_all := lw_g (lw_at lw_m9 88 rfl) rfl
theorem q2146 : (Jvm.Cond.instanceMethod ({ cls := "LeekReadingsModel", name := "pass", desc := "()I" } : Jvm.MethodName)) ∈ lw_all := lw_g (lw_at lw_m9 90 rfl) rfl
theorem q2147 : (Jvm.Cond.selects "LeekReadingsModel" ({ cls := "LeekReadingsModel", name := "pass", desc := "()I" } : Jvm.MethodName) ({ cls := "LeekReadingsModel", name := "pass", desc := "()I" } : Jvm.MethodName)) ∈ lw_all := lw_g (lw_at lw_m9 91 rfl) rfl
theorem q2148 : (Jvm.Cond.code ({ cls := "LeekReadingsModel", name := "pass", desc := "()I" } : Jvm.MethodName) prog_24_method_94_code (1 : Nat) (Option.some Jvm.ClassFile.FieldType.int)) ∈ lw_all := lw_g (lw_at lw_m9 92 rfl) rfl
theorem q2149 : (Jvm.Cond.methodLink "LeekReadingsModel" (376 : Nat) ({ cls := "LeekReadingsModel", name := "passesKept", desc := "()I" } : Jvm.MethodName)) ∈ lw_all := lw_g (lw_at lw_m9 93 rfl) rfl
theorem q2150 : (Jvm.Cond.privateMethod ({ cls := "LeekReadingsModel", name := "passesKept", desc := "()I" } : Jvm.MethodName)) ∈ lw_tbl := lw_at lw_m9 94 rfl
theorem q2151 : (Jvm.Cond.instanceMethod ({ cls := "LeekReadingsModel", name := "passesKept", desc := "()I" } : Jvm.MethodName)) ∈ lw_all := lw_g (lw_at lw_m9 95 rfl) rfl
theorem q2152 : (Jvm.Cond.code ({ cls := "LeekReadingsModel", name := "passesKept", desc := "()I" } : Jvm.MethodName) prog_24_method_90_code (1 : Nat) (Option.some Jvm.ClassFile.FieldType.int)) ∈ lw_all := lw_g (lw_at lw_m9 96 rfl) rfl
theorem q2153 : (Jvm.Cond.methodLink "LeekReadingsModel" (361 : Nat) ({ cls := "LeekReadingsModel", name := "dayPasses", desc := "()I" } : Jvm.MethodName)) ∈ lw_all := lw_g (lw_at lw_m9 97 rfl) rfl
theorem q2154 : (Jvm.Cond.privateMethod ({ cls := "LeekReadingsModel", name := "dayPasses", desc := "()I" } : Jvm.MethodName)) ∈ lw_tbl := lw_at lw_m9 98 rfl
theorem q2155 : (Jvm.Cond.instanceMethod ({ cls := "LeekReadingsModel", name := "dayPasses", desc := "()I" } : Jvm.MethodName)) ∈ lw_all := lw_g (lw_at lw_m9 99 rfl) rfl
theorem q2156 : (Jvm.Cond.code ({ cls := "LeekReadingsModel", name := "dayPasses", desc := "()I" } : Jvm.MethodName) prog_24_method_83_code (4 : Nat) (Option.some Jvm.ClassFile.FieldType.int)) ∈ lw_all := lw_g (lw_at lw_m9 100 rfl) rfl
theorem q2157 : (Jvm.Cond.methodLink "LeekReadingsModel" (346 : Nat) ({ cls := "LeekReadingsModel", name := "greater", desc := "(II)I" } : Jvm.MethodName)) ∈ lw_all := lw_g (lw_at lw_m9 101 rfl) rfl
theorem q2158 : (Jvm.Cond.static ({ cls := "LeekReadingsModel", name := "greater", desc := "(II)I" } : Jvm.MethodName)) ∈ lw_all := lw_g (lw_at lw_m9 102 rfl) rfl
theorem q2159 : (Jvm.Cond.code ({ cls := "LeekReadingsModel", name := "greater", desc := "(II)I" } : Jvm.MethodName) prog_24_method_3_code (2 : Nat) (Option.some Jvm.ClassFile.FieldType.int)) ∈ lw_all := lw_g (lw_at lw_m9 103 rfl) rfl
theorem q2161 : (Jvm.Cond.instanceMethod ({ cls := "LeekReadingsModel", name := "needs", desc := "(I)I" } : Jvm.MethodName)) ∈ lw_all := lw_g (lw_at lw_m9 105 rfl) rfl
theorem q2162 : (Jvm.Cond.selects "LeekReadingsModel" ({ cls := "LeekReadingsModel", name := "needs", desc := "(I)I" } : Jvm.MethodName) ({ cls := "LeekReadingsModel", name := "needs", desc := "(I)I" } : Jvm.MethodName)) ∈ lw_all := lw_g (lw_at lw_m9 106 rfl) rfl
theorem q2163 : (Jvm.Cond.code ({ cls := "LeekReadingsModel", name := "needs", desc := "(I)I" } : Jvm.MethodName) prog_24_method_96_code (2 : Nat) (Option.some Jvm.ClassFile.FieldType.int)) ∈ lw_all := lw_g (lw_at lw_m9 107 rfl) rfl
theorem q2164 : (Jvm.Cond.methodLink "LeekReadingsModel" (379 : Nat) ({ cls := "LeekReadingsModel", name := "allNeeds", desc := "(I)I" } : Jvm.MethodName)) ∈ lw_all := lw_g (lw_at lw_m9 108 rfl) rfl
theorem q2165 : (Jvm.Cond.privateMethod ({ cls := "LeekReadingsModel", name := "allNeeds", desc := "(I)I" } : Jvm.MethodName)) ∈ lw_tbl := lw_at lw_m9 109 rfl
theorem q2166 : (Jvm.Cond.instanceMethod ({ cls := "LeekReadingsModel", name := "allNeeds", desc := "(I)I" } : Jvm.MethodName)) ∈ lw_all := lw_g (lw_at lw_m9 110 rfl) rfl
theorem q2167 : (Jvm.Cond.code ({ cls := "LeekReadingsModel", name := "allNeeds", desc := "(I)I" } : Jvm.MethodName) prog_24_method_95_code (5 : Nat) (Option.some Jvm.ClassFile.FieldType.int)) ∈ lw_all := lw_g (lw_at lw_m9 111 rfl) rfl
theorem q2169 : (Jvm.Cond.instanceMethod ({ cls := "LeekReadingsModel", name := "never", desc := "()I" } : Jvm.MethodName)) ∈ lw_all := lw_g (lw_at lw_m9 113 rfl) rfl
theorem q2170 : (Jvm.Cond.selects "LeekReadingsModel" ({ cls := "LeekReadingsModel", name := "never", desc := "()I" } : Jvm.MethodName) ({ cls := "LeekReadingsModel", name := "never", desc := "()I" } : Jvm.MethodName)) ∈ lw_all := lw_g (lw_at lw_m9 114 rfl) rfl
theorem q2171 : (Jvm.Cond.code ({ cls := "LeekReadingsModel", name := "never", desc := "()I" } : Jvm.MethodName) prog_24_method_99_code (1 : Nat) (Option.some Jvm.ClassFile.FieldType.int)) ∈ lw_all := lw_g (lw_at lw_m9 115 rfl) rfl
theorem q2172 : (Jvm.Cond.methodLink "LeekReadingsModel" (382 : Nat) ({ cls := "LeekReadingsModel", name := "everything", desc := "()I" } : Jvm.MethodName)) ∈ lw_all := lw_g (lw_at lw_m9 116 rfl) rfl
theorem q2173 : (Jvm.Cond.privateMethod ({ cls := "LeekReadingsModel", name := "everything", desc := "()I" } : Jvm.MethodName)) ∈ lw_tbl := lw_at lw_m9 117 rfl
theorem q2174 : (Jvm.Cond.instanceMethod ({ cls := "LeekReadingsModel", name := "everything", desc := "()I" } : Jvm.MethodName)) ∈ lw_all := lw_g (lw_at lw_m9 118 rfl) rfl
theorem q2175 : (Jvm.Cond.code ({ cls := "LeekReadingsModel", name := "everything", desc := "()I" } : Jvm.MethodName) prog_24_method_97_code (1 : Nat) (Option.some Jvm.ClassFile.FieldType.int)) ∈ lw_all := lw_g (lw_at lw_m9 119 rfl) rfl
theorem q2176 : (Jvm.Cond.methodLink "LeekReadingsModel" (385 : Nat) ({ cls := "LeekReadingsModel", name := "readAtLast", desc := "()I" } : Jvm.MethodName)) ∈ lw_all := lw_g (lw_at lw_m9 120 rfl) rfl
theorem q2177 : (Jvm.Cond.privateMethod ({ cls := "LeekReadingsModel", name := "readAtLast", desc := "()I" } : Jvm.MethodName)) ∈ lw_tbl := lw_at lw_m9 121 rfl
theorem q2178 : (Jvm.Cond.instanceMethod ({ cls := "LeekReadingsModel", name := "readAtLast", desc := "()I" } : Jvm.MethodName)) ∈ lw_all := lw_g (lw_at lw_m9 122 rfl) rfl
theorem q2179 : (Jvm.Cond.code ({ cls := "LeekReadingsModel", name := "readAtLast", desc := "()I" } : Jvm.MethodName) prog_24_method_98_code (4 : Nat) (Option.some Jvm.ClassFile.FieldType.int)) ∈ lw_all := lw_g (lw_at lw_m9 123 rfl) rfl
theorem q2181 : (Jvm.Cond.instanceMethod ({ cls := "LeekReadingsModel", name := "rows", desc := "(I)I" } : Jvm.MethodName)) ∈ lw_all := lw_g (lw_at lw_m9 125 rfl) rfl
theorem q2182 : (Jvm.Cond.selects "LeekReadingsModel" ({ cls := "LeekReadingsModel", name := "rows", desc := "(I)I" } : Jvm.MethodName) ({ cls := "LeekReadingsModel", name := "rows", desc := "(I)I" } : Jvm.MethodName)) ∈ lw_all := lw_g (lw_at lw_m9 126 rfl) rfl
theorem q2183 : (Jvm.Cond.code ({ cls := "LeekReadingsModel", name := "rows", desc := "(I)I" } : Jvm.MethodName) prog_24_method_104_code (2 : Nat) (Option.some Jvm.ClassFile.FieldType.int)) ∈ lw_all := lw_g (lw_at lw_m9 127 rfl) rfl
theorem q2184 : (Jvm.Cond.methodLink "LeekReadingsModel" (391 : Nat) ({ cls := "LeekReadingsModel", name := "rowsLeft", desc := "()I" } : Jvm.MethodName)) ∈ lw_all := lw_g (lw_at lw_m9 128 rfl) rfl
theorem q2185 : (Jvm.Cond.privateMethod ({ cls := "LeekReadingsModel", name := "rowsLeft", desc := "()I" } : Jvm.MethodName)) ∈ lw_tbl := lw_at lw_m9 129 rfl
theorem q2186 : (Jvm.Cond.instanceMethod ({ cls := "LeekReadingsModel", name := "rowsLeft", desc := "()I" } : Jvm.MethodName)) ∈ lw_all := lw_g (lw_at lw_m9 130 rfl) rfl
theorem q2187 : (Jvm.Cond.code ({ cls := "LeekReadingsModel", name := "rowsLeft", desc := "()I" } : Jvm.MethodName) prog_24_method_102_code (4 : Nat) (Option.some Jvm.ClassFile.FieldType.int)) ∈ lw_all := lw_g (lw_at lw_m9 131 rfl) rfl
theorem q2188 : (Jvm.Cond.methodLink "LeekReadingsModel" (394 : Nat) ({ cls := "LeekReadingsModel", name := "toCome", desc := "()I" } : Jvm.MethodName)) ∈ lw_all := lw_g (lw_at lw_m9 132 rfl) rfl
theorem q2189 : (Jvm.Cond.privateMethod ({ cls := "LeekReadingsModel", name := "toCome", desc := "()I" } : Jvm.MethodName)) ∈ lw_tbl := lw_at lw_m9 133 rfl
theorem q2190 : (Jvm.Cond.instanceMethod ({ cls := "LeekReadingsModel", name := "toCome", desc := "()I" } : Jvm.MethodName)) ∈ lw_all := lw_g (lw_at lw_m9 134 rfl) rfl
theorem q2191 : (Jvm.Cond.code ({ cls := "LeekReadingsModel", name := "toCome", desc := "()I" } : Jvm.MethodName) prog_24_method_100_code (1 : Nat) (Option.some Jvm.ClassFile.FieldType.int)) ∈ lw_all := lw_g (lw_at lw_m9 135 rfl) rfl
theorem q2192 : (Jvm.Cond.methodLink "LeekReadingsModel" (397 : Nat) ({ cls := "LeekReadingsModel", name := "inRow", desc := "(II)I" } : Jvm.MethodName)) ∈ lw_all := lw_g (lw_at lw_m9 136 rfl) rfl
theorem q2193 : (Jvm.Cond.privateMethod ({ cls := "LeekReadingsModel", name := "inRow", desc := "(II)I" } : Jvm.MethodName)) ∈ lw_tbl := lw_at lw_m9 137 rfl
theorem q2194 : (Jvm.Cond.instanceMethod ({ cls := "LeekReadingsModel", name := "inRow", desc := "(II)I" } : Jvm.MethodName)) ∈ lw_all := lw_g (lw_at lw_m9 138 rfl) rfl
theorem q2195 : (Jvm.Cond.code ({ cls := "LeekReadingsModel", name := "inRow", desc := "(II)I" } : Jvm.MethodName) prog_24_method_103_code (6 : Nat) (Option.some Jvm.ClassFile.FieldType.int)) ∈ lw_all := lw_g (lw_at lw_m9 139 rfl) rfl
theorem q2196 : (Jvm.Cond.methodLink "LeekReadingsModel" (388 : Nat) ({ cls := "LeekReadingsModel", name := "lowestOpen", desc := "(II)I" } : Jvm.MethodName)) ∈ lw_all := lw_g (lw_at lw_m9 140 rfl) rfl
theorem q2197 : (Jvm.Cond.privateMethod ({ cls := "LeekReadingsModel", name := "lowestOpen", desc := "(II)I" } : Jvm.MethodName)) ∈ lw_tbl := lw_at lw_m9 141 rfl
theorem q2198 : (Jvm.Cond.instanceMethod ({ cls := "LeekReadingsModel", name := "lowestOpen", desc := "(II)I" } : Jvm.MethodName)) ∈ lw_all := lw_g (lw_at lw_m9 142 rfl) rfl
theorem q2199 : (Jvm.Cond.code ({ cls := "LeekReadingsModel", name := "lowestOpen", desc := "(II)I" } : Jvm.MethodName) prog_24_method_101_code (5 : Nat) (Option.some Jvm.ClassFile.FieldType.int)) ∈ lw_all := lw_g (lw_at lw_m9 143 rfl) rfl
theorem q2201 : (Jvm.Cond.instanceMethod ({ cls := "LeekReadingsModel", name := "to", desc := "(II)I" } : Jvm.MethodName)) ∈ lw_all := lw_g (lw_at lw_m9 145 rfl) rfl
theorem q2202 : (Jvm.Cond.selects "LeekReadingsModel" ({ cls := "LeekReadingsModel", name := "to", desc := "(II)I" } : Jvm.MethodName) ({ cls := "LeekReadingsModel", name := "to", desc := "(II)I" } : Jvm.MethodName)) ∈ lw_all := lw_g (lw_at lw_m9 146 rfl) rfl
theorem q2203 : (Jvm.Cond.code ({ cls := "LeekReadingsModel", name := "to", desc := "(II)I" } : Jvm.MethodName) prog_24_method_106_code (4 : Nat) (Option.some Jvm.ClassFile.FieldType.int)) ∈ lw_all := lw_g (lw_at lw_m9 147 rfl) rfl
theorem q2204 : (Jvm.Cond.methodLink "LeekReadingsModel" (400 : Nat) ({ cls := "LeekReadingsModel", name := "never", desc := "()I" } : Jvm.MethodName)) ∈ lw_all := lw_g (lw_at lw_m9 148 rfl) rfl
theorem q2205 : (Jvm.Cond.methodLink "LeekReadingsModel" (403 : Nat) ({ cls := "LeekReadingsModel", name := "readFor", desc := "(I)I" } : Jvm.MethodName)) ∈ lw_all := lw_g (lw_at lw_m9 149 rfl) rfl
theorem q2206 : (Jvm.Cond.privateMethod ({ cls := "LeekReadingsModel", name := "readFor", desc := "(I)I" } : Jvm.MethodName)) ∈ lw_tbl := lw_at lw_m9 150 rfl
theorem q2207 : (Jvm.Cond.instanceMethod ({ cls := "LeekReadingsModel", name := "readFor", desc := "(I)I" } : Jvm.MethodName)) ∈ lw_all := lw_g (lw_at lw_m9 151 rfl) rfl
theorem q2208 : (Jvm.Cond.code ({ cls := "LeekReadingsModel", name := "readFor", desc := "(I)I" } : Jvm.MethodName) prog_24_method_105_code (5 : Nat) (Option.some Jvm.ClassFile.FieldType.int)) ∈ lw_all := lw_g (lw_at lw_m9 152 rfl) rfl
theorem q2210 : (Jvm.Cond.instanceMethod ({ cls := "LeekReadingsModel", name := "deep", desc := "(I)I" } : Jvm.MethodName)) ∈ lw_all := lw_g (lw_at lw_m9 154 rfl) rfl
theorem q2211 : (Jvm.Cond.selects "LeekReadingsModel" ({ cls := "LeekReadingsModel", name := "deep", desc := "(I)I" } : Jvm.MethodName) ({ cls := "LeekReadingsModel", name := "deep", desc := "(I)I" } : Jvm.MethodName)) ∈ lw_all := lw_g (lw_at lw_m9 155 rfl) rfl
theorem q2212 : (Jvm.Cond.code ({ cls := "LeekReadingsModel", name := "deep", desc := "(I)I" } : Jvm.MethodName) prog_24_method_109_code (2 : Nat) (Option.some Jvm.ClassFile.FieldType.int)) ∈ lw_all := lw_g (lw_at lw_m9 156 rfl) rfl
theorem q2213 : (Jvm.Cond.methodLink "LeekReadingsModel" (406 : Nat) ({ cls := "LeekReadingsModel", name := "hasRing", desc := "(I)Z" } : Jvm.MethodName)) ∈ lw_all := lw_g (lw_at lw_m9 157 rfl) rfl
theorem q2214 : (Jvm.Cond.privateMethod ({ cls := "LeekReadingsModel", name := "hasRing", desc := "(I)Z" } : Jvm.MethodName)) ∈ lw_tbl := lw_at lw_m9 158 rfl
theorem q2215 : (Jvm.Cond.instanceMethod ({ cls := "LeekReadingsModel", name := "hasRing", desc := "(I)Z" } : Jvm.MethodName)) ∈ lw_all := lw_g (lw_at lw_m9 159 rfl) rfl
theorem q2216 : (Jvm.Cond.code ({ cls := "LeekReadingsModel", name := "hasRing", desc := "(I)Z" } : Jvm.MethodName) prog_24_method_107_code (5 : Nat) (Option.some Jvm.ClassFile.FieldType.boolean)) ∈ lw_all := lw_g (lw_at lw_m9 160 rfl) rfl
theorem q2217 : (Jvm.Cond.methodLink "LeekReadingsModel" (409 : Nat) ({ cls := "LeekReadingsModel", name := "laysDepth", desc := "(IZ)V" } : Jvm.MethodName)) ∈ lw_all := lw_g (lw_at lw_m9 161 rfl) rfl
theorem q2218 : (Jvm.Cond.privateMethod ({ cls := "LeekReadingsModel", name := "laysDepth", desc := "(IZ)V" } : Jvm.MethodName)) ∈ lw_tbl := lw_at lw_m9 162 rfl
theorem q2219 : (Jvm.Cond.instanceMethod ({ cls := "LeekReadingsModel", name := "laysDepth", desc := "(IZ)V" } : Jvm.MethodName)) ∈ lw_all := lw_g (lw_at lw_m9 163 rfl) rfl
theorem q2220 : (Jvm.Cond.code ({ cls := "LeekReadingsModel", name := "laysDepth", desc := "(IZ)V" } : Jvm.MethodName) prog_24_method_108_code (7 : Nat) (Option.none : Option Jvm.ClassFile.FieldType)) ∈ lw_all := lw_g (lw_at lw_m9 164 rfl) rfl
theorem q2222 : (Jvm.Cond.instanceMethod ({ cls := "LeekReadingsModel", name := "atOnce", desc := "()I" } : Jvm.MethodName)) ∈ lw_all := lw_g (lw_at lw_m9 166 rfl) rfl
theorem q2223 : (Jvm.Cond.selects "LeekReadingsModel" ({ cls := "LeekReadingsModel", name := "atOnce", desc := "()I" } : Jvm.MethodName) ({ cls := "LeekReadingsModel", name := "atOnce", desc := "()I" } : Jvm.MethodName)) ∈ lw_all := lw_g (lw_at lw_m9 167 rfl) rfl
theorem q2224 : (Jvm.Cond.code ({ cls := "LeekReadingsModel", name := "atOnce", desc := "()I" } : Jvm.MethodName) prog_24_method_110_code (3 : Nat) (Option.some Jvm.ClassFile.FieldType.int)) ∈ lw_all := lw_g (lw_at lw_m9 168 rfl) rfl
theorem q2226 : (Jvm.Cond.instanceMethod ({ cls := "LeekReadingsModel", name := "key", desc := "(I)I" } : Jvm.MethodName)) ∈ lw_all := lw_g (lw_at lw_m9 170 rfl) rfl
theorem q2227 : (Jvm.Cond.selects "LeekReadingsModel" ({ cls := "LeekReadingsModel", name := "key", desc := "(I)I" } : Jvm.MethodName) ({ cls := "LeekReadingsModel", name := "key", desc := "(I)I" } : Jvm.MethodName)) ∈ lw_all := lw_g (lw_at lw_m9 171 rfl) rfl
theorem q2228 : (Jvm.Cond.code ({ cls := "LeekReadingsModel", name := "key", desc := "(I)I" } : Jvm.MethodName) prog_24_method_112_code (7 : Nat) (Option.some Jvm.ClassFile.FieldType.int)) ∈ lw_all := lw_g (lw_at lw_m9 172 rfl) rfl
theorem q2229 : (Jvm.Cond.methodLink "LeekReadingsModel" (413 : Nat) ({ cls := "LeekReadingsModel", name := "needIt", desc := "(II)I" } : Jvm.MethodName)) ∈ lw_all := lw_g (lw_at lw_m9 173 rfl) rfl
theorem q2230 : (Jvm.Cond.privateMethod ({ cls := "LeekReadingsModel", name := "needIt", desc := "(II)I" } : Jvm.MethodName)) ∈ lw_tbl := lw_at lw_m9 174 rfl
theorem q2231 : (Jvm.Cond.instanceMethod ({ cls := "LeekReadingsModel", name := "needIt", desc := "(II)I" } : Jvm.MethodName)) ∈ lw_all := lw_g (lw_at lw_m9 175 rfl) rfl
theorem q2232 : (Jvm.Cond.code ({ cls := "LeekReadingsModel", name := "needIt", desc := "(II)I" } : Jvm.MethodName) prog_24_method_111_code (5 : Nat) (Option.some Jvm.ClassFile.FieldType.int)) ∈ lw_all := lw_g (lw_at lw_m9 176 rfl) rfl
theorem q2234 : (Jvm.Cond.instanceMethod ({ cls := "LeekReadingsModel", name := "tallest", desc := "(III)I" } : Jvm.MethodName)) ∈ lw_all := lw_g (lw_at lw_m9 178 rfl) rfl
theorem q2235 : (Jvm.Cond.selects "LeekReadingsModel" ({ cls := "LeekReadingsModel", name := "tallest", desc := "(III)I" } : Jvm.MethodName) ({ cls := "LeekReadingsModel", name := "tallest", desc := "(III)I" } : Jvm.MethodName)) ∈ lw_all := lw_g (lw_at lw_m9 179 rfl) rfl
theorem q2236 : (Jvm.Cond.code ({ cls := "LeekReadingsModel", name := "tallest", desc := "(III)I" } : Jvm.MethodName) prog_24_method_118_code (4 : Nat) (Option.some Jvm.ClassFile.FieldType.int)) ∈ lw_all := lw_g (lw_at lw_m9 180 rfl) rfl
theorem q2237 : (Jvm.Cond.methodLink "LeekReadingsModel" (443 : Nat) ({ cls := "LeekReadingsModel", name := "goesThrough", desc := "(III)V" } : Jvm.MethodName)) ∈ lw_all := lw_g (lw_at lw_m9 181 rfl) rfl
theorem q2238 : (Jvm.Cond.privateMethod ({ cls := "LeekReadingsModel", name := "goesThrough", desc := "(III)V" } : Jvm.MethodName)) ∈ lw_tbl := lw_at lw_m9 182 rfl
theorem q2239 : (Jvm.Cond.instanceMethod ({ cls := "LeekReadingsModel", name := "goesThrough", desc := "(III)V" } : Jvm.MethodName)) ∈ lw_all := lw_g (lw_at lw_m9 183 rfl) rfl
theorem q2240 : (Jvm.Cond.code ({ cls := "LeekReadingsModel", name := "goesThrough", desc := "(III)V" } : Jvm.MethodName) prog_24_method_117_code (4 : Nat) (Option.none : Option Jvm.ClassFile.FieldType)) ∈ lw_all := lw_g (lw_at lw_m9 184 rfl) rfl
theorem q2241 : (Jvm.Cond.methodLink "LeekReadingsModel" (440 : Nat) ({ cls := "LeekReadingsModel", name := "laysBarred", desc := "()V" } : Jvm.MethodName)) ∈ lw_all := lw_g (lw_at lw_m9 185 rfl) rfl
theorem q2242 : (Jvm.Cond.privateMethod ({ cls := "LeekReadingsModel", name := "laysBarred", desc := "()V" } : Jvm.MethodName)) ∈ lw_tbl := lw_at lw_m9 186 rfl
theorem q2243 : (Jvm.Cond.instanceMethod ({ cls := "LeekReadingsModel", name := "laysBarred", desc := "()V" } : Jvm.MethodName)) ∈ lw_all := lw_g (lw_at lw_m9 187 rfl) rfl
theorem q2244 : (Jvm.Cond.code ({ cls := "LeekReadingsModel", name := "laysBarred", desc := "()V" } : Jvm.MethodName) prog_24_method_114_code (4 : Nat) (Option.none : Option Jvm.ClassFile.FieldType)) ∈ lw_all := lw_g (lw_at lw_m9 188 rfl) rfl
theorem q2245 : (Jvm.Cond.methodLink "LeekReadingsModel" (416 : Nat) ({ cls := "LeekReadingsModel", name := "daysOf", desc := "(I)I" } : Jvm.MethodName)) ∈ lw_all := lw_g (lw_at lw_m9 189 rfl) rfl
theorem q2246 : (Jvm.Cond.privateMethod ({ cls := "LeekReadingsModel", name := "daysOf", desc := "(I)I" } : Jvm.MethodName)) ∈ lw_tbl := lw_at lw_m9 190 rfl
theorem q2247 : (Jvm.Cond.instanceMethod ({ cls := "LeekReadingsModel", name := "daysOf", desc := "(I)I" } : Jvm.MethodName)) ∈ lw_all := lw_g (lw_at lw_m9 191 rfl) rfl
theorem q2248 : (Jvm.Cond.code ({ cls := "LeekReadingsModel", name := "daysOf", desc := "(I)I" } : Jvm.MethodName) prog_24_method_113_code (4 : Nat) (Option.some Jvm.ClassFile.FieldType.int)) ∈ lw_all := lw_g (lw_at lw_m9 192 rfl) rfl
theorem q2249 : (Jvm.Cond.methodLink "LeekReadingsModel" (437 : Nat) ({ cls := "LeekReadingsModel", name := "goesOn", desc := "(IIIII)V" } : Jvm.MethodName)) ∈ lw_all := lw_g (lw_at lw_m9 193 rfl) rfl
theorem q2250 : (Jvm.Cond.privateMethod ({ cls := "LeekReadingsModel", name := "goesOn", desc := "(IIIII)V" } : Jvm.MethodName)) ∈ lw_tbl := lw_at lw_m9 194 rfl
theorem q2251 : (Jvm.Cond.instanceMethod ({ cls := "LeekReadingsModel", name := "goesOn", desc := "(IIIII)V" } : Jvm.MethodName)) ∈ lw_all := lw_g (lw_at lw_m9 195 rfl) rfl
theorem q2252 : (Jvm.Cond.code ({ cls := "LeekReadingsModel", name := "goesOn", desc := "(IIIII)V" } : Jvm.MethodName) prog_24_method_116_code (9 : Nat) (Option.none : Option Jvm.ClassFile.FieldType)) ∈ lw_all := lw_g (lw_at lw_m9 196 rfl) rfl
theorem q2253 : (Jvm.Cond.methodLink "LeekReadingsModel" (431 : Nat) ({ cls := "LeekReadingsModel", name := "isRow", desc := "(III)V" } : Jvm.MethodName)) ∈ lw_all := lw_g (lw_at lw_m9 197 rfl) rfl
theorem q2254 : (Jvm.Cond.privateMethod ({ cls := "LeekReadingsModel", name := "isRow", desc := "(III)V" } : Jvm.MethodName)) ∈ lw_tbl := lw_at lw_m9 198 rfl
theorem q2255 : (Jvm.Cond.instanceMethod ({ cls := "LeekReadingsModel", name := "isRow", desc := "(III)V" } : Jvm.MethodName)) ∈ lw_all := lw_g (lw_at lw_m9 199 rfl) rfl
theorem q2256 : (Jvm.Cond.code ({ cls := "LeekReadingsModel", name := "isRow", desc := "(III)V" } : Jvm.MethodName) prog_24_method_115_code (5 : Nat) (Option.none : Option Jvm.ClassFile.FieldType)) ∈ lw_all := lw_g (lw_at lw_m9 200 rfl) rfl
theorem q2258 : (Jvm.Cond.instanceMethod ({ cls := "LeekReadingsModel", name := "soon", desc := "(II)I" } : Jvm.MethodName)) ∈ lw_all := lw_g (lw_at lw_m9 202 rfl) rfl
theorem q2259 : (Jvm.Cond.selects "LeekReadingsModel" ({ cls := "LeekReadingsModel", name := "soon", desc := "(II)I" } : Jvm.MethodName) ({ cls := "LeekReadingsModel", name := "soon", desc := "(II)I" } : Jvm.MethodName)) ∈ lw_all := lw_g (lw_at lw_m9 203 rfl) rfl
theorem q2260 : (Jvm.Cond.code ({ cls := "LeekReadingsModel", name := "soon", desc := "(II)I" } : Jvm.MethodName) prog_24_method_119_code (3 : Nat) (Option.some Jvm.ClassFile.FieldType.int)) ∈ lw_all := lw_g (lw_at lw_m9 204 rfl) rfl
theorem q2262 : (Jvm.Cond.instanceMethod ({ cls := "LeekReadingsModel", name := "seen", desc := "(II)I" } : Jvm.MethodName)) ∈ lw_all := lw_g (lw_at lw_m9 206 rfl) rfl
theorem q2263 : (Jvm.Cond.selects "LeekReadingsModel" ({ cls := "LeekReadingsModel", name := "seen", desc := "(II)I" } : Jvm.MethodName) ({ cls := "LeekReadingsModel", name := "seen", desc := "(II)I" } : Jvm.MethodName)) ∈ lw_all := lw_g (lw_at lw_m9 207 rfl) rfl
theorem q2264 : (Jvm.Cond.code ({ cls := "LeekReadingsModel", name := "seen", desc := "(II)I" } : Jvm.MethodName) prog_24_method_120_code (4 : Nat) (Option.some Jvm.ClassFile.FieldType.int)) ∈ lw_all := lw_g (lw_at lw_m9 208 rfl) rfl
theorem q2266 : (Jvm.Cond.instanceMethod ({ cls := "LeekReadingsModel", name := "forget", desc := "()I" } : Jvm.MethodName)) ∈ lw_all := lw_g (lw_at lw_m9 210 rfl) rfl
theorem q2267 : (Jvm.Cond.selects "LeekReadingsModel" ({ cls := "LeekReadingsModel", name := "forget", desc := "()I" } : Jvm.MethodName) ({ cls := "LeekReadingsModel", name := "forget", desc := "()I" } : Jvm.MethodName)) ∈ lw_all := lw_g (lw_at lw_m9 211 rfl) rfl
theorem q2268 : (Jvm.Cond.code ({ cls := "LeekReadingsModel", name := "forget", desc := "()I" } : Jvm.MethodName) prog_24_method_121_code (2 : Nat) (Option.some Jvm.ClassFile.FieldType.int)) ∈ lw_all := lw_g (lw_at lw_m9 212 rfl) rfl
theorem q2270 : (Jvm.Cond.instanceMethod ({ cls := "LeekReadingsModel", name := "canBe", desc := "()I" } : Jvm.MethodName)) ∈ lw_all := lw_g (lw_at lw_m9 214 rfl) rfl
theorem q2271 : (Jvm.Cond.selects "LeekReadingsModel" ({ cls := "LeekReadingsModel", name := "canBe", desc := "()I" } : Jvm.MethodName) ({ cls := "LeekReadingsModel", name := "canBe", desc := "()I" } : Jvm.MethodName)) ∈ lw_all := lw_g (lw_at lw_m9 215 rfl) rfl
theorem q2272 : (Jvm.Cond.code ({ cls := "LeekReadingsModel", name := "canBe", desc := "()I" } : Jvm.MethodName) prog_24_method_124_code (3 : Nat) (Option.some Jvm.ClassFile.FieldType.int)) ∈ lw_all := lw_g (lw_at lw_m9 216 rfl) rfl
theorem q2273 : (Jvm.Cond.methodLink "LeekReadingsModel" (446 : Nat) ({ cls := "LeekReadingsModel", name := "laysGrowth", desc := "()V" } : Jvm.MethodName)) ∈ lw_all := lw_g (lw_at lw_m9 217 rfl) rfl
theorem q2274 : (Jvm.Cond.privateMethod ({ cls := "LeekReadingsModel", name := "laysGrowth", desc := "()V" } : Jvm.MethodName)) ∈ lw_tbl := lw_at lw_m9 218 rfl
theorem q2275 : (Jvm.Cond.instanceMethod ({ cls := "LeekReadingsModel", name := "laysGrowth", desc := "()V" } : Jvm.MethodName)) ∈ lw_all := lw_g (lw_at lw_m9 219 rfl) rfl
theorem q2276 : (Jvm.Cond.code ({ cls := "LeekReadingsModel", name := "laysGrowth", desc := "()V" } : Jvm.MethodName) prog_24_method_122_code (3 : Nat) (Option.none : Option Jvm.ClassFile.FieldType)) ∈ lw_all := lw_g (lw_at lw_m9 220 rfl) rfl
theorem q2277 : (Jvm.Cond.methodLink "LeekReadingsModel" (449 : Nat) ({ cls := "LeekReadingsModel", name := "isSo", desc := "(I)Z" } : Jvm.MethodName)) ∈ lw_all := lw_g (lw_at lw_m9 221 rfl) rfl
theorem q2278 : (Jvm.Cond.privateMethod ({ cls := "LeekReadingsModel", name := "isSo", desc := "(I)Z" } : Jvm.MethodName)) ∈ lw_tbl := lw_at lw_m9 222 rfl
theorem q2279 : (Jvm.Cond.instanceMethod ({ cls := "LeekReadingsModel", name := "isSo", desc := "(I)Z" } : Jvm.MethodName)) ∈ lw_all := lw_g (lw_at lw_m9 223 rfl) rfl
theorem q2280 : (Jvm.Cond.code ({ cls := "LeekReadingsModel", name := "isSo", desc := "(I)Z" } : Jvm.MethodName) prog_24_method_123_code (4 : Nat) (Option.some Jvm.ClassFile.FieldType.boolean)) ∈ lw_all := lw_g (lw_at lw_m9 224 rfl) rfl
theorem q2282 : (Jvm.Cond.instanceMethod ({ cls := "LeekReadingsModel", name := "look", desc := "(I)I" } : Jvm.MethodName)) ∈ lw_all := lw_g (lw_at lw_m9 226 rfl) rfl
theorem q2283 : (Jvm.Cond.selects "LeekReadingsModel" ({ cls := "LeekReadingsModel", name := "look", desc := "(I)I" } : Jvm.MethodName) ({ cls := "LeekReadingsModel", name := "look", desc := "(I)I" } : Jvm.MethodName)) ∈ lw_all := lw_g (lw_at lw_m9 227 rfl) rfl
theorem q2284 : (Jvm.Cond.code ({ cls := "LeekReadingsModel", name := "look", desc := "(I)I" } : Jvm.MethodName) prog_24_method_126_code (7 : Nat) (Option.some Jvm.ClassFile.FieldType.int)) ∈ lw_all := lw_g (lw_at lw_m9 228 rfl) rfl
theorem q2285 : (Jvm.Cond.methodLink "LeekReadingsModel" (452 : Nat) ({ cls := "LeekReadingsModel", name := "canBe", desc := "()I" } : Jvm.MethodName)) ∈ lw_all := lw_g (lw_at lw_m9 229 rfl) rfl
theorem q2286 : (Jvm.Cond.methodLink "LeekReadingsModel" (455 : Nat) ({ cls := "LeekReadingsModel", name := "mostAlike", desc := "(II)I" } : Jvm.MethodName)) ∈ lw_all := lw_g (lw_at lw_m9 230 rfl) rfl
theorem q2287 : (Jvm.Cond.privateMethod ({ cls := "LeekReadingsModel", name := "mostAlike", desc := "(II)I" } : Jvm.MethodName)) ∈ lw_tbl := lw_at lw_m9 231 rfl
theorem q2288 : (Jvm.Cond.instanceMethod ({ cls := "LeekReadingsModel", name := "mostAlike", desc := "(II)I" } : Jvm.MethodName)) ∈ lw_all := lw_g (lw_at lw_m9 232 rfl) rfl
theorem q2289 : (Jvm.Cond.code ({ cls := "LeekReadingsModel", name := "mostAlike", desc := "(II)I" } : Jvm.MethodName) prog_24_method_125_code (7 : Nat) (Option.some Jvm.ClassFile.FieldType.int)) ∈ lw_all := lw_g (lw_at lw_m9 233 rfl) rfl
theorem q2291 : (Jvm.Cond.instanceMethod ({ cls := "LeekReadingsModel", name := "compare", desc := "(III)I" } : Jvm.MethodName)) ∈ lw_all := lw_g (lw_at lw_m9 235 rfl) rfl
theorem q2292 : (Jvm.Cond.selects "LeekReadingsModel" ({ cls := "LeekReadingsModel", name := "compare", desc := "(III)I" } : Jvm.MethodName) ({ cls := "LeekReadingsModel", name := "compare", desc := "(III)I" } : Jvm.MethodName)) ∈ lw_all := lw_g (lw_at lw_m9 236 rfl) rfl
theorem q2293 : (Jvm.Cond.code ({ cls := "LeekReadingsModel", name := "compare", desc := "(III)I" } : Jvm.MethodName) prog_24_method_127_code (6 : Nat) (Option.some Jvm.ClassFile.FieldType.int)) ∈ lw_all := lw_g (lw_at lw_m9 237 rfl) rfl
theorem q2295 : (Jvm.Cond.instanceMethod ({ cls := "LeekReadingsModel", name := "few", desc := "(II)J" } : Jvm.MethodName)) ∈ lw_all := lw_g (lw_at lw_m9 239 rfl) rfl
theorem q2296 : (Jvm.Cond.selects "LeekReadingsModel" ({ cls := "LeekReadingsModel", name := "few", desc := "(II)J" } : Jvm.MethodName) ({ cls := "LeekReadingsModel", name := "few", desc := "(II)J" } : Jvm.MethodName)) ∈ lw_all := lw_g (lw_at lw_m10 0 rfl) rfl
theorem q2297 : (Jvm.Cond.code ({ cls := "LeekReadingsModel", name := "few", desc := "(II)J" } : Jvm.MethodName) prog_24_method_128_code (6 : Nat) (Option.some Jvm.ClassFile.FieldType.long)) ∈ lw_all := lw_g (lw_at lw_m10 1 rfl) rfl
theorem q2298 : (Jvm.Cond.constantLong "LeekReadingsModel" (458 : Nat) (-1 : Int64)) ∈ lw_all := lw_g (lw_at lw_m10 2 rfl) rfl
theorem q2299 : (Jvm.Cond.constantLong "LeekReadingsModel" (460 : Nat) (1000000000000 : Int64)) ∈ lw_all := lw_g (lw_at lw_m10 3 rfl) rfl
theorem q2300 : (Jvm.Cond.constantLong "LeekReadingsModel" (462 : Nat) (10 : Int64)) ∈ lw_all := lw_g (lw_at lw_m10 4 rfl) rfl
theorem q2302 : (Jvm.Cond.instanceMethod ({ cls := "LeekReadingsModel", name := "stopped", desc := "()I" } : Jvm.MethodName)) ∈ lw_all := lw_g (lw_at lw_m10 6 rfl) rfl
theorem q2303 : (Jvm.Cond.selects "LeekReadingsModel" ({ cls := "LeekReadingsModel", name := "stopped", desc := "()I" } : Jvm.MethodName) ({ cls := "LeekReadingsModel", name := "stopped", desc := "()I" } : Jvm.MethodName)) ∈ lw_all := lw_g (lw_at lw_m10 7 rfl) rfl
theorem q2304 : (Jvm.Cond.code ({ cls := "LeekReadingsModel", name := "stopped", desc := "()I" } : Jvm.MethodName) prog_24_method_129_code (1 : Nat) (Option.some Jvm.ClassFile.FieldType.int)) ∈ lw_all := lw_g (lw_at lw_m10 8 rfl) rfl
theorem q2306 : (Jvm.Cond.instanceMethod ({ cls := "LeekReadingsModel", name := "orders", desc := "()I" } : Jvm.MethodName)) ∈ lw_all := lw_g (lw_at lw_m10 10 rfl) rfl
theorem q2307 : (Jvm.Cond.selects "LeekReadingsModel" ({ cls := "LeekReadingsModel", name := "orders", desc := "()I" } : Jvm.MethodName) ({ cls := "LeekReadingsModel", name := "orders", desc := "()I" } : Jvm.MethodName)) ∈ lw_all := lw_g (lw_at lw_m10 11 rfl) rfl
theorem q2308 : (Jvm.Cond.code ({ cls := "LeekReadingsModel", name := "orders", desc := "()I" } : Jvm.MethodName) prog_24_method_130_code (5 : Nat) (Option.some Jvm.ClassFile.FieldType.int)) ∈ lw_all := lw_g (lw_at lw_m10 12 rfl) rfl
theorem q2309 : (Jvm.Cond.methodLink "LeekReadingsModel" (464 : Nat) ({ cls := "LeekReadingsModel", name := "laysAside", desc := "(I)V" } : Jvm.MethodName)) ∈ lw_all := lw_g (lw_at lw_m10 13 rfl) rfl
theorem q2310 : (Jvm.Cond.privateMethod ({ cls := "LeekReadingsModel", name := "laysAside", desc := "(I)V" } : Jvm.MethodName)) ∈ lw_tbl := lw_at lw_m10 14 rfl
theorem q2311 : (Jvm.Cond.instanceMethod ({ cls := "LeekReadingsModel", name := "laysAside", desc := "(I)V" } : Jvm.MethodName)) ∈ lw_all := lw_g (lw_at lw_m10 15 rfl) rfl
theorem q2312 : (Jvm.Cond.code ({ cls := "LeekReadingsModel", name := "laysAside", desc := "(I)V" } : Jvm.MethodName) prog_24_method_10_code (3 : Nat) (Option.none : Option Jvm.ClassFile.FieldType)) ∈ lw_all := lw_g (lw_at lw_m10 16 rfl) rfl
theorem q2313 : (Jvm.Cond.methodLink "LeekReadingsModel" (470 : Nat) ({ cls := "LeekReadingsModel", name := "runs", desc := "(I)Z" } : Jvm.MethodName)) ∈ lw_all := lw_g (lw_at lw_m10 17 rfl) rfl
theorem q2314 : (Jvm.Cond.privateMethod ({ cls := "LeekReadingsModel", name := "runs", desc := "(I)Z" } : Jvm.MethodName)) ∈ lw_tbl := lw_at lw_m10 18 rfl
theorem q2315 : (Jvm.Cond.instanceMethod ({ cls := "LeekReadingsModel", name := "runs", desc := "(I)Z" } : Jvm.MethodName)) ∈ lw_all := lw_g (lw_at lw_m10 19 rfl) rfl
theorem q2316 : (Jvm.Cond.code ({ cls := "LeekReadingsModel", name := "runs", desc := "(I)Z" } : Jvm.MethodName) prog_24_method_134_code (5 : Nat) (Option.some Jvm.ClassFile.FieldType.boolean)) ∈ lw_all := lw_g (lw_at lw_m10 20 rfl) rfl
theorem q2317 : (Jvm.Cond.methodLink "LeekReadingsModel" (498 : Nat) ({ cls := "LeekReadingsModel", name := "goesAlong", desc := "(IZ)V" } : Jvm.MethodName)) ∈ lw_all := lw_g (lw_at lw_m10 21 rfl) rfl
theorem q2318 : (Jvm.Cond.privateMethod ({ cls := "LeekReadingsModel", name := "goesAlong", desc := "(IZ)V" } : Jvm.MethodName)) ∈ lw_tbl := lw_at lw_m10 22 rfl
theorem q2319 : (Jvm.Cond.instanceMethod ({ cls := "LeekReadingsModel", name := "goesAlong", desc := "(IZ)V" } : Jvm.MethodName)) ∈ lw_all := lw_g (lw_at lw_m10 23 rfl) rfl
theorem q2320 : (Jvm.Cond.code ({ cls := "LeekReadingsModel", name := "goesAlong", desc := "(IZ)V" } : Jvm.MethodName) prog_24_method_131_code (3 : Nat) (Option.none : Option Jvm.ClassFile.FieldType)) ∈ lw_all := lw_g (lw_at lw_m10 24 rfl) rfl
theorem q2321 : (Jvm.Cond.methodLink "LeekReadingsModel" (501 : Nat) ({ cls := "LeekReadingsModel", name := "obeys", desc := "()I" } : Jvm.MethodName)) ∈ lw_all := lw_g (lw_at lw_m10 25 rfl) rfl
theorem q2322 : (Jvm.Cond.privateMethod ({ cls := "LeekReadingsModel", name := "obeys", desc := "()I" } : Jvm.MethodName)) ∈ lw_tbl := lw_at lw_m10 26 rfl
theorem q2323 : (Jvm.Cond.instanceMethod ({ cls := "LeekReadingsModel", name := "obeys", desc := "()I" } : Jvm.MethodName)) ∈ lw_all := lw_g (lw_at lw_m10 27 rfl) rfl
theorem q2324 : (Jvm.Cond.code ({ cls := "LeekReadingsModel", name := "obeys", desc := "()I" } : Jvm.MethodName) prog_24_method_133_code (3 : Nat) (Option.some Jvm.ClassFile.FieldType.int)) ∈ lw_all := lw_g (lw_at lw_m10 28 rfl) rfl
theorem q2325 : (Jvm.Cond.methodLink "LeekReadingsModel" (494 : Nat) ({ cls := "LeekReadingsModel", name := "small", desc := "(J)I" } : Jvm.MethodName)) ∈ lw_all := lw_g (lw_at lw_m10 29 rfl) rfl
theorem q2326 : (Jvm.Cond.static ({ cls := "LeekReadingsModel", name := "small", desc := "(J)I" } : Jvm.MethodName)) ∈ lw_all := lw_g (lw_at lw_m10 30 rfl) rfl
theorem q2327 : (Jvm.Cond.code ({ cls := "LeekReadingsModel", name := "small", desc := "(J)I" } : Jvm.MethodName) prog_24_method_132_code (2 : Nat) (Option.some Jvm.ClassFile.FieldType.int)) ∈ lw_all := lw_g (lw_at lw_m10 31 rfl) rfl
theorem q2328 : (Jvm.Cond.constantLong "LeekReadingsModel" (492 : Nat) (1000000 : Int64)) ∈ lw_all := lw_g (lw_at lw_m10 32 rfl) rfl
theorem q2329 : (Jvm.Cond.methodLink "LeekReadingsModel" (473 : Nat) ({ cls := "LeekReadingsModel", name := "takesBack", desc := "(I)V" } : Jvm.MethodName)) ∈ lw_all := lw_g (lw_at lw_m10 33 rfl) rfl
theorem q2330 : (Jvm.Cond.privateMethod ({ cls := "LeekReadingsModel", name := "takesBack", desc := "(I)V" } : Jvm.MethodName)) ∈ lw_tbl := lw_at lw_m10 34 rfl
theorem q2331 : (Jvm.Cond.instanceMethod ({ cls := "LeekReadingsModel", name := "takesBack", desc := "(I)V" } : Jvm.MethodName)) ∈ lw_all := lw_g (lw_at lw_m10 35 rfl) rfl
theorem q2332 : (Jvm.Cond.code ({ cls := "LeekReadingsModel", name := "takesBack", desc := "(I)V" } : Jvm.MethodName) prog_24_method_11_code (3 : Nat) (Option.none : Option Jvm.ClassFile.FieldType)) ∈ lw_all := lw_g (lw_at lw_m10 36 rfl) rfl
theorem q2334 : (Jvm.Cond.instanceMethod ({ cls := "LeekReadingsModel", name := "shows", desc := "(II)I" } : Jvm.MethodName)) ∈ lw_all := lw_g (lw_at lw_m10 38 rfl) rfl
theorem q2335 : (Jvm.Cond.selects "LeekReadingsModel" ({ cls := "LeekReadingsModel", name := "shows", desc := "(II)I" } : Jvm.MethodName) ({ cls := "LeekReadingsModel", name := "shows", desc := "(II)I" } : Jvm.MethodName)) ∈ lw_all := lw_g (lw_at lw_m10 39 rfl) rfl
theorem q2336 : (Jvm.Cond.code ({ cls := "LeekReadingsModel", name := "shows", desc := "(II)I" } : Jvm.MethodName) prog_24_method_137_code (5 : Nat) (Option.some Jvm.ClassFile.FieldType.int)) ∈ lw_all := lw_g (lw_at lw_m10 40 rfl) rfl
theorem q2337 : (Jvm.Cond.methodLink "LeekReadingsModel" (519 : Nat) ({ cls := "LeekReadingsModel", name := "showDay", desc := "()V" } : Jvm.MethodName)) ∈ lw_all := lw_g (lw_at lw_m10 41 rfl) rfl
theorem q2338 : (Jvm.Cond.privateMethod ({ cls := "LeekReadingsModel", name := "showDay", desc := "()V" } : Jvm.MethodName)) ∈ lw_tbl := lw_at lw_m10 42 rfl
theorem q2339 : (Jvm.Cond.instanceMethod ({ cls := "LeekReadingsModel", name := "showDay", desc := "()V" } : Jvm.MethodName)) ∈ lw_all := lw_g (lw_at lw_m10 43 rfl) rfl
theorem q2340 : (Jvm.Cond.code ({ cls := "LeekReadingsModel", name := "showDay", desc := "()V" } : Jvm.MethodName) prog_24_method_136_code (4 : Nat) (Option.none : Option Jvm.ClassFile.FieldType)) ∈ lw_all := lw_g (lw_at lw_m10 44 rfl) rfl
theorem q2341 : (Jvm.Cond.methodLink "LeekReadingsModel" (513 : Nat) ({ cls := "LeekReadingsModel", name := "draws", desc := "(I)I" } : Jvm.MethodName)) ∈ lw_all := lw_g (lw_at lw_m10 45 rfl) rfl
theorem q2342 : (Jvm.Cond.privateMethod ({ cls := "LeekReadingsModel", name := "draws", desc := "(I)I" } : Jvm.MethodName)) ∈ lw_tbl := lw_at lw_m10 46 rfl
theorem q2343 : (Jvm.Cond.instanceMethod ({ cls := "LeekReadingsModel", name := "draws", desc := "(I)I" } : Jvm.MethodName)) ∈ lw_all := lw_g (lw_at lw_m10 47 rfl) rfl
theorem q2344 : (Jvm.Cond.code ({ cls := "LeekReadingsModel", name := "draws", desc := "(I)I" } : Jvm.MethodName) prog_24_method_135_code (2 : Nat) (Option.some Jvm.ClassFile.FieldType.int)) ∈ lw_all := lw_g (lw_at lw_m10 48 rfl) rfl
theorem q2345 : (Jvm.Cond.constantLong "LeekReadingsModel" (504 : Nat) (1103 : Int64)) ∈ lw_all := lw_g (lw_at lw_m10 49 rfl) rfl
theorem q2346 : (Jvm.Cond.constantLong "LeekReadingsModel" (509 : Nat) (12345 : Int64)) ∈ lw_all := lw_g (lw_at lw_m10 50 rfl) rfl
theorem q2347 : (Jvm.Cond.constantLong "LeekReadingsModel" (511 : Nat) (1000003 : Int64)) ∈ lw_all := lw_g (lw_at lw_m10 51 rfl) rfl
theorem q2349 : (Jvm.Cond.instanceMethod ({ cls := "LeekReadingsModel", name := "drawn", desc := "(II)I" } : Jvm.MethodName)) ∈ lw_all := lw_g (lw_at lw_m10 53 rfl) rfl
theorem q2350 : (Jvm.Cond.selects "LeekReadingsModel" ({ cls := "LeekReadingsModel", name := "drawn", desc := "(II)I" } : Jvm.MethodName) ({ cls := "LeekReadingsModel", name := "drawn", desc := "(II)I" } : Jvm.MethodName)) ∈ lw_all := lw_g (lw_at lw_m10 54 rfl) rfl
theorem q2351 : (Jvm.Cond.code ({ cls := "LeekReadingsModel", name := "drawn", desc := "(II)I" } : Jvm.MethodName) prog_24_method_138_code (3 : Nat) (Option.some Jvm.ClassFile.FieldType.int)) ∈ lw_all := lw_g (lw_at lw_m10 55 rfl) rfl
theorem q2353 : (Jvm.Cond.instanceMethod ({ cls := "LeekReadingsModel", name := "count", desc := "(I)I" } : Jvm.MethodName)) ∈ lw_all := lw_g (lw_at lw_m10 57 rfl) rfl
theorem q2354 : (Jvm.Cond.selects "LeekReadingsModel" ({ cls := "LeekReadingsModel", name := "count", desc := "(I)I" } : Jvm.MethodName) ({ cls := "LeekReadingsModel", name := "count", desc := "(I)I" } : Jvm.MethodName)) ∈ lw_all := lw_g (lw_at lw_m10 58 rfl) rfl
theorem q2355 : (Jvm.Cond.code ({ cls := "LeekReadingsModel", name := "count", desc := "(I)I" } : Jvm.MethodName) prog_24_method_139_code (2 : Nat) (Option.some Jvm.ClassFile.FieldType.int)) ∈ lw_all := lw_g (lw_at lw_m10 59 rfl) rfl
theorem q2357 : (Jvm.Cond.instanceMethod ({ cls := "LeekReadingsModel", name := "status", desc := "()I" } : Jvm.MethodName)) ∈ lw_all := lw_g (lw_at lw_m10 61 rfl) rfl
theorem q2358 : (Jvm.Cond.selects "LeekReadingsModel" ({ cls := "LeekReadingsModel", name := "status", desc := "()I" } : Jvm.MethodName) ({ cls := "LeekReadingsModel", name := "status", desc := "()I" } : Jvm.MethodName)) ∈ lw_all := lw_g (lw_at lw_m10 62 rfl) rfl
theorem q2359 : (Jvm.Cond.code ({ cls := "LeekReadingsModel", name := "status", desc := "()I" } : Jvm.MethodName) prog_24_method_140_code (1 : Nat) (Option.some Jvm.ClassFile.FieldType.int)) ∈ lw_all := lw_g (lw_at lw_m10 63 rfl) rfl
theorem q2391 : (Jvm.Cond.castable "LeekReadingsModel" "java/lang/Object") ∈ lw_tbl := lw_at lw_m10 95 rfl
theorem in_X6 : ∀ w ∈ wsX60, w ∈ lw_all := lw_in wsX60 [1690, 1692, 1694, 1696, 1698, 1700, 1702, 1704, 1706, 1708, 1710, 1712, 1714, 1716, 1718, 1720, 1722, 1724, 1726, 1728, 1730, 1732, 1734, 1736, 1738, 1740, 1742, 1744, 1746, 1748, 1750, 1752, 1754, 1756, 1758, 1760, 1762, 1764, 1766, 1768, 1770, 1772, 1774, 1776, 1778, 1780, 1782, 1784, 1786, 1788, 1790, 1792, 1794, 1796, 1798, 1800] (by decide +kernel) (by decide +kernel)
