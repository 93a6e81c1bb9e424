/-! THE START: what the Statement gives, as the abstract machine has it -/
set_option maxRecDepth 100000
def am_byt : List (List Int32) := [[110, 111, 114, 116, 104], [115, 111, 117, 116, 104], [110, 101, 117, 116, 114, 97, 108], [115, 111, 112, 114, 97, 110, 111], [97, 108, 116, 111], [116, 101, 110, 111, 114], [98, 97, 115, 115], [100, 97, 121], [115, 117, 110, 103], [111, 119, 110], [111, 116, 104, 101, 114], [102, 97, 108, 108, 101, 110], [99, 97, 110], [115, 107, 105, 108, 108], [112, 97, 114, 116], [115, 105, 110, 103, 101, 114], [116, 111, 110, 101], [59, 40, 41, 43, 45, 42, 47, 60, 61], [112, 105, 101, 99, 101], [101, 118, 101, 114, 121], [116, 114, 117, 99, 101], [97, 105, 109], [110, 111, 116], [97, 110, 100], [111, 114]]
def am_tm (j : Nat) : Term := .string "ValleyMass$Reader" ((am_str.getD j (0, 0, "")).2.1)
def am_tv (j : Nat) : Term := .field (am_tm j) "java/lang/String" "value" "[B"
def am_sw (j : Nat) : List Cond := [.exactly (am_tm j) "java/lang/String", .eq (.field (am_tm j) "java/lang/String" "coder" "B") (.int 0), .arrayOf (am_tv j) .byte, .eq (.length (am_tv j)) (.int (Int32.ofNat (am_byt.getD j []).length))] ++ (List.range (am_byt.getD j []).length).map (fun q => .eq (.elem (am_tv j) (.int (Int32.ofNat q))) (.int ((am_byt.getD j []).getD q 0)))
def am_tD : Term := .static "java/util/ArrayList" "DEFAULTCAPACITY_EMPTY_ELEMENTDATA" "[Ljava/lang/Object;"
def am_tE : Term := .static "java/util/ArrayList" "EMPTY_ELEMENTDATA" "[Ljava/lang/Object;"
def am_tC : Term := .static "java/lang/Integer$IntegerCache" "cache" "[Ljava/lang/Integer;"
def am_nd0 : List Cond := [.arrayOf am_tD (.object "java/lang/Object"), .exactly am_tD "[Ljava/lang/Object;", .eq (.length am_tD) (.int 0), .isRef (.static "jdk/internal/util/Preconditions" "SIOOBE_FORMATTER" "Ljava/util/function/BiFunction;"),
  .arrayOf am_tE (.object "java/lang/Object"), .exactly am_tE "[Ljava/lang/Object;", .eq (.length am_tE) (.int 0), .not (.eq am_tD am_tE),
  .isRef (.static "java/lang/Throwable" "UNASSIGNED_STACK" "[Ljava/lang/StackTraceElement;"), .isRef (.static "java/lang/Throwable" "SUPPRESSED_SENTINEL" "Ljava/util/List;"), .eq (.static "java/lang/String" "COMPACT_STRINGS" "Z") (.int 1), .eq (.static "java/lang/Integer$IntegerCache" "high" "I") (.int 127),
  .arrayOf am_tC (.object "java/lang/Integer"), .eq (.length am_tC) (.int 256), .all am_tC (.and (.exactly (.elem am_tC (.index 0)) "java/lang/Integer") (.eq (.field (.elem am_tC (.index 0)) "java/lang/Integer" "value" "I") (.sub (.index 0) (.int 128)))),
  .not (.castable "java/lang/IllegalArgumentException" "java/util/NoSuchElementException"), .isRef (.mirror "[Ljava/lang/Object;"), .isRef (.mirror "java/util/ArrayList"), .not (.eq (.mirror "[Ljava/lang/Object;") (.mirror "java/util/ArrayList"))]
def am_nd1 : List Cond := (List.range 25).flatMap am_sw
def am_nd2 : List Cond := (List.range 25).map (fun j => .exactly (am_tv j) "[B")
theorem am_nd_ok : (am_nd0 ++ (am_nd1 ++ am_nd2)).isSublist (flatC (Jvm.Cond.and given_1 narrow_1)) = true := by decide +kernel

