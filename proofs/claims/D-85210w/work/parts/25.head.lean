/-! ===== classes, fields, the twin's layout ===== -/
theorem gk_X1 : gCk 0 RX1 TX1 32 := ⟨rfl, in_X1, tyX1_ok, nmX1⟩
theorem gd_X1 : (List.range 32).all (fun k => gtyok (gfty 0 k)) = true ∧ 32 < 2147483648 := ⟨by decide +kernel, by decide⟩
theorem fX1_0 : gFd 0 0 "SheetBranches" "tape" "[B" true (.array .byte) := ⟨RX1, TX1, 32, gk_X1, by decide, by decide +kernel, by decide +kernel⟩
theorem fX1_1 : gFd 0 1 "SheetBranches" "taped" "I" false .int := ⟨RX1, TX1, 32, gk_X1, by decide, by decide +kernel, by decide +kernel⟩
theorem fX1_2 : gFd 0 2 "SheetBranches" "faultKind" "I" false .int := ⟨RX1, TX1, 32, gk_X1, by decide, by decide +kernel, by decide +kernel⟩
theorem fX1_3 : gFd 0 3 "SheetBranches" "faultPlace" "I" false .int := ⟨RX1, TX1, 32, gk_X1, by decide, by decide +kernel, by decide +kernel⟩
theorem fX1_4 : gFd 0 4 "SheetBranches" "versions" "[LSheetBranches$Version;" true (.array (.object "SheetBranches$Version")) := ⟨RX1, TX1, 32, gk_X1, by decide, by decide +kernel, by decide +kernel⟩
theorem fX1_5 : gFd 0 5 "SheetBranches" "many" "I" false .int := ⟨RX1, TX1, 32, gk_X1, by decide, by decide +kernel, by decide +kernel⟩
theorem fX1_6 : gFd 0 6 "SheetBranches" "branches" "[I" true (.array .int) := ⟨RX1, TX1, 32, gk_X1, by decide, by decide +kernel, by decide +kernel⟩
theorem fX1_7 : gFd 0 7 "SheetBranches" "branch" "I" false .int := ⟨RX1, TX1, 32, gk_X1, by decide, by decide +kernel, by decide +kernel⟩
theorem fX1_8 : gFd 0 8 "SheetBranches" "work" "LSheetBranches$Sheet;" false (.object "SheetBranches$Sheet") := ⟨RX1, TX1, 32, gk_X1, by decide, by decide +kernel, by decide +kernel⟩
theorem fX1_9 : gFd 0 9 "SheetBranches" "values" "LSheetBranches$Values;" true (.object "SheetBranches$Values") := ⟨RX1, TX1, 32, gk_X1, by decide, by decide +kernel, by decide +kernel⟩
theorem fX1_10 : gFd 0 10 "SheetBranches" "isReckoned" "Z" false .boolean := ⟨RX1, TX1, 32, gk_X1, by decide, by decide +kernel, by decide +kernel⟩
theorem fX1_11 : gFd 0 11 "SheetBranches" "past" "[LSheetBranches$Sheet;" true (.array (.object "SheetBranches$Sheet")) := ⟨RX1, TX1, 32, gk_X1, by decide, by decide +kernel, by decide +kernel⟩
theorem fX1_12 : gFd 0 12 "SheetBranches" "future" "[LSheetBranches$Sheet;" true (.array (.object "SheetBranches$Sheet")) := ⟨RX1, TX1, 32, gk_X1, by decide, by decide +kernel, by decide +kernel⟩
theorem fX1_13 : gFd 0 13 "SheetBranches" "passed" "I" false .int := ⟨RX1, TX1, 32, gk_X1, by decide, by decide +kernel, by decide +kernel⟩
theorem fX1_14 : gFd 0 14 "SheetBranches" "undone" "I" false .int := ⟨RX1, TX1, 32, gk_X1, by decide, by decide +kernel, by decide +kernel⟩
theorem fX1_15 : gFd 0 15 "SheetBranches" "merging" "I" false .int := ⟨RX1, TX1, 32, gk_X1, by decide, by decide +kernel, by decide +kernel⟩
theorem fX1_16 : gFd 0 16 "SheetBranches" "merges" "I" false .int := ⟨RX1, TX1, 32, gk_X1, by decide, by decide +kernel, by decide +kernel⟩
theorem fX1_17 : gFd 0 17 "SheetBranches" "parts" "I" false .int := ⟨RX1, TX1, 32, gk_X1, by decide, by decide +kernel, by decide +kernel⟩
theorem fX1_18 : gFd 0 18 "SheetBranches" "conflicts" "[LSheetBranches$Conflict;" false (.array (.object "SheetBranches$Conflict")) := ⟨RX1, TX1, 32, gk_X1, by decide, by decide +kernel, by decide +kernel⟩
theorem fX1_19 : gFd 0 19 "SheetBranches" "settled" "[Z" false (.array .boolean) := ⟨RX1, TX1, 32, gk_X1, by decide, by decide +kernel, by decide +kernel⟩
theorem fX1_20 : gFd 0 20 "SheetBranches" "conflicted" "I" false .int := ⟨RX1, TX1, 32, gk_X1, by decide, by decide +kernel, by decide +kernel⟩
theorem fX1_21 : gFd 0 21 "SheetBranches" "nextRow" "I" false .int := ⟨RX1, TX1, 32, gk_X1, by decide, by decide +kernel, by decide +kernel⟩
theorem fX1_22 : gFd 0 22 "SheetBranches" "nextColumn" "I" false .int := ⟨RX1, TX1, 32, gk_X1, by decide, by decide +kernel, by decide +kernel⟩
theorem fX1_23 : gFd 0 23 "SheetBranches" "works" "LSheetBranches$Works;" true (.object "SheetBranches$Works") := ⟨RX1, TX1, 32, gk_X1, by decide, by decide +kernel, by decide +kernel⟩
theorem fX1_24 : gFd 0 24 "SheetBranches" "reader" "LSheetBranches$Reader;" true (.object "SheetBranches$Reader") := ⟨RX1, TX1, 32, gk_X1, by decide, by decide +kernel, by decide +kernel⟩
theorem fX1_25 : gFd 0 25 "SheetBranches" "pen" "LSheetBranches$Pen;" true (.object "SheetBranches$Pen") := ⟨RX1, TX1, 32, gk_X1, by decide, by decide +kernel, by decide +kernel⟩
theorem fX1_26 : gFd 0 26 "SheetBranches" "unlike" "[I" true (.array .int) := ⟨RX1, TX1, 32, gk_X1, by decide, by decide +kernel, by decide +kernel⟩
theorem fX1_27 : gFd 0 27 "SheetBranches" "unlikeRow" "[I" true (.array .int) := ⟨RX1, TX1, 32, gk_X1, by decide, by decide +kernel, by decide +kernel⟩
theorem fX1_28 : gFd 0 28 "SheetBranches" "unlikeColumn" "[I" true (.array .int) := ⟨RX1, TX1, 32, gk_X1, by decide, by decide +kernel, by decide +kernel⟩
theorem fX1_29 : gFd 0 29 "SheetBranches" "differences" "I" false .int := ⟨RX1, TX1, 32, gk_X1, by decide, by decide +kernel, by decide +kernel⟩
theorem fX1_30 : gFd 0 30 "SheetBranches" "one" "LSheetBranches$Worth;" true (.object "SheetBranches$Worth") := ⟨RX1, TX1, 32, gk_X1, by decide, by decide +kernel, by decide +kernel⟩
theorem fX1_31 : gFd 0 31 "SheetBranches" "two" "LSheetBranches$Worth;" true (.object "SheetBranches$Worth") := ⟨RX1, TX1, 32, gk_X1, by decide, by decide +kernel, by decide +kernel⟩
theorem gk_X2 : gCk 1 RX2 TX2 4 := ⟨rfl, in_X2, tyX2_ok, nmX2⟩
theorem gd_X2 : (List.range 4).all (fun k => gtyok (gfty 1 k)) = true ∧ 4 < 2147483648 := ⟨by decide +kernel, by decide⟩
theorem fX2_0 : gFd 1 0 "SheetBranches$Values" "kinds" "[B" true (.array .byte) := ⟨RX2, TX2, 4, gk_X2, by decide, by decide +kernel, by decide +kernel⟩
theorem fX2_1 : gFd 1 1 "SheetBranches$Values" "sizes" "[B" true (.array .byte) := ⟨RX2, TX2, 4, gk_X2, by decide, by decide +kernel, by decide +kernel⟩
theorem fX2_2 : gFd 1 2 "SheetBranches$Values" "texts" "[B" true (.array .byte) := ⟨RX2, TX2, 4, gk_X2, by decide, by decide +kernel, by decide +kernel⟩
theorem fX2_3 : gFd 1 3 "SheetBranches$Values" "numbers" "[J" true (.array .long) := ⟨RX2, TX2, 4, gk_X2, by decide, by decide +kernel, by decide +kernel⟩
theorem gk_X3 : gCk 2 RX3 TX3 19 := ⟨rfl, in_X3, tyX3_ok, nmX3⟩
theorem gd_X3 : (List.range 19).all (fun k => gtyok (gfty 2 k)) = true ∧ 19 < 2147483648 := ⟨by decide +kernel, by decide⟩
theorem fX3_0 : gFd 2 0 "SheetBranches$Works" "versions" "[LSheetBranches$Version;" true (.array (.object "SheetBranches$Version")) := ⟨RX3, TX3, 19, gk_X3, by decide, by decide +kernel, by decide +kernel⟩
theorem fX3_1 : gFd 2 1 "SheetBranches$Works" "links" "LSheetBranches$Links;" true (.object "SheetBranches$Links") := ⟨RX3, TX3, 19, gk_X3, by decide, by decide +kernel, by decide +kernel⟩
theorem fX3_2 : gFd 2 2 "SheetBranches$Works" "pool" "[LSheetBranches$Worth;" true (.array (.object "SheetBranches$Worth")) := ⟨RX3, TX3, 19, gk_X3, by decide, by decide +kernel, by decide +kernel⟩
theorem fX3_3 : gFd 2 3 "SheetBranches$Works" "used" "I" false .int := ⟨RX3, TX3, 19, gk_X3, by decide, by decide +kernel, by decide +kernel⟩
theorem fX3_4 : gFd 2 4 "SheetBranches$Works" "cell" "LSheetBranches$Worth;" true (.object "SheetBranches$Worth") := ⟨RX3, TX3, 19, gk_X3, by decide, by decide +kernel, by decide +kernel⟩
theorem fX3_5 : gFd 2 5 "SheetBranches$Works" "result" "LSheetBranches$Worth;" true (.object "SheetBranches$Worth") := ⟨RX3, TX3, 19, gk_X3, by decide, by decide +kernel, by decide +kernel⟩
theorem fX3_6 : gFd 2 6 "SheetBranches$Works" "sheet" "LSheetBranches$Sheet;" false (.object "SheetBranches$Sheet") := ⟨RX3, TX3, 19, gk_X3, by decide, by decide +kernel, by decide +kernel⟩
theorem fX3_7 : gFd 2 7 "SheetBranches$Works" "values" "LSheetBranches$Values;" false (.object "SheetBranches$Values") := ⟨RX3, TX3, 19, gk_X3, by decide, by decide +kernel, by decide +kernel⟩
theorem fX3_8 : gFd 2 8 "SheetBranches$Works" "over" "LSheetBranches$Values;" false (.object "SheetBranches$Values") := ⟨RX3, TX3, 19, gk_X3, by decide, by decide +kernel, by decide +kernel⟩
theorem fX3_9 : gFd 2 9 "SheetBranches$Works" "top" "I" false .int := ⟨RX3, TX3, 19, gk_X3, by decide, by decide +kernel, by decide +kernel⟩
theorem fX3_10 : gFd 2 10 "SheetBranches$Works" "left" "I" false .int := ⟨RX3, TX3, 19, gk_X3, by decide, by decide +kernel, by decide +kernel⟩
theorem fX3_11 : gFd 2 11 "SheetBranches$Works" "bottom" "I" false .int := ⟨RX3, TX3, 19, gk_X3, by decide, by decide +kernel, by decide +kernel⟩
theorem fX3_12 : gFd 2 12 "SheetBranches$Works" "right" "I" false .int := ⟨RX3, TX3, 19, gk_X3, by decide, by decide +kernel, by decide +kernel⟩
theorem fX3_13 : gFd 2 13 "SheetBranches$Works" "row" "I" false .int := ⟨RX3, TX3, 19, gk_X3, by decide, by decide +kernel, by decide +kernel⟩
theorem fX3_14 : gFd 2 14 "SheetBranches$Works" "column" "I" false .int := ⟨RX3, TX3, 19, gk_X3, by decide, by decide +kernel, by decide +kernel⟩
theorem fX3_15 : gFd 2 15 "SheetBranches$Works" "sum" "J" false .long := ⟨RX3, TX3, 19, gk_X3, by decide, by decide +kernel, by decide +kernel⟩
theorem fX3_16 : gFd 2 16 "SheetBranches$Works" "least" "J" false .long := ⟨RX3, TX3, 19, gk_X3, by decide, by decide +kernel, by decide +kernel⟩
theorem fX3_17 : gFd 2 17 "SheetBranches$Works" "most" "J" false .long := ⟨RX3, TX3, 19, gk_X3, by decide, by decide +kernel, by decide +kernel⟩
theorem fX3_18 : gFd 2 18 "SheetBranches$Works" "many" "I" false .int := ⟨RX3, TX3, 19, gk_X3, by decide, by decide +kernel, by decide +kernel⟩
theorem gk_X4 : gCk 3 RX4 TX4 13 := ⟨rfl, in_X4, tyX4_ok, nmX4⟩
theorem gd_X4 : (List.range 13).all (fun k => gtyok (gfty 3 k)) = true ∧ 13 < 2147483648 := ⟨by decide +kernel, by decide⟩
theorem fX4_0 : gFd 3 0 "SheetBranches$Links" "bits" "[J" true (.array .long) := ⟨RX4, TX4, 13, gk_X4, by decide, by decide +kernel, by decide +kernel⟩
theorem fX4_1 : gFd 3 1 "SheetBranches$Links" "order" "[I" true (.array .int) := ⟨RX4, TX4, 13, gk_X4, by decide, by decide +kernel, by decide +kernel⟩
theorem fX4_2 : gFd 3 2 "SheetBranches$Links" "number" "[I" true (.array .int) := ⟨RX4, TX4, 13, gk_X4, by decide, by decide +kernel, by decide +kernel⟩
theorem fX4_3 : gFd 3 3 "SheetBranches$Links" "low" "[I" true (.array .int) := ⟨RX4, TX4, 13, gk_X4, by decide, by decide +kernel, by decide +kernel⟩
theorem fX4_4 : gFd 3 4 "SheetBranches$Links" "next" "[I" true (.array .int) := ⟨RX4, TX4, 13, gk_X4, by decide, by decide +kernel, by decide +kernel⟩
theorem fX4_5 : gFd 3 5 "SheetBranches$Links" "path" "[I" true (.array .int) := ⟨RX4, TX4, 13, gk_X4, by decide, by decide +kernel, by decide +kernel⟩
theorem fX4_6 : gFd 3 6 "SheetBranches$Links" "open" "[I" true (.array .int) := ⟨RX4, TX4, 13, gk_X4, by decide, by decide +kernel, by decide +kernel⟩
theorem fX4_7 : gFd 3 7 "SheetBranches$Links" "isOpen" "[Z" true (.array .boolean) := ⟨RX4, TX4, 13, gk_X4, by decide, by decide +kernel, by decide +kernel⟩
theorem fX4_8 : gFd 3 8 "SheetBranches$Links" "isCircle" "[Z" true (.array .boolean) := ⟨RX4, TX4, 13, gk_X4, by decide, by decide +kernel, by decide +kernel⟩
theorem fX4_9 : gFd 3 9 "SheetBranches$Links" "from" "I" false .int := ⟨RX4, TX4, 13, gk_X4, by decide, by decide +kernel, by decide +kernel⟩
theorem fX4_10 : gFd 3 10 "SheetBranches$Links" "many" "I" false .int := ⟨RX4, TX4, 13, gk_X4, by decide, by decide +kernel, by decide +kernel⟩
theorem fX4_11 : gFd 3 11 "SheetBranches$Links" "met" "I" false .int := ⟨RX4, TX4, 13, gk_X4, by decide, by decide +kernel, by decide +kernel⟩
theorem fX4_12 : gFd 3 12 "SheetBranches$Links" "opened" "I" false .int := ⟨RX4, TX4, 13, gk_X4, by decide, by decide +kernel, by decide +kernel⟩
theorem gk_X5 : gCk 4 RX5 TX5 4 := ⟨rfl, in_X5, tyX5_ok, nmX5⟩
theorem gd_X5 : (List.range 4).all (fun k => gtyok (gfty 4 k)) = true ∧ 4 < 2147483648 := ⟨by decide +kernel, by decide⟩
theorem fX5_0 : gFd 4 0 "SheetBranches$Worth" "kind" "I" false .int := ⟨RX5, TX5, 4, gk_X5, by decide, by decide +kernel, by decide +kernel⟩
theorem fX5_1 : gFd 4 1 "SheetBranches$Worth" "size" "I" false .int := ⟨RX5, TX5, 4, gk_X5, by decide, by decide +kernel, by decide +kernel⟩
theorem fX5_2 : gFd 4 2 "SheetBranches$Worth" "number" "J" false .long := ⟨RX5, TX5, 4, gk_X5, by decide, by decide +kernel, by decide +kernel⟩
theorem fX5_3 : gFd 4 3 "SheetBranches$Worth" "text" "[B" true (.array .byte) := ⟨RX5, TX5, 4, gk_X5, by decide, by decide +kernel, by decide +kernel⟩
theorem gk_X6 : gCk 5 RX6 TX6 17 := ⟨rfl, in_X6, tyX6_ok, nmX6⟩
theorem gd_X6 : (List.range 17).all (fun k => gtyok (gfty 5 k)) = true ∧ 17 < 2147483648 := ⟨by decide +kernel, by decide⟩
theorem fX6_0 : gFd 5 0 "SheetBranches$Reader" "versions" "[LSheetBranches$Version;" true (.array (.object "SheetBranches$Version")) := ⟨RX6, TX6, 17, gk_X6, by decide, by decide +kernel, by decide +kernel⟩
theorem fX6_1 : gFd 5 1 "SheetBranches$Reader" "known" "I" false .int := ⟨RX6, TX6, 17, gk_X6, by decide, by decide +kernel, by decide +kernel⟩
theorem fX6_2 : gFd 5 2 "SheetBranches$Reader" "work" "LSheetBranches$Sheet;" false (.object "SheetBranches$Sheet") := ⟨RX6, TX6, 17, gk_X6, by decide, by decide +kernel, by decide +kernel⟩
theorem fX6_3 : gFd 5 3 "SheetBranches$Reader" "text" "[B" false (.array .byte) := ⟨RX6, TX6, 17, gk_X6, by decide, by decide +kernel, by decide +kernel⟩
theorem fX6_4 : gFd 5 4 "SheetBranches$Reader" "all" "I" false .int := ⟨RX6, TX6, 17, gk_X6, by decide, by decide +kernel, by decide +kernel⟩
theorem fX6_5 : gFd 5 5 "SheetBranches$Reader" "end" "I" false .int := ⟨RX6, TX6, 17, gk_X6, by decide, by decide +kernel, by decide +kernel⟩
theorem fX6_6 : gFd 5 6 "SheetBranches$Reader" "at" "I" false .int := ⟨RX6, TX6, 17, gk_X6, by decide, by decide +kernel, by decide +kernel⟩
theorem fX6_7 : gFd 5 7 "SheetBranches$Reader" "open" "I" false .int := ⟨RX6, TX6, 17, gk_X6, by decide, by decide +kernel, by decide +kernel⟩
theorem fX6_8 : gFd 5 8 "SheetBranches$Reader" "parts" "I" false .int := ⟨RX6, TX6, 17, gk_X6, by decide, by decide +kernel, by decide +kernel⟩
theorem fX6_9 : gFd 5 9 "SheetBranches$Reader" "pile" "[LSheetBranches$Part;" true (.array (.object "SheetBranches$Part")) := ⟨RX6, TX6, 17, gk_X6, by decide, by decide +kernel, by decide +kernel⟩
theorem fX6_10 : gFd 5 10 "SheetBranches$Reader" "names" "[LSheetBranches$Name;" true (.array (.object "SheetBranches$Name")) := ⟨RX6, TX6, 17, gk_X6, by decide, by decide +kernel, by decide +kernel⟩
theorem fX6_11 : gFd 5 11 "SheetBranches$Reader" "piled" "I" false .int := ⟨RX6, TX6, 17, gk_X6, by decide, by decide +kernel, by decide +kernel⟩
theorem fX6_12 : gFd 5 12 "SheetBranches$Reader" "kind" "I" false .int := ⟨RX6, TX6, 17, gk_X6, by decide, by decide +kernel, by decide +kernel⟩
theorem fX6_13 : gFd 5 13 "SheetBranches$Reader" "place" "I" false .int := ⟨RX6, TX6, 17, gk_X6, by decide, by decide +kernel, by decide +kernel⟩
theorem fX6_14 : gFd 5 14 "SheetBranches$Reader" "lateKind" "I" false .int := ⟨RX6, TX6, 17, gk_X6, by decide, by decide +kernel, by decide +kernel⟩
theorem fX6_15 : gFd 5 15 "SheetBranches$Reader" "latePlace" "I" false .int := ⟨RX6, TX6, 17, gk_X6, by decide, by decide +kernel, by decide +kernel⟩
theorem fX6_16 : gFd 5 16 "SheetBranches$Reader" "content" "LSheetBranches$Content;" false (.object "SheetBranches$Content") := ⟨RX6, TX6, 17, gk_X6, by decide, by decide +kernel, by decide +kernel⟩
theorem gk_X8 : gCk 6 RX8 TX8 4 := ⟨rfl, in_X8, tyX8_ok, nmX8⟩
theorem gd_X8 : (List.range 4).all (fun k => gtyok (gfty 6 k)) = true ∧ 4 < 2147483648 := ⟨by decide +kernel, by decide⟩
theorem fX8_0 : gFd 6 0 "SheetBranches$Pen" "bytes" "[B" true (.array .byte) := ⟨RX8, TX8, 4, gk_X8, by decide, by decide +kernel, by decide +kernel⟩
theorem fX8_1 : gFd 6 1 "SheetBranches$Pen" "size" "I" false .int := ⟨RX8, TX8, 4, gk_X8, by decide, by decide +kernel, by decide +kernel⟩
theorem fX8_2 : gFd 6 2 "SheetBranches$Pen" "formula" "Z" false .boolean := ⟨RX8, TX8, 4, gk_X8, by decide, by decide +kernel, by decide +kernel⟩
theorem fX8_3 : gFd 6 3 "SheetBranches$Pen" "versions" "[LSheetBranches$Version;" true (.array (.object "SheetBranches$Version")) := ⟨RX8, TX8, 4, gk_X8, by decide, by decide +kernel, by decide +kernel⟩
theorem gk_X9 : gCk 7 RX9 TX9 3 := ⟨rfl, in_X9, tyX9_ok, nmX9⟩
theorem gd_X9 : (List.range 3).all (fun k => gtyok (gfty 7 k)) = true ∧ 3 < 2147483648 := ⟨by decide +kernel, by decide⟩
theorem fX9_0 : gFd 7 0 "SheetBranches$Sheet" "rows" "[I" false (.array .int) := ⟨RX9, TX9, 3, gk_X9, by decide, by decide +kernel, by decide +kernel⟩
theorem fX9_1 : gFd 7 1 "SheetBranches$Sheet" "columns" "[I" false (.array .int) := ⟨RX9, TX9, 3, gk_X9, by decide, by decide +kernel, by decide +kernel⟩
theorem fX9_2 : gFd 7 2 "SheetBranches$Sheet" "cells" "[[LSheetBranches$Content;" false (.array (.array (.object "SheetBranches$Content"))) := ⟨RX9, TX9, 3, gk_X9, by decide, by decide +kernel, by decide +kernel⟩
theorem gk_X10 : gCk 8 RX10 TX10 5 := ⟨rfl, in_X10, tyX10_ok, nmX10⟩
theorem gd_X10 : (List.range 5).all (fun k => gtyok (gfty 8 k)) = true ∧ 5 < 2147483648 := ⟨by decide +kernel, by decide⟩
theorem fX10_0 : gFd 8 0 "SheetBranches$Version" "sheet" "LSheetBranches$Sheet;" true (.object "SheetBranches$Sheet") := ⟨RX10, TX10, 5, gk_X10, by decide, by decide +kernel, by decide +kernel⟩
theorem fX10_1 : gFd 8 1 "SheetBranches$Version" "values" "LSheetBranches$Values;" true (.object "SheetBranches$Values") := ⟨RX10, TX10, 5, gk_X10, by decide, by decide +kernel, by decide +kernel⟩
theorem fX10_2 : gFd 8 2 "SheetBranches$Version" "parent" "I" true .int := ⟨RX10, TX10, 5, gk_X10, by decide, by decide +kernel, by decide +kernel⟩
theorem fX10_3 : gFd 8 3 "SheetBranches$Version" "other" "I" true .int := ⟨RX10, TX10, 5, gk_X10, by decide, by decide +kernel, by decide +kernel⟩
theorem fX10_4 : gFd 8 4 "SheetBranches$Version" "ancestors" "J" true .long := ⟨RX10, TX10, 5, gk_X10, by decide, by decide +kernel, by decide +kernel⟩
theorem gk_X11 : gCk 9 RX11 TX11 105 := ⟨rfl, in_X11, tyX11_ok, nmX11⟩
theorem gd_X11 : (List.range 105).all (fun k => gtyok (gfty 9 k)) = true ∧ 105 < 2147483648 := ⟨by decide +kernel, by decide⟩
theorem fX11_0 : gFd 9 0 "SheetBranchesModel" "thrown" "I" false .int := ⟨RX11, TX11, 105, gk_X11, by decide, by decide +kernel, by decide +kernel⟩
theorem fX11_1 : gFd 9 1 "SheetBranchesModel" "rowsOf" "[I" true (.array .int) := ⟨RX11, TX11, 105, gk_X11, by decide, by decide +kernel, by decide +kernel⟩
theorem fX11_2 : gFd 9 2 "SheetBranchesModel" "colsOf" "[I" true (.array .int) := ⟨RX11, TX11, 105, gk_X11, by decide, by decide +kernel, by decide +kernel⟩
theorem fX11_3 : gFd 9 3 "SheetBranchesModel" "rowIds" "[I" true (.array .int) := ⟨RX11, TX11, 105, gk_X11, by decide, by decide +kernel, by decide +kernel⟩
theorem fX11_4 : gFd 9 4 "SheetBranchesModel" "colIds" "[I" true (.array .int) := ⟨RX11, TX11, 105, gk_X11, by decide, by decide +kernel, by decide +kernel⟩
theorem fX11_5 : gFd 9 5 "SheetBranchesModel" "cells" "[I" true (.array .int) := ⟨RX11, TX11, 105, gk_X11, by decide, by decide +kernel, by decide +kernel⟩
theorem fX11_6 : gFd 9 6 "SheetBranchesModel" "newRow" "I" false .int := ⟨RX11, TX11, 105, gk_X11, by decide, by decide +kernel, by decide +kernel⟩
theorem fX11_7 : gFd 9 7 "SheetBranchesModel" "newCol" "I" false .int := ⟨RX11, TX11, 105, gk_X11, by decide, by decide +kernel, by decide +kernel⟩
theorem fX11_8 : gFd 9 8 "SheetBranchesModel" "versions" "I" false .int := ⟨RX11, TX11, 105, gk_X11, by decide, by decide +kernel, by decide +kernel⟩
theorem fX11_9 : gFd 9 9 "SheetBranchesModel" "parent" "[I" true (.array .int) := ⟨RX11, TX11, 105, gk_X11, by decide, by decide +kernel, by decide +kernel⟩
theorem fX11_10 : gFd 9 10 "SheetBranchesModel" "otherParent" "[I" true (.array .int) := ⟨RX11, TX11, 105, gk_X11, by decide, by decide +kernel, by decide +kernel⟩
theorem fX11_11 : gFd 9 11 "SheetBranchesModel" "branchAt" "[I" true (.array .int) := ⟨RX11, TX11, 105, gk_X11, by decide, by decide +kernel, by decide +kernel⟩
theorem fX11_12 : gFd 9 12 "SheetBranchesModel" "here" "I" false .int := ⟨RX11, TX11, 105, gk_X11, by decide, by decide +kernel, by decide +kernel⟩
theorem fX11_13 : gFd 9 13 "SheetBranchesModel" "merging" "I" false .int := ⟨RX11, TX11, 105, gk_X11, by decide, by decide +kernel, by decide +kernel⟩
theorem fX11_14 : gFd 9 14 "SheetBranchesModel" "merges" "I" false .int := ⟨RX11, TX11, 105, gk_X11, by decide, by decide +kernel, by decide +kernel⟩
theorem fX11_15 : gFd 9 15 "SheetBranchesModel" "firstStep" "I" false .int := ⟨RX11, TX11, 105, gk_X11, by decide, by decide +kernel, by decide +kernel⟩
theorem fX11_16 : gFd 9 16 "SheetBranchesModel" "undos" "I" false .int := ⟨RX11, TX11, 105, gk_X11, by decide, by decide +kernel, by decide +kernel⟩
theorem fX11_17 : gFd 9 17 "SheetBranchesModel" "redos" "I" false .int := ⟨RX11, TX11, 105, gk_X11, by decide, by decide +kernel, by decide +kernel⟩
theorem fX11_18 : gFd 9 18 "SheetBranchesModel" "letters" "[B" true (.array .byte) := ⟨RX11, TX11, 105, gk_X11, by decide, by decide +kernel, by decide +kernel⟩
theorem fX11_19 : gFd 9 19 "SheetBranchesModel" "lettersUsed" "I" false .int := ⟨RX11, TX11, 105, gk_X11, by decide, by decide +kernel, by decide +kernel⟩
theorem fX11_20 : gFd 9 20 "SheetBranchesModel" "plainKind" "[I" true (.array .int) := ⟨RX11, TX11, 105, gk_X11, by decide, by decide +kernel, by decide +kernel⟩
theorem fX11_21 : gFd 9 21 "SheetBranchesModel" "plainNumber" "[J" true (.array .long) := ⟨RX11, TX11, 105, gk_X11, by decide, by decide +kernel, by decide +kernel⟩
theorem fX11_22 : gFd 9 22 "SheetBranchesModel" "plainAt" "[I" true (.array .int) := ⟨RX11, TX11, 105, gk_X11, by decide, by decide +kernel, by decide +kernel⟩
theorem fX11_23 : gFd 9 23 "SheetBranchesModel" "plainLong" "[I" true (.array .int) := ⟨RX11, TX11, 105, gk_X11, by decide, by decide +kernel, by decide +kernel⟩
theorem fX11_24 : gFd 9 24 "SheetBranchesModel" "plains" "I" false .int := ⟨RX11, TX11, 105, gk_X11, by decide, by decide +kernel, by decide +kernel⟩
theorem fX11_25 : gFd 9 25 "SheetBranchesModel" "made" "I" false .int := ⟨RX11, TX11, 105, gk_X11, by decide, by decide +kernel, by decide +kernel⟩
theorem fX11_26 : gFd 9 26 "SheetBranchesModel" "partKind" "[I" true (.array .int) := ⟨RX11, TX11, 105, gk_X11, by decide, by decide +kernel, by decide +kernel⟩
theorem fX11_27 : gFd 9 27 "SheetBranchesModel" "partArgs" "[I" true (.array .int) := ⟨RX11, TX11, 105, gk_X11, by decide, by decide +kernel, by decide +kernel⟩
theorem fX11_28 : gFd 9 28 "SheetBranchesModel" "partSpan" "[I" true (.array .int) := ⟨RX11, TX11, 105, gk_X11, by decide, by decide +kernel, by decide +kernel⟩
theorem fX11_29 : gFd 9 29 "SheetBranchesModel" "partNumber" "[J" true (.array .long) := ⟨RX11, TX11, 105, gk_X11, by decide, by decide +kernel, by decide +kernel⟩
theorem fX11_30 : gFd 9 30 "SheetBranchesModel" "partAt" "[I" true (.array .int) := ⟨RX11, TX11, 105, gk_X11, by decide, by decide +kernel, by decide +kernel⟩
theorem fX11_31 : gFd 9 31 "SheetBranchesModel" "partLong" "[I" true (.array .int) := ⟨RX11, TX11, 105, gk_X11, by decide, by decide +kernel, by decide +kernel⟩
theorem fX11_32 : gFd 9 32 "SheetBranchesModel" "rowOne" "[I" true (.array .int) := ⟨RX11, TX11, 105, gk_X11, by decide, by decide +kernel, by decide +kernel⟩
theorem fX11_33 : gFd 9 33 "SheetBranchesModel" "colOne" "[I" true (.array .int) := ⟨RX11, TX11, 105, gk_X11, by decide, by decide +kernel, by decide +kernel⟩
theorem fX11_34 : gFd 9 34 "SheetBranchesModel" "rowTwo" "[I" true (.array .int) := ⟨RX11, TX11, 105, gk_X11, by decide, by decide +kernel, by decide +kernel⟩
theorem fX11_35 : gFd 9 35 "SheetBranchesModel" "colTwo" "[I" true (.array .int) := ⟨RX11, TX11, 105, gk_X11, by decide, by decide +kernel, by decide +kernel⟩
theorem fX11_36 : gFd 9 36 "SheetBranchesModel" "partFixed" "[I" true (.array .int) := ⟨RX11, TX11, 105, gk_X11, by decide, by decide +kernel, by decide +kernel⟩
theorem fX11_37 : gFd 9 37 "SheetBranchesModel" "partVersion" "[I" true (.array .int) := ⟨RX11, TX11, 105, gk_X11, by decide, by decide +kernel, by decide +kernel⟩
theorem fX11_38 : gFd 9 38 "SheetBranchesModel" "formulaSize" "[I" true (.array .int) := ⟨RX11, TX11, 105, gk_X11, by decide, by decide +kernel, by decide +kernel⟩
theorem fX11_39 : gFd 9 39 "SheetBranchesModel" "tape" "[I" true (.array .int) := ⟨RX11, TX11, 105, gk_X11, by decide, by decide +kernel, by decide +kernel⟩
theorem fX11_40 : gFd 9 40 "SheetBranchesModel" "taped" "I" false .int := ⟨RX11, TX11, 105, gk_X11, by decide, by decide +kernel, by decide +kernel⟩
theorem fX11_41 : gFd 9 41 "SheetBranchesModel" "faultKind" "I" false .int := ⟨RX11, TX11, 105, gk_X11, by decide, by decide +kernel, by decide +kernel⟩
theorem fX11_42 : gFd 9 42 "SheetBranchesModel" "faultPlace" "I" false .int := ⟨RX11, TX11, 105, gk_X11, by decide, by decide +kernel, by decide +kernel⟩
theorem fX11_43 : gFd 9 43 "SheetBranchesModel" "textFrom" "I" false .int := ⟨RX11, TX11, 105, gk_X11, by decide, by decide +kernel, by decide +kernel⟩
theorem fX11_44 : gFd 9 44 "SheetBranchesModel" "textTo" "I" false .int := ⟨RX11, TX11, 105, gk_X11, by decide, by decide +kernel, by decide +kernel⟩
theorem fX11_45 : gFd 9 45 "SheetBranchesModel" "textAll" "I" false .int := ⟨RX11, TX11, 105, gk_X11, by decide, by decide +kernel, by decide +kernel⟩
theorem fX11_46 : gFd 9 46 "SheetBranchesModel" "pos" "I" false .int := ⟨RX11, TX11, 105, gk_X11, by decide, by decide +kernel, by decide +kernel⟩
theorem fX11_47 : gFd 9 47 "SheetBranchesModel" "token" "I" false .int := ⟨RX11, TX11, 105, gk_X11, by decide, by decide +kernel, by decide +kernel⟩
theorem fX11_48 : gFd 9 48 "SheetBranchesModel" "tokenAt" "I" false .int := ⟨RX11, TX11, 105, gk_X11, by decide, by decide +kernel, by decide +kernel⟩
theorem fX11_49 : gFd 9 49 "SheetBranchesModel" "tokenEnd" "I" false .int := ⟨RX11, TX11, 105, gk_X11, by decide, by decide +kernel, by decide +kernel⟩
theorem fX11_50 : gFd 9 50 "SheetBranchesModel" "tokenSign" "I" false .int := ⟨RX11, TX11, 105, gk_X11, by decide, by decide +kernel, by decide +kernel⟩
theorem fX11_51 : gFd 9 51 "SheetBranchesModel" "tokenWrong" "I" false .int := ⟨RX11, TX11, 105, gk_X11, by decide, by decide +kernel, by decide +kernel⟩
theorem fX11_52 : gFd 9 52 "SheetBranchesModel" "cornerRow" "I" false .int := ⟨RX11, TX11, 105, gk_X11, by decide, by decide +kernel, by decide +kernel⟩
theorem fX11_53 : gFd 9 53 "SheetBranchesModel" "cornerCol" "I" false .int := ⟨RX11, TX11, 105, gk_X11, by decide, by decide +kernel, by decide +kernel⟩
theorem fX11_54 : gFd 9 54 "SheetBranchesModel" "cornerFixed" "I" false .int := ⟨RX11, TX11, 105, gk_X11, by decide, by decide +kernel, by decide +kernel⟩
theorem fX11_55 : gFd 9 55 "SheetBranchesModel" "cornerEnd" "I" false .int := ⟨RX11, TX11, 105, gk_X11, by decide, by decide +kernel, by decide +kernel⟩
theorem fX11_56 : gFd 9 56 "SheetBranchesModel" "parts" "I" false .int := ⟨RX11, TX11, 105, gk_X11, by decide, by decide +kernel, by decide +kernel⟩
theorem fX11_57 : gFd 9 57 "SheetBranchesModel" "open" "I" false .int := ⟨RX11, TX11, 105, gk_X11, by decide, by decide +kernel, by decide +kernel⟩
theorem fX11_58 : gFd 9 58 "SheetBranchesModel" "laterKind" "I" false .int := ⟨RX11, TX11, 105, gk_X11, by decide, by decide +kernel, by decide +kernel⟩
theorem fX11_59 : gFd 9 59 "SheetBranchesModel" "laterPlace" "I" false .int := ⟨RX11, TX11, 105, gk_X11, by decide, by decide +kernel, by decide +kernel⟩
theorem fX11_60 : gFd 9 60 "SheetBranchesModel" "cellKind" "[I" true (.array .int) := ⟨RX11, TX11, 105, gk_X11, by decide, by decide +kernel, by decide +kernel⟩
theorem fX11_61 : gFd 9 61 "SheetBranchesModel" "cellNumber" "[J" true (.array .long) := ⟨RX11, TX11, 105, gk_X11, by decide, by decide +kernel, by decide +kernel⟩
theorem fX11_62 : gFd 9 62 "SheetBranchesModel" "cellLong" "[I" true (.array .int) := ⟨RX11, TX11, 105, gk_X11, by decide, by decide +kernel, by decide +kernel⟩
theorem fX11_63 : gFd 9 63 "SheetBranchesModel" "cellText" "[B" true (.array .byte) := ⟨RX11, TX11, 105, gk_X11, by decide, by decide +kernel, by decide +kernel⟩
theorem fX11_64 : gFd 9 64 "SheetBranchesModel" "valued" "[Z" true (.array .boolean) := ⟨RX11, TX11, 105, gk_X11, by decide, by decide +kernel, by decide +kernel⟩
theorem fX11_65 : gFd 9 65 "SheetBranchesModel" "fresh" "Z" false .boolean := ⟨RX11, TX11, 105, gk_X11, by decide, by decide +kernel, by decide +kernel⟩
theorem fX11_66 : gFd 9 66 "SheetBranchesModel" "handKind" "[I" true (.array .int) := ⟨RX11, TX11, 105, gk_X11, by decide, by decide +kernel, by decide +kernel⟩
theorem fX11_67 : gFd 9 67 "SheetBranchesModel" "handNumber" "[J" true (.array .long) := ⟨RX11, TX11, 105, gk_X11, by decide, by decide +kernel, by decide +kernel⟩
theorem fX11_68 : gFd 9 68 "SheetBranchesModel" "handLong" "[I" true (.array .int) := ⟨RX11, TX11, 105, gk_X11, by decide, by decide +kernel, by decide +kernel⟩
theorem fX11_69 : gFd 9 69 "SheetBranchesModel" "handText" "[B" true (.array .byte) := ⟨RX11, TX11, 105, gk_X11, by decide, by decide +kernel, by decide +kernel⟩
theorem fX11_70 : gFd 9 70 "SheetBranchesModel" "digits" "[B" true (.array .byte) := ⟨RX11, TX11, 105, gk_X11, by decide, by decide +kernel, by decide +kernel⟩
theorem fX11_71 : gFd 9 71 "SheetBranchesModel" "areaSheet" "I" false .int := ⟨RX11, TX11, 105, gk_X11, by decide, by decide +kernel, by decide +kernel⟩
theorem fX11_72 : gFd 9 72 "SheetBranchesModel" "areaTop" "I" false .int := ⟨RX11, TX11, 105, gk_X11, by decide, by decide +kernel, by decide +kernel⟩
theorem fX11_73 : gFd 9 73 "SheetBranchesModel" "areaBottom" "I" false .int := ⟨RX11, TX11, 105, gk_X11, by decide, by decide +kernel, by decide +kernel⟩
theorem fX11_74 : gFd 9 74 "SheetBranchesModel" "areaLeft" "I" false .int := ⟨RX11, TX11, 105, gk_X11, by decide, by decide +kernel, by decide +kernel⟩
theorem fX11_75 : gFd 9 75 "SheetBranchesModel" "areaRight" "I" false .int := ⟨RX11, TX11, 105, gk_X11, by decide, by decide +kernel, by decide +kernel⟩
theorem fX11_76 : gFd 9 76 "SheetBranchesModel" "countOf" "I" false .int := ⟨RX11, TX11, 105, gk_X11, by decide, by decide +kernel, by decide +kernel⟩
theorem fX11_77 : gFd 9 77 "SheetBranchesModel" "sumOf" "J" false .long := ⟨RX11, TX11, 105, gk_X11, by decide, by decide +kernel, by decide +kernel⟩
theorem fX11_78 : gFd 9 78 "SheetBranchesModel" "bestOf" "J" false .long := ⟨RX11, TX11, 105, gk_X11, by decide, by decide +kernel, by decide +kernel⟩
theorem fX11_79 : gFd 9 79 "SheetBranchesModel" "allOf" "Z" false .boolean := ⟨RX11, TX11, 105, gk_X11, by decide, by decide +kernel, by decide +kernel⟩
theorem fX11_80 : gFd 9 80 "SheetBranchesModel" "someOf" "Z" false .boolean := ⟨RX11, TX11, 105, gk_X11, by decide, by decide +kernel, by decide +kernel⟩
theorem fX11_81 : gFd 9 81 "SheetBranchesModel" "workSheet" "I" false .int := ⟨RX11, TX11, 105, gk_X11, by decide, by decide +kernel, by decide +kernel⟩
theorem fX11_82 : gFd 9 82 "SheetBranchesModel" "leads" "[J" true (.array .long) := ⟨RX11, TX11, 105, gk_X11, by decide, by decide +kernel, by decide +kernel⟩
theorem fX11_83 : gFd 9 83 "SheetBranchesModel" "comes" "[J" true (.array .long) := ⟨RX11, TX11, 105, gk_X11, by decide, by decide +kernel, by decide +kernel⟩
theorem fX11_84 : gFd 9 84 "SheetBranchesModel" "through" "[Z" true (.array .boolean) := ⟨RX11, TX11, 105, gk_X11, by decide, by decide +kernel, by decide +kernel⟩
theorem fX11_85 : gFd 9 85 "SheetBranchesModel" "throughBits" "[J" true (.array .long) := ⟨RX11, TX11, 105, gk_X11, by decide, by decide +kernel, by decide +kernel⟩
theorem fX11_86 : gFd 9 86 "SheetBranchesModel" "page" "[B" true (.array .byte) := ⟨RX11, TX11, 105, gk_X11, by decide, by decide +kernel, by decide +kernel⟩
theorem fX11_87 : gFd 9 87 "SheetBranchesModel" "paged" "I" false .int := ⟨RX11, TX11, 105, gk_X11, by decide, by decide +kernel, by decide +kernel⟩
theorem fX11_88 : gFd 9 88 "SheetBranchesModel" "sorted" "[I" true (.array .int) := ⟨RX11, TX11, 105, gk_X11, by decide, by decide +kernel, by decide +kernel⟩
theorem fX11_89 : gFd 9 89 "SheetBranchesModel" "before" "[Z" true (.array .boolean) := ⟨RX11, TX11, 105, gk_X11, by decide, by decide +kernel, by decide +kernel⟩
theorem fX11_90 : gFd 9 90 "SheetBranchesModel" "beforeToo" "[Z" true (.array .boolean) := ⟨RX11, TX11, 105, gk_X11, by decide, by decide +kernel, by decide +kernel⟩
theorem fX11_91 : gFd 9 91 "SheetBranchesModel" "conflictKind" "[I" true (.array .int) := ⟨RX11, TX11, 105, gk_X11, by decide, by decide +kernel, by decide +kernel⟩
theorem fX11_92 : gFd 9 92 "SheetBranchesModel" "conflictRow" "[I" true (.array .int) := ⟨RX11, TX11, 105, gk_X11, by decide, by decide +kernel, by decide +kernel⟩
theorem fX11_93 : gFd 9 93 "SheetBranchesModel" "conflictCol" "[I" true (.array .int) := ⟨RX11, TX11, 105, gk_X11, by decide, by decide +kernel, by decide +kernel⟩
theorem fX11_94 : gFd 9 94 "SheetBranchesModel" "ours" "[I" true (.array .int) := ⟨RX11, TX11, 105, gk_X11, by decide, by decide +kernel, by decide +kernel⟩
theorem fX11_95 : gFd 9 95 "SheetBranchesModel" "theirs" "[I" true (.array .int) := ⟨RX11, TX11, 105, gk_X11, by decide, by decide +kernel, by decide +kernel⟩
theorem fX11_96 : gFd 9 96 "SheetBranchesModel" "hadOurs" "[Z" true (.array .boolean) := ⟨RX11, TX11, 105, gk_X11, by decide, by decide +kernel, by decide +kernel⟩
theorem fX11_97 : gFd 9 97 "SheetBranchesModel" "settled" "[Z" true (.array .boolean) := ⟨RX11, TX11, 105, gk_X11, by decide, by decide +kernel, by decide +kernel⟩
theorem fX11_98 : gFd 9 98 "SheetBranchesModel" "conflicts" "I" false .int := ⟨RX11, TX11, 105, gk_X11, by decide, by decide +kernel, by decide +kernel⟩
theorem fX11_99 : gFd 9 99 "SheetBranchesModel" "line" "[I" true (.array .int) := ⟨RX11, TX11, 105, gk_X11, by decide, by decide +kernel, by decide +kernel⟩
theorem fX11_100 : gFd 9 100 "SheetBranchesModel" "lines" "I" false .int := ⟨RX11, TX11, 105, gk_X11, by decide, by decide +kernel, by decide +kernel⟩
theorem fX11_101 : gFd 9 101 "SheetBranchesModel" "unlike" "[I" true (.array .int) := ⟨RX11, TX11, 105, gk_X11, by decide, by decide +kernel, by decide +kernel⟩
theorem fX11_102 : gFd 9 102 "SheetBranchesModel" "unlikeRow" "[I" true (.array .int) := ⟨RX11, TX11, 105, gk_X11, by decide, by decide +kernel, by decide +kernel⟩
theorem fX11_103 : gFd 9 103 "SheetBranchesModel" "unlikeCol" "[I" true (.array .int) := ⟨RX11, TX11, 105, gk_X11, by decide, by decide +kernel, by decide +kernel⟩
theorem fX11_104 : gFd 9 104 "SheetBranchesModel" "unlikes" "I" false .int := ⟨RX11, TX11, 105, gk_X11, by decide, by decide +kernel, by decide +kernel⟩
theorem gk_X13 : gCk 10 RX13 TX13 1 := ⟨rfl, in_X13, tyX13_ok, nmX13⟩
theorem gd_X13 : (List.range 1).all (fun k => gtyok (gfty 10 k)) = true ∧ 1 < 2147483648 := ⟨by decide +kernel, by decide⟩
theorem fX13_0 : gFd 10 0 "SheetBranches$Whole" "n" "J" true .long := ⟨RX13, TX13, 1, gk_X13, by decide, by decide +kernel, by decide +kernel⟩
theorem gk_X14 : gCk 11 RX14 TX14 1 := ⟨rfl, in_X14, tyX14_ok, nmX14⟩
theorem gd_X14 : (List.range 1).all (fun k => gtyok (gfty 11 k)) = true ∧ 1 < 2147483648 := ⟨by decide +kernel, by decide⟩
theorem fX14_0 : gFd 11 0 "SheetBranches$Words" "bytes" "[B" true (.array .byte) := ⟨RX14, TX14, 1, gk_X14, by decide, by decide +kernel, by decide +kernel⟩
theorem gk_X15 : gCk 12 RX15 TX15 0 := ⟨rfl, fun w h => by simp [u_ws] at h, fun k h => absurd h (Nat.not_lt_zero k), fun a h => absurd h (Nat.not_lt_zero a)⟩
theorem gd_X15 : (List.range 0).all (fun k => gtyok (gfty 12 k)) = true ∧ 0 < 2147483648 := ⟨by decide +kernel, by decide⟩
theorem gk_X16 : gCk 13 RX16 TX16 4 := ⟨rfl, in_X16, tyX16_ok, nmX16⟩
theorem gd_X16 : (List.range 4).all (fun k => gtyok (gfty 13 k)) = true ∧ 4 < 2147483648 := ⟨by decide +kernel, by decide⟩
theorem fX16_0 : gFd 13 0 "SheetBranches$Corner" "row" "I" true .int := ⟨RX16, TX16, 4, gk_X16, by decide, by decide +kernel, by decide +kernel⟩
theorem fX16_1 : gFd 13 1 "SheetBranches$Corner" "column" "I" true .int := ⟨RX16, TX16, 4, gk_X16, by decide, by decide +kernel, by decide +kernel⟩
theorem fX16_2 : gFd 13 2 "SheetBranches$Corner" "keepsRow" "Z" true .boolean := ⟨RX16, TX16, 4, gk_X16, by decide, by decide +kernel, by decide +kernel⟩
theorem fX16_3 : gFd 13 3 "SheetBranches$Corner" "keepsColumn" "Z" true .boolean := ⟨RX16, TX16, 4, gk_X16, by decide, by decide +kernel, by decide +kernel⟩
theorem gk_X17 : gCk 14 RX17 TX17 2 := ⟨rfl, in_X17, tyX17_ok, nmX17⟩
theorem gd_X17 : (List.range 2).all (fun k => gtyok (gfty 14 k)) = true ∧ 2 < 2147483648 := ⟨by decide +kernel, by decide⟩
theorem fX17_0 : gFd 14 0 "SheetBranches$Spot" "at" "LSheetBranches$Corner;" true (.object "SheetBranches$Corner") := ⟨RX17, TX17, 2, gk_X17, by decide, by decide +kernel, by decide +kernel⟩
theorem fX17_1 : gFd 14 1 "SheetBranches$Spot" "version" "I" true .int := ⟨RX17, TX17, 2, gk_X17, by decide, by decide +kernel, by decide +kernel⟩
theorem gk_X18 : gCk 15 RX18 TX18 1 := ⟨rfl, in_X18, tyX18_ok, nmX18⟩
theorem gd_X18 : (List.range 1).all (fun k => gtyok (gfty 15 k)) = true ∧ 1 < 2147483648 := ⟨by decide +kernel, by decide⟩
theorem fX18_0 : gFd 15 0 "SheetBranches$Truth" "is" "Z" true .boolean := ⟨RX18, TX18, 1, gk_X18, by decide, by decide +kernel, by decide +kernel⟩
theorem gk_X19 : gCk 16 RX19 TX19 3 := ⟨rfl, in_X19, tyX19_ok, nmX19⟩
theorem gd_X19 : (List.range 3).all (fun k => gtyok (gfty 16 k)) = true ∧ 3 < 2147483648 := ⟨by decide +kernel, by decide⟩
theorem fX19_0 : gFd 16 0 "SheetBranches$Area" "from" "LSheetBranches$Corner;" true (.object "SheetBranches$Corner") := ⟨RX19, TX19, 3, gk_X19, by decide, by decide +kernel, by decide +kernel⟩
theorem fX19_1 : gFd 16 1 "SheetBranches$Area" "to" "LSheetBranches$Corner;" true (.object "SheetBranches$Corner") := ⟨RX19, TX19, 3, gk_X19, by decide, by decide +kernel, by decide +kernel⟩
theorem fX19_2 : gFd 16 2 "SheetBranches$Area" "version" "I" true .int := ⟨RX19, TX19, 3, gk_X19, by decide, by decide +kernel, by decide +kernel⟩
theorem gk_X20 : gCk 17 RX20 TX20 2 := ⟨rfl, in_X20, tyX20_ok, nmX20⟩
theorem gd_X20 : (List.range 2).all (fun k => gtyok (gfty 17 k)) = true ∧ 2 < 2147483648 := ⟨by decide +kernel, by decide⟩
theorem fX20_0 : gFd 17 0 "SheetBranches$Call" "name" "LSheetBranches$Name;" true (.object "SheetBranches$Name") := ⟨RX20, TX20, 2, gk_X20, by decide, by decide +kernel, by decide +kernel⟩
theorem fX20_1 : gFd 17 1 "SheetBranches$Call" "args" "[LSheetBranches$Part;" true (.array (.object "SheetBranches$Part")) := ⟨RX20, TX20, 2, gk_X20, by decide, by decide +kernel, by decide +kernel⟩
theorem gk_X21 : gCk 18 RX21 TX21 1 := ⟨rfl, in_X21, tyX21_ok, nmX21⟩
theorem gd_X21 : (List.range 1).all (fun k => gtyok (gfty 18 k)) = true ∧ 1 < 2147483648 := ⟨by decide +kernel, by decide⟩
theorem fX21_0 : gFd 18 0 "SheetBranches$Minus" "of" "LSheetBranches$Part;" true (.object "SheetBranches$Part") := ⟨RX21, TX21, 1, gk_X21, by decide, by decide +kernel, by decide +kernel⟩
theorem gk_X22 : gCk 19 RX22 TX22 3 := ⟨rfl, in_X22, tyX22_ok, nmX22⟩
theorem gd_X22 : (List.range 3).all (fun k => gtyok (gfty 19 k)) = true ∧ 3 < 2147483648 := ⟨by decide +kernel, by decide⟩
theorem fX22_0 : gFd 19 0 "SheetBranches$Two" "sign" "LSheetBranches$Sign;" true (.object "SheetBranches$Sign") := ⟨RX22, TX22, 3, gk_X22, by decide, by decide +kernel, by decide +kernel⟩
theorem fX22_1 : gFd 19 1 "SheetBranches$Two" "left" "LSheetBranches$Part;" true (.object "SheetBranches$Part") := ⟨RX22, TX22, 3, gk_X22, by decide, by decide +kernel, by decide +kernel⟩
theorem fX22_2 : gFd 19 2 "SheetBranches$Two" "right" "LSheetBranches$Part;" true (.object "SheetBranches$Part") := ⟨RX22, TX22, 3, gk_X22, by decide, by decide +kernel, by decide +kernel⟩
theorem gk_X23 : gCk 20 RX23 TX23 2 := ⟨rfl, in_X23, tyX23_ok, nmX23⟩
theorem gd_X23 : (List.range 2).all (fun k => gtyok (gfty 20 k)) = true ∧ 2 < 2147483648 := ⟨by decide +kernel, by decide⟩
theorem fX23_0 : gFd 20 0 "SheetBranches$Formula" "root" "LSheetBranches$Part;" true (.object "SheetBranches$Part") := ⟨RX23, TX23, 2, gk_X23, by decide, by decide +kernel, by decide +kernel⟩
theorem fX23_1 : gFd 20 1 "SheetBranches$Formula" "parts" "I" true .int := ⟨RX23, TX23, 2, gk_X23, by decide, by decide +kernel, by decide +kernel⟩
theorem gk_X24 : gCk 21 RX24 TX24 4 := ⟨rfl, in_X24, tyX24_ok, nmX24⟩
theorem gd_X24 : (List.range 4).all (fun k => gtyok (gfty 21 k)) = true ∧ 4 < 2147483648 := ⟨by decide +kernel, by decide⟩
theorem fX24_0 : gFd 21 0 "SheetBranches$Shift" "rows" "I" true .int := ⟨RX24, TX24, 4, gk_X24, by decide, by decide +kernel, by decide +kernel⟩
theorem fX24_1 : gFd 21 1 "SheetBranches$Shift" "columns" "I" true .int := ⟨RX24, TX24, 4, gk_X24, by decide, by decide +kernel, by decide +kernel⟩
theorem fX24_2 : gFd 21 2 "SheetBranches$Shift" "work" "LSheetBranches$Sheet;" true (.object "SheetBranches$Sheet") := ⟨RX24, TX24, 4, gk_X24, by decide, by decide +kernel, by decide +kernel⟩
theorem fX24_3 : gFd 21 3 "SheetBranches$Shift" "versions" "[LSheetBranches$Version;" true (.array (.object "SheetBranches$Version")) := ⟨RX24, TX24, 4, gk_X24, by decide, by decide +kernel, by decide +kernel⟩
theorem gk_X25 : gCk 22 RX25 TX25 6 := ⟨rfl, in_X25, tyX25_ok, nmX25⟩
theorem gd_X25 : (List.range 6).all (fun k => gtyok (gfty 22 k)) = true ∧ 6 < 2147483648 := ⟨by decide +kernel, by decide⟩
theorem fX25_0 : gFd 22 0 "SheetBranches$Weaver" "base" "LSheetBranches$Sheet;" true (.object "SheetBranches$Sheet") := ⟨RX25, TX25, 6, gk_X25, by decide, by decide +kernel, by decide +kernel⟩
theorem fX25_1 : gFd 22 1 "SheetBranches$Weaver" "ours" "LSheetBranches$Sheet;" true (.object "SheetBranches$Sheet") := ⟨RX25, TX25, 6, gk_X25, by decide, by decide +kernel, by decide +kernel⟩
theorem fX25_2 : gFd 22 2 "SheetBranches$Weaver" "theirs" "LSheetBranches$Sheet;" true (.object "SheetBranches$Sheet") := ⟨RX25, TX25, 6, gk_X25, by decide, by decide +kernel, by decide +kernel⟩
theorem fX25_3 : gFd 22 3 "SheetBranches$Weaver" "woven" "LSheetBranches$Sheet;" false (.object "SheetBranches$Sheet") := ⟨RX25, TX25, 6, gk_X25, by decide, by decide +kernel, by decide +kernel⟩
theorem fX25_4 : gFd 22 4 "SheetBranches$Weaver" "conflicts" "[LSheetBranches$Conflict;" false (.array (.object "SheetBranches$Conflict")) := ⟨RX25, TX25, 6, gk_X25, by decide, by decide +kernel, by decide +kernel⟩
theorem fX25_5 : gFd 22 5 "SheetBranches$Weaver" "many" "I" false .int := ⟨RX25, TX25, 6, gk_X25, by decide, by decide +kernel, by decide +kernel⟩
theorem gk_X26 : gCk 23 RX26 TX26 6 := ⟨rfl, in_X26, tyX26_ok, nmX26⟩
theorem gd_X26 : (List.range 6).all (fun k => gtyok (gfty 23 k)) = true ∧ 6 < 2147483648 := ⟨by decide +kernel, by decide⟩
theorem fX26_0 : gFd 23 0 "SheetBranches$Conflict" "kind" "I" true .int := ⟨RX26, TX26, 6, gk_X26, by decide, by decide +kernel, by decide +kernel⟩
theorem fX26_1 : gFd 23 1 "SheetBranches$Conflict" "row" "I" true .int := ⟨RX26, TX26, 6, gk_X26, by decide, by decide +kernel, by decide +kernel⟩
theorem fX26_2 : gFd 23 2 "SheetBranches$Conflict" "column" "I" true .int := ⟨RX26, TX26, 6, gk_X26, by decide, by decide +kernel, by decide +kernel⟩
theorem fX26_3 : gFd 23 3 "SheetBranches$Conflict" "inOurs" "Z" true .boolean := ⟨RX26, TX26, 6, gk_X26, by decide, by decide +kernel, by decide +kernel⟩
theorem fX26_4 : gFd 23 4 "SheetBranches$Conflict" "mine" "LSheetBranches$Content;" true (.object "SheetBranches$Content") := ⟨RX26, TX26, 6, gk_X26, by decide, by decide +kernel, by decide +kernel⟩
theorem fX26_5 : gFd 23 5 "SheetBranches$Conflict" "theirs" "LSheetBranches$Content;" true (.object "SheetBranches$Content") := ⟨RX26, TX26, 6, gk_X26, by decide, by decide +kernel, by decide +kernel⟩
theorem hp_L : plainName x.cls = true := by decide +kernel
theorem hp_J15 : plainName RJ15 = true := by decide +kernel
theorem hp_J16 : plainName RJ16 = true := by decide +kernel
theorem hp_X0 : plainName RX0 = true := by decide +kernel
theorem hp_X1 : plainName RX1 = true := by decide +kernel
theorem hp_X10 : plainName RX10 = true := by decide +kernel
theorem hp_X11 : plainName RX11 = true := by decide +kernel
theorem hp_X12 : plainName RX12 = true := by decide +kernel
theorem hp_X13 : plainName RX13 = true := by decide +kernel
theorem hp_X14 : plainName RX14 = true := by decide +kernel
theorem hp_X15 : plainName RX15 = true := by decide +kernel
theorem hp_X16 : plainName RX16 = true := by decide +kernel
theorem hp_X17 : plainName RX17 = true := by decide +kernel
theorem hp_X18 : plainName RX18 = true := by decide +kernel
theorem hp_X19 : plainName RX19 = true := by decide +kernel
theorem hp_X2 : plainName RX2 = true := by decide +kernel
theorem hp_X20 : plainName RX20 = true := by decide +kernel
theorem hp_X21 : plainName RX21 = true := by decide +kernel
theorem hp_X22 : plainName RX22 = true := by decide +kernel
theorem hp_X23 : plainName RX23 = true := by decide +kernel
theorem hp_X24 : plainName RX24 = true := by decide +kernel
theorem hp_X25 : plainName RX25 = true := by decide +kernel
theorem hp_X26 : plainName RX26 = true := by decide +kernel
theorem hp_X3 : plainName RX3 = true := by decide +kernel
theorem hp_X4 : plainName RX4 = true := by decide +kernel
theorem hp_X5 : plainName RX5 = true := by decide +kernel
theorem hp_X6 : plainName RX6 = true := by decide +kernel
theorem hp_X7 : plainName RX7 = true := by decide +kernel
theorem hp_X8 : plainName RX8 = true := by decide +kernel
theorem hp_X9 : plainName RX9 = true := by decide +kernel
/-- field, place behind the object, tag, length of the twin's arrays -/
abbrev tarr : List (Nat × Nat × Nat × Nat) := [(1, 1, 100, 122), (2, 2, 100, 122), (3, 3, 100, 3904), (4, 4, 100, 1220), (5, 5, 100, 39040), (9, 6, 100, 40), (10, 7, 100, 40), (11, 8, 100, 6), (18, 9, 102, 82400), (20, 10, 100, 4200), (21, 11, 101, 4200), (22, 12, 100, 4200), (23, 13, 100, 4200), (26, 14, 100, 60420), (27, 15, 100, 60420), (28, 16, 100, 60420), (29, 17, 101, 60420), (30, 18, 100, 60420), (31, 19, 100, 60420), (32, 20, 100, 60420), (33, 21, 100, 60420), (34, 22, 100, 60420), (35, 23, 100, 60420), (36, 24, 100, 60420), (37, 25, 100, 60420), (38, 26, 100, 60420), (39, 27, 100, 400), (60, 28, 100, 13120), (61, 29, 101, 13120), (62, 30, 100, 13120), (63, 31, 102, 314880), (64, 32, 103, 40), (66, 33, 100, 200), (67, 34, 101, 200), (68, 35, 100, 200), (69, 36, 102, 4800), (70, 37, 102, 20), (82, 38, 101, 1600), (83, 39, 101, 1600), (84, 40, 103, 320), (85, 41, 101, 5), (86, 42, 102, 2000), (88, 43, 100, 32), (89, 44, 103, 40), (90, 45, 103, 40), (91, 46, 100, 370), (92, 47, 100, 370), (93, 48, 100, 370), (94, 49, 100, 370), (95, 50, 100, 370), (96, 51, 103, 370), (97, 52, 103, 370), (99, 53, 100, 64), (101, 54, 100, 410), (102, 55, 100, 410), (103, 56, 100, 410)]
def TM (σ : gMem) (h : Nat) : Prop := mT σ h = 10 ∧ ∀ q ∈ tarr, mR σ h q.1 = h + q.2.1 ∧ mT σ (h + q.2.1) = q.2.2.1 ∧ mN σ (h + q.2.1) = q.2.2.2
def TMb (σ : gMem) (h : Nat) : Bool := decide (mT σ h = 10) && tarr.all (fun q => decide (mR σ h q.1 = h + q.2.1) && (decide (mT σ (h + q.2.1) = q.2.2.1) && decide (mN σ (h + q.2.1) = q.2.2.2)))
theorem TMb_ok {σ : gMem} {h : Nat} (q : TMb σ h = true) : TM σ h := by
  simp only [TMb, Bool.and_eq_true, decide_eq_true_eq] at q
  refine ⟨q.1, fun z hz => ?_⟩
  have := List.all_eq_true.mp q.2 z hz
  simp only [Bool.and_eq_true, decide_eq_true_eq] at this
  exact this
theorem TM.b {σ : gMem} {h : Nat} (q : TM σ h) : TMb σ h = true := by
  simp only [TMb, Bool.and_eq_true, decide_eq_true_eq]
  refine ⟨q.1, List.all_eq_true.mpr fun z hz => ?_⟩
  simp only [Bool.and_eq_true, decide_eq_true_eq]
  exact q.2 z hz
theorem TM.tw {σ s : gMem} {h : Nat} (hM : TM σ h) (q : gTw σ s) : TM s h := by unfold TM mT mR mN at *; rw [show s.2.2 = σ.2.2 from q]; exact hM
theorem TM.eI {σ s : gMem} {h a k : Nat} {x : Int} (e : s = wI σ a k x) (hM : TM σ h) : TM s h := by subst e; exact hM
theorem TM.eL {σ s : gMem} {h a k : Nat} {x : Int} (e : s = wL σ a k x) (hM : TM σ h) : TM s h := by subst e; exact hM
theorem TM.a1 {σ : gMem} {h : Nat} (hM : TM σ h) : mR σ h 1 = h + 1 ∧ mT σ (h + 1) = 100 ∧ mN σ (h + 1) = 122 := hM.2 (1, 1, 100, 122) (List.mem_of_getElem? (i := 0) rfl)
theorem TM.a2 {σ : gMem} {h : Nat} (hM : TM σ h) : mR σ h 2 = h + 2 ∧ mT σ (h + 2) = 100 ∧ mN σ (h + 2) = 122 := hM.2 (2, 2, 100, 122) (List.mem_of_getElem? (i := 1) rfl)
theorem TM.a3 {σ : gMem} {h : Nat} (hM : TM σ h) : mR σ h 3 = h + 3 ∧ mT σ (h + 3) = 100 ∧ mN σ (h + 3) = 3904 := hM.2 (3, 3, 100, 3904) (List.mem_of_getElem? (i := 2) rfl)
theorem TM.a4 {σ : gMem} {h : Nat} (hM : TM σ h) : mR σ h 4 = h + 4 ∧ mT σ (h + 4) = 100 ∧ mN σ (h + 4) = 1220 := hM.2 (4, 4, 100, 1220) (List.mem_of_getElem? (i := 3) rfl)
theorem TM.a5 {σ : gMem} {h : Nat} (hM : TM σ h) : mR σ h 5 = h + 5 ∧ mT σ (h + 5) = 100 ∧ mN σ (h + 5) = 39040 := hM.2 (5, 5, 100, 39040) (List.mem_of_getElem? (i := 4) rfl)
theorem TM.a9 {σ : gMem} {h : Nat} (hM : TM σ h) : mR σ h 9 = h + 6 ∧ mT σ (h + 6) = 100 ∧ mN σ (h + 6) = 40 := hM.2 (9, 6, 100, 40) (List.mem_of_getElem? (i := 5) rfl)
theorem TM.a10 {σ : gMem} {h : Nat} (hM : TM σ h) : mR σ h 10 = h + 7 ∧ mT σ (h + 7) = 100 ∧ mN σ (h + 7) = 40 := hM.2 (10, 7, 100, 40) (List.mem_of_getElem? (i := 6) rfl)
theorem TM.a11 {σ : gMem} {h : Nat} (hM : TM σ h) : mR σ h 11 = h + 8 ∧ mT σ (h + 8) = 100 ∧ mN σ (h + 8) = 6 := hM.2 (11, 8, 100, 6) (List.mem_of_getElem? (i := 7) rfl)
theorem TM.a18 {σ : gMem} {h : Nat} (hM : TM σ h) : mR σ h 18 = h + 9 ∧ mT σ (h + 9) = 102 ∧ mN σ (h + 9) = 82400 := hM.2 (18, 9, 102, 82400) (List.mem_of_getElem? (i := 8) rfl)
theorem TM.a20 {σ : gMem} {h : Nat} (hM : TM σ h) : mR σ h 20 = h + 10 ∧ mT σ (h + 10) = 100 ∧ mN σ (h + 10) = 4200 := hM.2 (20, 10, 100, 4200) (List.mem_of_getElem? (i := 9) rfl)
theorem TM.a21 {σ : gMem} {h : Nat} (hM : TM σ h) : mR σ h 21 = h + 11 ∧ mT σ (h + 11) = 101 ∧ mN σ (h + 11) = 4200 := hM.2 (21, 11, 101, 4200) (List.mem_of_getElem? (i := 10) rfl)
theorem TM.a22 {σ : gMem} {h : Nat} (hM : TM σ h) : mR σ h 22 = h + 12 ∧ mT σ (h + 12) = 100 ∧ mN σ (h + 12) = 4200 := hM.2 (22, 12, 100, 4200) (List.mem_of_getElem? (i := 11) rfl)
theorem TM.a23 {σ : gMem} {h : Nat} (hM : TM σ h) : mR σ h 23 = h + 13 ∧ mT σ (h + 13) = 100 ∧ mN σ (h + 13) = 4200 := hM.2 (23, 13, 100, 4200) (List.mem_of_getElem? (i := 12) rfl)
theorem TM.a26 {σ : gMem} {h : Nat} (hM : TM σ h) : mR σ h 26 = h + 14 ∧ mT σ (h + 14) = 100 ∧ mN σ (h + 14) = 60420 := hM.2 (26, 14, 100, 60420) (List.mem_of_getElem? (i := 13) rfl)
theorem TM.a27 {σ : gMem} {h : Nat} (hM : TM σ h) : mR σ h 27 = h + 15 ∧ mT σ (h + 15) = 100 ∧ mN σ (h + 15) = 60420 := hM.2 (27, 15, 100, 60420) (List.mem_of_getElem? (i := 14) rfl)
theorem TM.a28 {σ : gMem} {h : Nat} (hM : TM σ h) : mR σ h 28 = h + 16 ∧ mT σ (h + 16) = 100 ∧ mN σ (h + 16) = 60420 := hM.2 (28, 16, 100, 60420) (List.mem_of_getElem? (i := 15) rfl)
theorem TM.a29 {σ : gMem} {h : Nat} (hM : TM σ h) : mR σ h 29 = h + 17 ∧ mT σ (h + 17) = 101 ∧ mN σ (h + 17) = 60420 := hM.2 (29, 17, 101, 60420) (List.mem_of_getElem? (i := 16) rfl)
theorem TM.a30 {σ : gMem} {h : Nat} (hM : TM σ h) : mR σ h 30 = h + 18 ∧ mT σ (h + 18) = 100 ∧ mN σ (h + 18) = 60420 := hM.2 (30, 18, 100, 60420) (List.mem_of_getElem? (i := 17) rfl)
theorem TM.a31 {σ : gMem} {h : Nat} (hM : TM σ h) : mR σ h 31 = h + 19 ∧ mT σ (h + 19) = 100 ∧ mN σ (h + 19) = 60420 := hM.2 (31, 19, 100, 60420) (List.mem_of_getElem? (i := 18) rfl)
theorem TM.a32 {σ : gMem} {h : Nat} (hM : TM σ h) : mR σ h 32 = h + 20 ∧ mT σ (h + 20) = 100 ∧ mN σ (h + 20) = 60420 := hM.2 (32, 20, 100, 60420) (List.mem_of_getElem? (i := 19) rfl)
theorem TM.a33 {σ : gMem} {h : Nat} (hM : TM σ h) : mR σ h 33 = h + 21 ∧ mT σ (h + 21) = 100 ∧ mN σ (h + 21) = 60420 := hM.2 (33, 21, 100, 60420) (List.mem_of_getElem? (i := 20) rfl)
theorem TM.a34 {σ : gMem} {h : Nat} (hM : TM σ h) : mR σ h 34 = h + 22 ∧ mT σ (h + 22) = 100 ∧ mN σ (h + 22) = 60420 := hM.2 (34, 22, 100, 60420) (List.mem_of_getElem? (i := 21) rfl)
theorem TM.a35 {σ : gMem} {h : Nat} (hM : TM σ h) : mR σ h 35 = h + 23 ∧ mT σ (h + 23) = 100 ∧ mN σ (h + 23) = 60420 := hM.2 (35, 23, 100, 60420) (List.mem_of_getElem? (i := 22) rfl)
theorem TM.a36 {σ : gMem} {h : Nat} (hM : TM σ h) : mR σ h 36 = h + 24 ∧ mT σ (h + 24) = 100 ∧ mN σ (h + 24) = 60420 := hM.2 (36, 24, 100, 60420) (List.mem_of_getElem? (i := 23) rfl)
theorem TM.a37 {σ : gMem} {h : Nat} (hM : TM σ h) : mR σ h 37 = h + 25 ∧ mT σ (h + 25) = 100 ∧ mN σ (h + 25) = 60420 := hM.2 (37, 25, 100, 60420) (List.mem_of_getElem? (i := 24) rfl)
theorem TM.a38 {σ : gMem} {h : Nat} (hM : TM σ h) : mR σ h 38 = h + 26 ∧ mT σ (h + 26) = 100 ∧ mN σ (h + 26) = 60420 := hM.2 (38, 26, 100, 60420) (List.mem_of_getElem? (i := 25) rfl)
theorem TM.a39 {σ : gMem} {h : Nat} (hM : TM σ h) : mR σ h 39 = h + 27 ∧ mT σ (h + 27) = 100 ∧ mN σ (h + 27) = 400 := hM.2 (39, 27, 100, 400) (List.mem_of_getElem? (i := 26) rfl)
theorem TM.a60 {σ : gMem} {h : Nat} (hM : TM σ h) : mR σ h 60 = h + 28 ∧ mT σ (h + 28) = 100 ∧ mN σ (h + 28) = 13120 := hM.2 (60, 28, 100, 13120) (List.mem_of_getElem? (i := 27) rfl)
theorem TM.a61 {σ : gMem} {h : Nat} (hM : TM σ h) : mR σ h 61 = h + 29 ∧ mT σ (h + 29) = 101 ∧ mN σ (h + 29) = 13120 := hM.2 (61, 29, 101, 13120) (List.mem_of_getElem? (i := 28) rfl)
theorem TM.a62 {σ : gMem} {h : Nat} (hM : TM σ h) : mR σ h 62 = h + 30 ∧ mT σ (h + 30) = 100 ∧ mN σ (h + 30) = 13120 := hM.2 (62, 30, 100, 13120) (List.mem_of_getElem? (i := 29) rfl)
theorem TM.a63 {σ : gMem} {h : Nat} (hM : TM σ h) : mR σ h 63 = h + 31 ∧ mT σ (h + 31) = 102 ∧ mN σ (h + 31) = 314880 := hM.2 (63, 31, 102, 314880) (List.mem_of_getElem? (i := 30) rfl)
theorem TM.a64 {σ : gMem} {h : Nat} (hM : TM σ h) : mR σ h 64 = h + 32 ∧ mT σ (h + 32) = 103 ∧ mN σ (h + 32) = 40 := hM.2 (64, 32, 103, 40) (List.mem_of_getElem? (i := 31) rfl)
theorem TM.a66 {σ : gMem} {h : Nat} (hM : TM σ h) : mR σ h 66 = h + 33 ∧ mT σ (h + 33) = 100 ∧ mN σ (h + 33) = 200 := hM.2 (66, 33, 100, 200) (List.mem_of_getElem? (i := 32) rfl)
theorem TM.a67 {σ : gMem} {h : Nat} (hM : TM σ h) : mR σ h 67 = h + 34 ∧ mT σ (h + 34) = 101 ∧ mN σ (h + 34) = 200 := hM.2 (67, 34, 101, 200) (List.mem_of_getElem? (i := 33) rfl)
theorem TM.a68 {σ : gMem} {h : Nat} (hM : TM σ h) : mR σ h 68 = h + 35 ∧ mT σ (h + 35) = 100 ∧ mN σ (h + 35) = 200 := hM.2 (68, 35, 100, 200) (List.mem_of_getElem? (i := 34) rfl)
theorem TM.a69 {σ : gMem} {h : Nat} (hM : TM σ h) : mR σ h 69 = h + 36 ∧ mT σ (h + 36) = 102 ∧ mN σ (h + 36) = 4800 := hM.2 (69, 36, 102, 4800) (List.mem_of_getElem? (i := 35) rfl)
theorem TM.a70 {σ : gMem} {h : Nat} (hM : TM σ h) : mR σ h 70 = h + 37 ∧ mT σ (h + 37) = 102 ∧ mN σ (h + 37) = 20 := hM.2 (70, 37, 102, 20) (List.mem_of_getElem? (i := 36) rfl)
theorem TM.a82 {σ : gMem} {h : Nat} (hM : TM σ h) : mR σ h 82 = h + 38 ∧ mT σ (h + 38) = 101 ∧ mN σ (h + 38) = 1600 := hM.2 (82, 38, 101, 1600) (List.mem_of_getElem? (i := 37) rfl)
theorem TM.a83 {σ : gMem} {h : Nat} (hM : TM σ h) : mR σ h 83 = h + 39 ∧ mT σ (h + 39) = 101 ∧ mN σ (h + 39) = 1600 := hM.2 (83, 39, 101, 1600) (List.mem_of_getElem? (i := 38) rfl)
theorem TM.a84 {σ : gMem} {h : Nat} (hM : TM σ h) : mR σ h 84 = h + 40 ∧ mT σ (h + 40) = 103 ∧ mN σ (h + 40) = 320 := hM.2 (84, 40, 103, 320) (List.mem_of_getElem? (i := 39) rfl)
theorem TM.a85 {σ : gMem} {h : Nat} (hM : TM σ h) : mR σ h 85 = h + 41 ∧ mT σ (h + 41) = 101 ∧ mN σ (h + 41) = 5 := hM.2 (85, 41, 101, 5) (List.mem_of_getElem? (i := 40) rfl)
theorem TM.a86 {σ : gMem} {h : Nat} (hM : TM σ h) : mR σ h 86 = h + 42 ∧ mT σ (h + 42) = 102 ∧ mN σ (h + 42) = 2000 := hM.2 (86, 42, 102, 2000) (List.mem_of_getElem? (i := 41) rfl)
theorem TM.a88 {σ : gMem} {h : Nat} (hM : TM σ h) : mR σ h 88 = h + 43 ∧ mT σ (h + 43) = 100 ∧ mN σ (h + 43) = 32 := hM.2 (88, 43, 100, 32) (List.mem_of_getElem? (i := 42) rfl)
theorem TM.a89 {σ : gMem} {h : Nat} (hM : TM σ h) : mR σ h 89 = h + 44 ∧ mT σ (h + 44) = 103 ∧ mN σ (h + 44) = 40 := hM.2 (89, 44, 103, 40) (List.mem_of_getElem? (i := 43) rfl)
theorem TM.a90 {σ : gMem} {h : Nat} (hM : TM σ h) : mR σ h 90 = h + 45 ∧ mT σ (h + 45) = 103 ∧ mN σ (h + 45) = 40 := hM.2 (90, 45, 103, 40) (List.mem_of_getElem? (i := 44) rfl)
theorem TM.a91 {σ : gMem} {h : Nat} (hM : TM σ h) : mR σ h 91 = h + 46 ∧ mT σ (h + 46) = 100 ∧ mN σ (h + 46) = 370 := hM.2 (91, 46, 100, 370) (List.mem_of_getElem? (i := 45) rfl)
theorem TM.a92 {σ : gMem} {h : Nat} (hM : TM σ h) : mR σ h 92 = h + 47 ∧ mT σ (h + 47) = 100 ∧ mN σ (h + 47) = 370 := hM.2 (92, 47, 100, 370) (List.mem_of_getElem? (i := 46) rfl)
theorem TM.a93 {σ : gMem} {h : Nat} (hM : TM σ h) : mR σ h 93 = h + 48 ∧ mT σ (h + 48) = 100 ∧ mN σ (h + 48) = 370 := hM.2 (93, 48, 100, 370) (List.mem_of_getElem? (i := 47) rfl)
theorem TM.a94 {σ : gMem} {h : Nat} (hM : TM σ h) : mR σ h 94 = h + 49 ∧ mT σ (h + 49) = 100 ∧ mN σ (h + 49) = 370 := hM.2 (94, 49, 100, 370) (List.mem_of_getElem? (i := 48) rfl)
theorem TM.a95 {σ : gMem} {h : Nat} (hM : TM σ h) : mR σ h 95 = h + 50 ∧ mT σ (h + 50) = 100 ∧ mN σ (h + 50) = 370 := hM.2 (95, 50, 100, 370) (List.mem_of_getElem? (i := 49) rfl)
theorem TM.a96 {σ : gMem} {h : Nat} (hM : TM σ h) : mR σ h 96 = h + 51 ∧ mT σ (h + 51) = 103 ∧ mN σ (h + 51) = 370 := hM.2 (96, 51, 103, 370) (List.mem_of_getElem? (i := 50) rfl)
theorem TM.a97 {σ : gMem} {h : Nat} (hM : TM σ h) : mR σ h 97 = h + 52 ∧ mT σ (h + 52) = 103 ∧ mN σ (h + 52) = 370 := hM.2 (97, 52, 103, 370) (List.mem_of_getElem? (i := 51) rfl)
theorem TM.a99 {σ : gMem} {h : Nat} (hM : TM σ h) : mR σ h 99 = h + 53 ∧ mT σ (h + 53) = 100 ∧ mN σ (h + 53) = 64 := hM.2 (99, 53, 100, 64) (List.mem_of_getElem? (i := 52) rfl)
theorem TM.a101 {σ : gMem} {h : Nat} (hM : TM σ h) : mR σ h 101 = h + 54 ∧ mT σ (h + 54) = 100 ∧ mN σ (h + 54) = 410 := hM.2 (101, 54, 100, 410) (List.mem_of_getElem? (i := 53) rfl)
theorem TM.a102 {σ : gMem} {h : Nat} (hM : TM σ h) : mR σ h 102 = h + 55 ∧ mT σ (h + 55) = 100 ∧ mN σ (h + 55) = 410 := hM.2 (102, 55, 100, 410) (List.mem_of_getElem? (i := 54) rfl)
theorem TM.a103 {σ : gMem} {h : Nat} (hM : TM σ h) : mR σ h 103 = h + 56 ∧ mT σ (h + 56) = 100 ∧ mN σ (h + 56) = 410 := hM.2 (103, 56, 100, 410) (List.mem_of_getElem? (i := 55) rfl)
theorem bAnd_rng (x y : Int) : g32 (bAnd x y) := by unfold bAnd; exact ⟨Int32.le_toInt _, Int.le_of_lt_add_one (Int32.toInt_lt _)⟩
theorem bOr_rng (x y : Int) : g32 (bOr x y) := by unfold bOr; exact ⟨Int32.le_toInt _, Int.le_of_lt_add_one (Int32.toInt_lt _)⟩
theorem bXor_rng (x y : Int) : g32 (bXor x y) := by unfold bXor; exact ⟨Int32.le_toInt _, Int.le_of_lt_add_one (Int32.toInt_lt _)⟩
theorem bShl_rng (x y : Int) : g32 (bShl x y) := by unfold bShl; exact ⟨Int32.le_toInt _, Int.le_of_lt_add_one (Int32.toInt_lt _)⟩
theorem bShr_rng (x y : Int) : g32 (bShr x y) := by unfold bShr; exact ⟨Int32.le_toInt _, Int.le_of_lt_add_one (Int32.toInt_lt _)⟩
theorem bUshr_rng (x y : Int) : g32 (bUshr x y) := by unfold bUshr; exact ⟨Int32.le_toInt _, Int.le_of_lt_add_one (Int32.toInt_lt _)⟩
theorem lAnd_rng (x y : Int) : g64 (lAnd x y) := by unfold lAnd; exact ⟨Int64.le_toInt _, Int.le_of_lt_add_one (Int64.toInt_lt _)⟩
theorem lOr_rng (x y : Int) : g64 (lOr x y) := by unfold lOr; exact ⟨Int64.le_toInt _, Int.le_of_lt_add_one (Int64.toInt_lt _)⟩
theorem lXor_rng (x y : Int) : g64 (lXor x y) := by unfold lXor; exact ⟨Int64.le_toInt _, Int.le_of_lt_add_one (Int64.toInt_lt _)⟩
theorem lShl_rng (x y : Int) : g64 (lShl x y) := by unfold lShl; exact ⟨Int64.le_toInt _, Int.le_of_lt_add_one (Int64.toInt_lt _)⟩
theorem lShr_rng (x y : Int) : g64 (lShr x y) := by unfold lShr; exact ⟨Int64.le_toInt _, Int.le_of_lt_add_one (Int64.toInt_lt _)⟩
theorem lUshr_rng (x y : Int) : g64 (lUshr x y) := by unfold lUshr; exact ⟨Int64.le_toInt _, Int.le_of_lt_add_one (Int64.toInt_lt _)⟩
theorem bByte_rng (x : Int) : g32 (bByte x) := by unfold bByte; exact ⟨Int32.le_toInt _, Int.le_of_lt_add_one (Int32.toInt_lt _)⟩
theorem bByte_b (x : Int) : -128 ≤ bByte x ∧ bByte x ≤ 127 := by
  unfold bByte
  rw [Int8.toInt_toInt32]
  exact ⟨Int8.le_toInt _, Int.le_of_lt_add_one (Int8.toInt_lt _)⟩
theorem gcmp_rng (x y : Int) : g32 (gcmp x y) := by unfold gcmp; split <;> (try split) <;> decide
theorem g32_64 {x : Int} (h : g32 x) : g64 x := by omega
abbrev mu_x0_enter : gM := (yX0_enter, cX0_enter, 5, (some .int), [(0, 10, 13, 13), (0, 10, 17, 15), (0, 10, 21, 17)])
theorem hy_x0_enter : yX0_enter.cls ≠ "java/lang/invoke/MethodHandle" ∧ yX0_enter.cls ≠ "java/lang/invoke/VarHandle" ∧ (parseMethodDescriptor yX0_enter.desc).map (fun d => d.parameters.length) = some 4 := by decide +kernel
abbrev mu_x0_erase : gM := (yX0_erase, cX0_erase, 7, (some .int), [(0, 14, 17, 13), (0, 14, 21, 15)])
theorem hy_x0_erase : yX0_erase.cls ≠ "java/lang/invoke/MethodHandle" ∧ yX0_erase.cls ≠ "java/lang/invoke/VarHandle" ∧ (parseMethodDescriptor yX0_erase.desc).map (fun d => d.parameters.length) = some 6 := by decide +kernel
abbrev mu_x0_insert : gM := (yX0_insert, cX0_insert, 5, (some .int), [(0, 10, 13, 15), (0, 10, 17, 13), (0, 10, 21, 26)])
theorem hy_x0_insert : yX0_insert.cls ≠ "java/lang/invoke/MethodHandle" ∧ yX0_insert.cls ≠ "java/lang/invoke/VarHandle" ∧ (parseMethodDescriptor yX0_insert.desc).map (fun d => d.parameters.length) = some 4 := by decide +kernel
abbrev mu_x0_remove : gM := (yX0_remove, cX0_remove, 5, (some .int), [(0, 10, 13, 15), (0, 10, 17, 13), (0, 10, 21, 26)])
theorem hy_x0_remove : yX0_remove.cls ≠ "java/lang/invoke/MethodHandle" ∧ yX0_remove.cls ≠ "java/lang/invoke/VarHandle" ∧ (parseMethodDescriptor yX0_remove.desc).map (fun d => d.parameters.length) = some 4 := by decide +kernel
abbrev mu_x0_move : gM := (yX0_move, cX0_move, 6, (some .int), [(0, 12, 15, 15), (0, 12, 19, 13)])
theorem hy_x0_move : yX0_move.cls ≠ "java/lang/invoke/MethodHandle" ∧ yX0_move.cls ≠ "java/lang/invoke/VarHandle" ∧ (parseMethodDescriptor yX0_move.desc).map (fun d => d.parameters.length) = some 5 := by decide +kernel
abbrev mu_x0_copy : gM := (yX0_copy, cX0_copy, 9, (some .int), [(0, 18, 21, 13), (0, 18, 25, 15), (0, 18, 29, 17)])
theorem hy_x0_copy : yX0_copy.cls ≠ "java/lang/invoke/MethodHandle" ∧ yX0_copy.cls ≠ "java/lang/invoke/VarHandle" ∧ (parseMethodDescriptor yX0_copy.desc).map (fun d => d.parameters.length) = some 8 := by decide +kernel
abbrev mu_x0_sort : gM := (yX0_sort, cX0_sort, 7, (some .int), [(0, 14, 17, 13), (0, 14, 21, 15)])
theorem hy_x0_sort : yX0_sort.cls ≠ "java/lang/invoke/MethodHandle" ∧ yX0_sort.cls ≠ "java/lang/invoke/VarHandle" ∧ (parseMethodDescriptor yX0_sort.desc).map (fun d => d.parameters.length) = some 6 := by decide +kernel
abbrev mu_x0_undo : gM := (yX0_undo, cX0_undo, 3, (some .int), [(0, 8, 11, 47)])
theorem hy_x0_undo : yX0_undo.cls ≠ "java/lang/invoke/MethodHandle" ∧ yX0_undo.cls ≠ "java/lang/invoke/VarHandle" ∧ (parseMethodDescriptor yX0_undo.desc).map (fun d => d.parameters.length) = some 2 := by decide +kernel
abbrev mu_x0_redo : gM := (yX0_redo, cX0_redo, 3, (some .int), [(0, 8, 11, 47)])
theorem hy_x0_redo : yX0_redo.cls ≠ "java/lang/invoke/MethodHandle" ∧ yX0_redo.cls ≠ "java/lang/invoke/VarHandle" ∧ (parseMethodDescriptor yX0_redo.desc).map (fun d => d.parameters.length) = some 2 := by decide +kernel
abbrev mu_x0_commit : gM := (yX0_commit, cX0_commit, 3, (some .int), [(0, 8, 11, 26), (0, 8, 14, 17)])
theorem hy_x0_commit : yX0_commit.cls ≠ "java/lang/invoke/MethodHandle" ∧ yX0_commit.cls ≠ "java/lang/invoke/VarHandle" ∧ (parseMethodDescriptor yX0_commit.desc).map (fun d => d.parameters.length) = some 2 := by decide +kernel
abbrev mu_x0_branch : gM := (yX0_branch, cX0_branch, 4, (some .int), [(0, 9, 12, 13), (0, 9, 15, 26)])
theorem hy_x0_branch : yX0_branch.cls ≠ "java/lang/invoke/MethodHandle" ∧ yX0_branch.cls ≠ "java/lang/invoke/VarHandle" ∧ (parseMethodDescriptor yX0_branch.desc).map (fun d => d.parameters.length) = some 3 := by decide +kernel
abbrev mu_x0_go : gM := (yX0_go, cX0_go, 4, (some .int), [(0, 9, 12, 13), (0, 9, 15, 47), (0, 9, 18, 26)])
theorem hy_x0_go : yX0_go.cls ≠ "java/lang/invoke/MethodHandle" ∧ yX0_go.cls ≠ "java/lang/invoke/VarHandle" ∧ (parseMethodDescriptor yX0_go.desc).map (fun d => d.parameters.length) = some 3 := by decide +kernel
abbrev mu_x0_merge : gM := (yX0_merge, cX0_merge, 4, (some .int), [(0, 9, 12, 13), (0, 9, 15, 47), (0, 9, 18, 17), (0, 9, 21, 26)])
theorem hy_x0_merge : yX0_merge.cls ≠ "java/lang/invoke/MethodHandle" ∧ yX0_merge.cls ≠ "java/lang/invoke/VarHandle" ∧ (parseMethodDescriptor yX0_merge.desc).map (fun d => d.parameters.length) = some 3 := by decide +kernel
abbrev mu_x0_pick : gM := (yX0_pick, cX0_pick, 4, (some .int), [(0, 9, 12, 47), (0, 9, 15, 17), (0, 9, 18, 26)])
theorem hy_x0_pick : yX0_pick.cls ≠ "java/lang/invoke/MethodHandle" ∧ yX0_pick.cls ≠ "java/lang/invoke/VarHandle" ∧ (parseMethodDescriptor yX0_pick.desc).map (fun d => d.parameters.length) = some 3 := by decide +kernel
abbrev mu_x0_choose : gM := (yX0_choose, cX0_choose, 5, (some .int), [(0, 10, 13, 13)])
theorem hy_x0_choose : yX0_choose.cls ≠ "java/lang/invoke/MethodHandle" ∧ yX0_choose.cls ≠ "java/lang/invoke/VarHandle" ∧ (parseMethodDescriptor yX0_choose.desc).map (fun d => d.parameters.length) = some 4 := by decide +kernel
abbrev mu_x0_diff : gM := (yX0_diff, cX0_diff, 5, (some .int), [(0, 10, 13, 47)])
theorem hy_x0_diff : yX0_diff.cls ≠ "java/lang/invoke/MethodHandle" ∧ yX0_diff.cls ≠ "java/lang/invoke/VarHandle" ∧ (parseMethodDescriptor yX0_diff.desc).map (fun d => d.parameters.length) = some 4 := by decide +kernel
abbrev mu_x0_blame : gM := (yX0_blame, cX0_blame, 5, (some .int), [(0, 10, 13, 13)])
theorem hy_x0_blame : yX0_blame.cls ≠ "java/lang/invoke/MethodHandle" ∧ yX0_blame.cls ≠ "java/lang/invoke/VarHandle" ∧ (parseMethodDescriptor yX0_blame.desc).map (fun d => d.parameters.length) = some 4 := by decide +kernel
abbrev mu_x1_init : gM := (yX1_init, cX1_init, 5, none, [])
theorem hy_x1_init : yX1_init.cls ≠ "java/lang/invoke/MethodHandle" ∧ yX1_init.cls ≠ "java/lang/invoke/VarHandle" ∧ (parseMethodDescriptor yX1_init.desc).map (fun d => d.parameters.length) = some 0 := by decide +kernel
abbrev mu_x1_feed : gM := (yX1_feed, cX1_feed, 6, (some .int), [])
theorem hy_x1_feed : yX1_feed.cls ≠ "java/lang/invoke/MethodHandle" ∧ yX1_feed.cls ≠ "java/lang/invoke/VarHandle" ∧ (parseMethodDescriptor yX1_feed.desc).map (fun d => d.parameters.length) = some 5 := by decide +kernel
abbrev mu_x1_word : gM := (yX1_word, cX1_word, 3, none, [])
theorem hy_x1_word : yX1_word.cls ≠ "java/lang/invoke/MethodHandle" ∧ yX1_word.cls ≠ "java/lang/invoke/VarHandle" ∧ (parseMethodDescriptor yX1_word.desc).map (fun d => d.parameters.length) = some 1 := by decide +kernel
abbrev mu_x1_end : gM := (yX1_end, cX1_end, 2, (some .boolean), [])
theorem hy_x1_end : yX1_end.cls ≠ "java/lang/invoke/MethodHandle" ∧ yX1_end.cls ≠ "java/lang/invoke/VarHandle" ∧ (parseMethodDescriptor yX1_end.desc).map (fun d => d.parameters.length) = some 1 := by decide +kernel
abbrev mu_x1_fault : gM := (yX1_fault, cX1_fault, 2, (some .int), [])
theorem hy_x1_fault : yX1_fault.cls ≠ "java/lang/invoke/MethodHandle" ∧ yX1_fault.cls ≠ "java/lang/invoke/VarHandle" ∧ (parseMethodDescriptor yX1_fault.desc).map (fun d => d.parameters.length) = some 1 := by decide +kernel
abbrev mu_x1_drop : gM := (yX1_drop, cX1_drop, 1, (some .int), [])
theorem hy_x1_drop : yX1_drop.cls ≠ "java/lang/invoke/MethodHandle" ∧ yX1_drop.cls ≠ "java/lang/invoke/VarHandle" ∧ (parseMethodDescriptor yX1_drop.desc).map (fun d => d.parameters.length) = some 0 := by decide +kernel
abbrev mu_x1_take : gM := (yX1_take, cX1_take, 1, none, [])
theorem hy_x1_take : yX1_take.cls ≠ "java/lang/invoke/MethodHandle" ∧ yX1_take.cls ≠ "java/lang/invoke/VarHandle" ∧ (parseMethodDescriptor yX1_take.desc).map (fun d => d.parameters.length) = some 0 := by decide +kernel
abbrev mu_x1_head : gM := (yX1_head, cX1_head, 1, (some .int), [])
theorem hy_x1_head : yX1_head.cls ≠ "java/lang/invoke/MethodHandle" ∧ yX1_head.cls ≠ "java/lang/invoke/VarHandle" ∧ (parseMethodDescriptor yX1_head.desc).map (fun d => d.parameters.length) = some 0 := by decide +kernel
abbrev mu_x1_forget : gM := (yX1_forget, cX1_forget, 1, none, [])
theorem hy_x1_forget : yX1_forget.cls ≠ "java/lang/invoke/MethodHandle" ∧ yX1_forget.cls ≠ "java/lang/invoke/VarHandle" ∧ (parseMethodDescriptor yX1_forget.desc).map (fun d => d.parameters.length) = some 0 := by decide +kernel
abbrev mu_x1_conflict : gM := (yX1_conflict, cX1_conflict, 4, (some .int), [])
theorem hy_x1_conflict : yX1_conflict.cls ≠ "java/lang/invoke/MethodHandle" ∧ yX1_conflict.cls ≠ "java/lang/invoke/VarHandle" ∧ (parseMethodDescriptor yX1_conflict.desc).map (fun d => d.parameters.length) = some 2 := by decide +kernel
abbrev mu_x1_base : gM := (yX1_base, cX1_base, 3, (some .int), [])
theorem hy_x1_base : yX1_base.cls ≠ "java/lang/invoke/MethodHandle" ∧ yX1_base.cls ≠ "java/lang/invoke/VarHandle" ∧ (parseMethodDescriptor yX1_base.desc).map (fun d => d.parameters.length) = some 2 := by decide +kernel
abbrev mu_x1_difference : gM := (yX1_difference, cX1_difference, 3, (some .int), [])
theorem hy_x1_difference : yX1_difference.cls ≠ "java/lang/invoke/MethodHandle" ∧ yX1_difference.cls ≠ "java/lang/invoke/VarHandle" ∧ (parseMethodDescriptor yX1_difference.desc).map (fun d => d.parameters.length) = some 2 := by decide +kernel
abbrev mu_x1_sheet : gM := (yX1_sheet, cX1_sheet, 4, (some .int), [])
theorem hy_x1_sheet : yX1_sheet.cls ≠ "java/lang/invoke/MethodHandle" ∧ yX1_sheet.cls ≠ "java/lang/invoke/VarHandle" ∧ (parseMethodDescriptor yX1_sheet.desc).map (fun d => d.parameters.length) = some 2 := by decide +kernel
abbrev mu_x1_sheetOf : gM := (yX1_sheetOf, cX1_sheetOf, 2, (some (.object "SheetBranches$Sheet")), [])
theorem hy_x1_sheetOf : yX1_sheetOf.cls ≠ "java/lang/invoke/MethodHandle" ∧ yX1_sheetOf.cls ≠ "java/lang/invoke/VarHandle" ∧ (parseMethodDescriptor yX1_sheetOf.desc).map (fun d => d.parameters.length) = some 1 := by decide +kernel
abbrev mu_x1_kind : gM := (yX1_kind, cX1_kind, 4, (some .int), [])
theorem hy_x1_kind : yX1_kind.cls ≠ "java/lang/invoke/MethodHandle" ∧ yX1_kind.cls ≠ "java/lang/invoke/VarHandle" ∧ (parseMethodDescriptor yX1_kind.desc).map (fun d => d.parameters.length) = some 3 := by decide +kernel
abbrev mu_x1_hasCell : gM := (yX1_hasCell, cX1_hasCell, 5, (some .boolean), [])
theorem hy_x1_hasCell : yX1_hasCell.cls ≠ "java/lang/invoke/MethodHandle" ∧ yX1_hasCell.cls ≠ "java/lang/invoke/VarHandle" ∧ (parseMethodDescriptor yX1_hasCell.desc).map (fun d => d.parameters.length) = some 3 := by decide +kernel
abbrev mu_x1_valuesOf : gM := (yX1_valuesOf, cX1_valuesOf, 2, (some (.object "SheetBranches$Values")), [])
theorem hy_x1_valuesOf : yX1_valuesOf.cls ≠ "java/lang/invoke/MethodHandle" ∧ yX1_valuesOf.cls ≠ "java/lang/invoke/VarHandle" ∧ (parseMethodDescriptor yX1_valuesOf.desc).map (fun d => d.parameters.length) = some 1 := by decide +kernel
abbrev mu_x1_ready : gM := (yX1_ready, cX1_ready, 1, (some (.object "SheetBranches$Values")), [])
theorem hy_x1_ready : yX1_ready.cls ≠ "java/lang/invoke/MethodHandle" ∧ yX1_ready.cls ≠ "java/lang/invoke/VarHandle" ∧ (parseMethodDescriptor yX1_ready.desc).map (fun d => d.parameters.length) = some 0 := by decide +kernel
abbrev mu_x1_two : gM := (yX1_two, cX1_two, 3, none, [])
theorem hy_x1_two : yX1_two.cls ≠ "java/lang/invoke/MethodHandle" ∧ yX1_two.cls ≠ "java/lang/invoke/VarHandle" ∧ (parseMethodDescriptor yX1_two.desc).map (fun d => d.parameters.length) = some 3 := by decide +kernel
abbrev mu_x1_compare : gM := (yX1_compare, cX1_compare, 4, none, [])
theorem hy_x1_compare : yX1_compare.cls ≠ "java/lang/invoke/MethodHandle" ∧ yX1_compare.cls ≠ "java/lang/invoke/VarHandle" ∧ (parseMethodDescriptor yX1_compare.desc).map (fun d => d.parameters.length) = some 3 := by decide +kernel
abbrev mu_x1_reckon : gM := (yX1_reckon, cX1_reckon, 6, none, [])
theorem hy_x1_reckon : yX1_reckon.cls ≠ "java/lang/invoke/MethodHandle" ∧ yX1_reckon.cls ≠ "java/lang/invoke/VarHandle" ∧ (parseMethodDescriptor yX1_reckon.desc).map (fun d => d.parameters.length) = some 3 := by decide +kernel
abbrev mu_x1_value : gM := (yX1_value, cX1_value, 6, (some .long), [])
theorem hy_x1_value : yX1_value.cls ≠ "java/lang/invoke/MethodHandle" ∧ yX1_value.cls ≠ "java/lang/invoke/VarHandle" ∧ (parseMethodDescriptor yX1_value.desc).map (fun d => d.parameters.length) = some 3 := by decide +kernel
abbrev mu_x1_letter : gM := (yX1_letter, cX1_letter, 7, (some .int), [])
theorem hy_x1_letter : yX1_letter.cls ≠ "java/lang/invoke/MethodHandle" ∧ yX1_letter.cls ≠ "java/lang/invoke/VarHandle" ∧ (parseMethodDescriptor yX1_letter.desc).map (fun d => d.parameters.length) = some 4 := by decide +kernel
abbrev mu_x1_written : gM := (yX1_written, cX1_written, 7, (some .int), [])
theorem hy_x1_written : yX1_written.cls ≠ "java/lang/invoke/MethodHandle" ∧ yX1_written.cls ≠ "java/lang/invoke/VarHandle" ∧ (parseMethodDescriptor yX1_written.desc).map (fun d => d.parameters.length) = some 4 := by decide +kernel
abbrev mu_x1_total : gM := (yX1_total, cX1_total, 2, (some .int), [])
theorem hy_x1_total : yX1_total.cls ≠ "java/lang/invoke/MethodHandle" ∧ yX1_total.cls ≠ "java/lang/invoke/VarHandle" ∧ (parseMethodDescriptor yX1_total.desc).map (fun d => d.parameters.length) = some 1 := by decide +kernel
abbrev mu_x1_unsettled : gM := (yX1_unsettled, cX1_unsettled, 3, (some .int), [])
theorem hy_x1_unsettled : yX1_unsettled.cls ≠ "java/lang/invoke/MethodHandle" ∧ yX1_unsettled.cls ≠ "java/lang/invoke/VarHandle" ∧ (parseMethodDescriptor yX1_unsettled.desc).map (fun d => d.parameters.length) = some 0 := by decide +kernel
abbrev mu_x1_isAlike : gM := (yX1_isAlike, cX1_isAlike, 2, (some .boolean), [])
theorem hy_x1_isAlike : yX1_isAlike.cls ≠ "java/lang/invoke/MethodHandle" ∧ yX1_isAlike.cls ≠ "java/lang/invoke/VarHandle" ∧ (parseMethodDescriptor yX1_isAlike.desc).map (fun d => d.parameters.length) = some 2 := by decide +kernel
abbrev mu_x1_enter : gM := (yX1_enter, cX1_enter, 6, (some .int), [(44, 64, 67, 252)])
theorem hy_x1_enter : yX1_enter.cls ≠ "java/lang/invoke/MethodHandle" ∧ yX1_enter.cls ≠ "java/lang/invoke/VarHandle" ∧ (parseMethodDescriptor yX1_enter.desc).map (fun d => d.parameters.length) = some 2 := by decide +kernel
abbrev mu_x1_step : gM := (yX1_step, cX1_step, 2, none, [])
theorem hy_x1_step : yX1_step.cls ≠ "java/lang/invoke/MethodHandle" ∧ yX1_step.cls ≠ "java/lang/invoke/VarHandle" ∧ (parseMethodDescriptor yX1_step.desc).map (fun d => d.parameters.length) = some 0 := by decide +kernel
abbrev mu_x1_erase : gM := (yX1_erase, cX1_erase, 8, (some .int), [])
theorem hy_x1_erase : yX1_erase.cls ≠ "java/lang/invoke/MethodHandle" ∧ yX1_erase.cls ≠ "java/lang/invoke/VarHandle" ∧ (parseMethodDescriptor yX1_erase.desc).map (fun d => d.parameters.length) = some 4 := by decide +kernel
abbrev mu_x1_look : gM := (yX1_look, cX1_look, 5, none, [])
theorem hy_x1_look : yX1_look.cls ≠ "java/lang/invoke/MethodHandle" ∧ yX1_look.cls ≠ "java/lang/invoke/VarHandle" ∧ (parseMethodDescriptor yX1_look.desc).map (fun d => d.parameters.length) = some 4 := by decide +kernel
abbrev mu_x1_insert : gM := (yX1_insert, cX1_insert, 5, (some .int), [])
theorem hy_x1_insert : yX1_insert.cls ≠ "java/lang/invoke/MethodHandle" ∧ yX1_insert.cls ≠ "java/lang/invoke/VarHandle" ∧ (parseMethodDescriptor yX1_insert.desc).map (fun d => d.parameters.length) = some 2 := by decide +kernel
abbrev mu_x1_marksOf : gM := (yX1_marksOf, cX1_marksOf, 2, (some (.array .int)), [])
theorem hy_x1_marksOf : yX1_marksOf.cls ≠ "java/lang/invoke/MethodHandle" ∧ yX1_marksOf.cls ≠ "java/lang/invoke/VarHandle" ∧ (parseMethodDescriptor yX1_marksOf.desc).map (fun d => d.parameters.length) = some 1 := by decide +kernel
abbrev mu_x1_with : gM := (yX1_with, cX1_with, 4, (some (.array .int)), [])
theorem hy_x1_with : yX1_with.cls ≠ "java/lang/invoke/MethodHandle" ∧ yX1_with.cls ≠ "java/lang/invoke/VarHandle" ∧ (parseMethodDescriptor yX1_with.desc).map (fun d => d.parameters.length) = some 3 := by decide +kernel
abbrev mu_x1_remove : gM := (yX1_remove, cX1_remove, 4, (some .int), [])
theorem hy_x1_remove : yX1_remove.cls ≠ "java/lang/invoke/MethodHandle" ∧ yX1_remove.cls ≠ "java/lang/invoke/VarHandle" ∧ (parseMethodDescriptor yX1_remove.desc).map (fun d => d.parameters.length) = some 2 := by decide +kernel
abbrev mu_x1_without : gM := (yX1_without, cX1_without, 3, (some (.array .int)), [])
theorem hy_x1_without : yX1_without.cls ≠ "java/lang/invoke/MethodHandle" ∧ yX1_without.cls ≠ "java/lang/invoke/VarHandle" ∧ (parseMethodDescriptor yX1_without.desc).map (fun d => d.parameters.length) = some 2 := by decide +kernel
abbrev mu_x1_move : gM := (yX1_move, cX1_move, 5, (some .int), [])
theorem hy_x1_move : yX1_move.cls ≠ "java/lang/invoke/MethodHandle" ∧ yX1_move.cls ≠ "java/lang/invoke/VarHandle" ∧ (parseMethodDescriptor yX1_move.desc).map (fun d => d.parameters.length) = some 3 := by decide +kernel
abbrev mu_x1_copy : gM := (yX1_copy, cX1_copy, 15, (some .int), [])
theorem hy_x1_copy : yX1_copy.cls ≠ "java/lang/invoke/MethodHandle" ∧ yX1_copy.cls ≠ "java/lang/invoke/VarHandle" ∧ (parseMethodDescriptor yX1_copy.desc).map (fun d => d.parameters.length) = some 6 := by decide +kernel
abbrev mu_x1_sort : gM := (yX1_sort, cX1_sort, 10, (some .int), [])
theorem hy_x1_sort : yX1_sort.cls ≠ "java/lang/invoke/MethodHandle" ∧ yX1_sort.cls ≠ "java/lang/invoke/VarHandle" ∧ (parseMethodDescriptor yX1_sort.desc).map (fun d => d.parameters.length) = some 4 := by decide +kernel
abbrev mu_x1_against : gM := (yX1_against, cX1_against, 7, (some .int), [])
theorem hy_x1_against : yX1_against.cls ≠ "java/lang/invoke/MethodHandle" ∧ yX1_against.cls ≠ "java/lang/invoke/VarHandle" ∧ (parseMethodDescriptor yX1_against.desc).map (fun d => d.parameters.length) = some 4 := by decide +kernel
abbrev mu_x1_rankOf : gM := (yX1_rankOf, cX1_rankOf, 1, (some .int), [])
theorem hy_x1_rankOf : yX1_rankOf.cls ≠ "java/lang/invoke/MethodHandle" ∧ yX1_rankOf.cls ≠ "java/lang/invoke/VarHandle" ∧ (parseMethodDescriptor yX1_rankOf.desc).map (fun d => d.parameters.length) = some 1 := by decide +kernel
abbrev mu_x1_undo : gM := (yX1_undo, cX1_undo, 1, (some .int), [])
theorem hy_x1_undo : yX1_undo.cls ≠ "java/lang/invoke/MethodHandle" ∧ yX1_undo.cls ≠ "java/lang/invoke/VarHandle" ∧ (parseMethodDescriptor yX1_undo.desc).map (fun d => d.parameters.length) = some 0 := by decide +kernel
abbrev mu_x1_redo : gM := (yX1_redo, cX1_redo, 1, (some .int), [])
theorem hy_x1_redo : yX1_redo.cls ≠ "java/lang/invoke/MethodHandle" ∧ yX1_redo.cls ≠ "java/lang/invoke/VarHandle" ∧ (parseMethodDescriptor yX1_redo.desc).map (fun d => d.parameters.length) = some 0 := by decide +kernel
abbrev mu_x1_commit : gM := (yX1_commit, cX1_commit, 4, (some .int), [])
theorem hy_x1_commit : yX1_commit.cls ≠ "java/lang/invoke/MethodHandle" ∧ yX1_commit.cls ≠ "java/lang/invoke/VarHandle" ∧ (parseMethodDescriptor yX1_commit.desc).map (fun d => d.parameters.length) = some 0 := by decide +kernel
abbrev mu_x1_branch : gM := (yX1_branch, cX1_branch, 2, (some .int), [])
theorem hy_x1_branch : yX1_branch.cls ≠ "java/lang/invoke/MethodHandle" ∧ yX1_branch.cls ≠ "java/lang/invoke/VarHandle" ∧ (parseMethodDescriptor yX1_branch.desc).map (fun d => d.parameters.length) = some 1 := by decide +kernel
abbrev mu_x1_isBranch : gM := (yX1_isBranch, cX1_isBranch, 1, (some .boolean), [])
theorem hy_x1_isBranch : yX1_isBranch.cls ≠ "java/lang/invoke/MethodHandle" ∧ yX1_isBranch.cls ≠ "java/lang/invoke/VarHandle" ∧ (parseMethodDescriptor yX1_isBranch.desc).map (fun d => d.parameters.length) = some 1 := by decide +kernel
abbrev mu_x1_go : gM := (yX1_go, cX1_go, 2, (some .int), [])
theorem hy_x1_go : yX1_go.cls ≠ "java/lang/invoke/MethodHandle" ∧ yX1_go.cls ≠ "java/lang/invoke/VarHandle" ∧ (parseMethodDescriptor yX1_go.desc).map (fun d => d.parameters.length) = some 1 := by decide +kernel
abbrev mu_x1_isBusy : gM := (yX1_isBusy, cX1_isBusy, 1, (some .boolean), [])
theorem hy_x1_isBusy : yX1_isBusy.cls ≠ "java/lang/invoke/MethodHandle" ∧ yX1_isBusy.cls ≠ "java/lang/invoke/VarHandle" ∧ (parseMethodDescriptor yX1_isBusy.desc).map (fun d => d.parameters.length) = some 0 := by decide +kernel
abbrev mu_x1_merge : gM := (yX1_merge, cX1_merge, 4, (some .int), [])
theorem hy_x1_merge : yX1_merge.cls ≠ "java/lang/invoke/MethodHandle" ∧ yX1_merge.cls ≠ "java/lang/invoke/VarHandle" ∧ (parseMethodDescriptor yX1_merge.desc).map (fun d => d.parameters.length) = some 1 := by decide +kernel
abbrev mu_x1_weave : gM := (yX1_weave, cX1_weave, 4, (some .int), [])
theorem hy_x1_weave : yX1_weave.cls ≠ "java/lang/invoke/MethodHandle" ∧ yX1_weave.cls ≠ "java/lang/invoke/VarHandle" ∧ (parseMethodDescriptor yX1_weave.desc).map (fun d => d.parameters.length) = some 2 := by decide +kernel
abbrev mu_x1_pick : gM := (yX1_pick, cX1_pick, 2, (some .int), [])
theorem hy_x1_pick : yX1_pick.cls ≠ "java/lang/invoke/MethodHandle" ∧ yX1_pick.cls ≠ "java/lang/invoke/VarHandle" ∧ (parseMethodDescriptor yX1_pick.desc).map (fun d => d.parameters.length) = some 1 := by decide +kernel
abbrev mu_x1_choose : gM := (yX1_choose, cX1_choose, 6, (some .int), [])
theorem hy_x1_choose : yX1_choose.cls ≠ "java/lang/invoke/MethodHandle" ∧ yX1_choose.cls ≠ "java/lang/invoke/VarHandle" ∧ (parseMethodDescriptor yX1_choose.desc).map (fun d => d.parameters.length) = some 2 := by decide +kernel
abbrev mu_x1_diff : gM := (yX1_diff, cX1_diff, 9, (some .int), [])
theorem hy_x1_diff : yX1_diff.cls ≠ "java/lang/invoke/MethodHandle" ∧ yX1_diff.cls ≠ "java/lang/invoke/VarHandle" ∧ (parseMethodDescriptor yX1_diff.desc).map (fun d => d.parameters.length) = some 2 := by decide +kernel
abbrev mu_x1_differAlone : gM := (yX1_differAlone, cX1_differAlone, 7, none, [])
theorem hy_x1_differAlone : yX1_differAlone.cls ≠ "java/lang/invoke/MethodHandle" ∧ yX1_differAlone.cls ≠ "java/lang/invoke/VarHandle" ∧ (parseMethodDescriptor yX1_differAlone.desc).map (fun d => d.parameters.length) = some 4 := by decide +kernel
abbrev mu_x1_differ : gM := (yX1_differ, cX1_differ, 4, none, [])
theorem hy_x1_differ : yX1_differ.cls ≠ "java/lang/invoke/MethodHandle" ∧ yX1_differ.cls ≠ "java/lang/invoke/VarHandle" ∧ (parseMethodDescriptor yX1_differ.desc).map (fun d => d.parameters.length) = some 3 := by decide +kernel
abbrev mu_x1_differInOrder : gM := (yX1_differInOrder, cX1_differInOrder, 8, none, [])
theorem hy_x1_differInOrder : yX1_differInOrder.cls ≠ "java/lang/invoke/MethodHandle" ∧ yX1_differInOrder.cls ≠ "java/lang/invoke/VarHandle" ∧ (parseMethodDescriptor yX1_differInOrder.desc).map (fun d => d.parameters.length) = some 3 := by decide +kernel
abbrev mu_x1_blame : gM := (yX1_blame, cX1_blame, 10, (some .int), [])
theorem hy_x1_blame : yX1_blame.cls ≠ "java/lang/invoke/MethodHandle" ∧ yX1_blame.cls ≠ "java/lang/invoke/VarHandle" ∧ (parseMethodDescriptor yX1_blame.desc).map (fun d => d.parameters.length) = some 2 := by decide +kernel
abbrev mu_x1_has : gM := (yX1_has, cX1_has, 6, (some .boolean), [])
theorem hy_x1_has : yX1_has.cls ≠ "java/lang/invoke/MethodHandle" ∧ yX1_has.cls ≠ "java/lang/invoke/VarHandle" ∧ (parseMethodDescriptor yX1_has.desc).map (fun d => d.parameters.length) = some 4 := by decide +kernel
abbrev mu_x10_init : gM := (yX10_init, cX10_init, 6, none, [])
theorem hy_x10_init : yX10_init.cls ≠ "java/lang/invoke/MethodHandle" ∧ yX10_init.cls ≠ "java/lang/invoke/VarHandle" ∧ (parseMethodDescriptor yX10_init.desc).map (fun d => d.parameters.length) = some 4 := by decide +kernel
abbrev mu_x11_init : gM := (yX11_init, cX11_init, 2, none, [])
theorem hy_x11_init : yX11_init.cls ≠ "java/lang/invoke/MethodHandle" ∧ yX11_init.cls ≠ "java/lang/invoke/VarHandle" ∧ (parseMethodDescriptor yX11_init.desc).map (fun d => d.parameters.length) = some 0 := by decide +kernel
abbrev mu_tw_copySheet : gM := (yX11_copySheet, cX11_copySheet, 4, none, [])
theorem hy_tw_copySheet : yX11_copySheet.cls ≠ "java/lang/invoke/MethodHandle" ∧ yX11_copySheet.cls ≠ "java/lang/invoke/VarHandle" ∧ (parseMethodDescriptor yX11_copySheet.desc).map (fun d => d.parameters.length) = some 2 := by decide +kernel
abbrev mu_tw_thrown : gM := (yX11_thrown, cX11_thrown, 1, (some .int), [])
theorem hy_tw_thrown : yX11_thrown.cls ≠ "java/lang/invoke/MethodHandle" ∧ yX11_thrown.cls ≠ "java/lang/invoke/VarHandle" ∧ (parseMethodDescriptor yX11_thrown.desc).map (fun d => d.parameters.length) = some 0 := by decide +kernel
abbrev mu_tw_undo : gM := (yX11_undo, cX11_undo, 1, (some .int), [])
theorem hy_tw_undo : yX11_undo.cls ≠ "java/lang/invoke/MethodHandle" ∧ yX11_undo.cls ≠ "java/lang/invoke/VarHandle" ∧ (parseMethodDescriptor yX11_undo.desc).map (fun d => d.parameters.length) = some 0 := by decide +kernel
abbrev mu_tw_throwing : gM := (yX11_throwing, cX11_throwing, 2, (some .int), [])
theorem hy_tw_throwing : yX11_throwing.cls ≠ "java/lang/invoke/MethodHandle" ∧ yX11_throwing.cls ≠ "java/lang/invoke/VarHandle" ∧ (parseMethodDescriptor yX11_throwing.desc).map (fun d => d.parameters.length) = some 1 := by decide +kernel
abbrev mu_tw_stepAt : gM := (yX11_stepAt, cX11_stepAt, 2, (some .int), [])
theorem hy_tw_stepAt : yX11_stepAt.cls ≠ "java/lang/invoke/MethodHandle" ∧ yX11_stepAt.cls ≠ "java/lang/invoke/VarHandle" ∧ (parseMethodDescriptor yX11_stepAt.desc).map (fun d => d.parameters.length) = some 1 := by decide +kernel
abbrev mu_tw_redo : gM := (yX11_redo, cX11_redo, 1, (some .int), [])
theorem hy_tw_redo : yX11_redo.cls ≠ "java/lang/invoke/MethodHandle" ∧ yX11_redo.cls ≠ "java/lang/invoke/VarHandle" ∧ (parseMethodDescriptor yX11_redo.desc).map (fun d => d.parameters.length) = some 0 := by decide +kernel
abbrev mu_tw_feed : gM := (yX11_feed, cX11_feed, 8, (some .int), [])
theorem hy_tw_feed : yX11_feed.cls ≠ "java/lang/invoke/MethodHandle" ∧ yX11_feed.cls ≠ "java/lang/invoke/VarHandle" ∧ (parseMethodDescriptor yX11_feed.desc).map (fun d => d.parameters.length) = some 5 := by decide +kernel
abbrev mu_tw_end : gM := (yX11_end, cX11_end, 3, (some .boolean), [])
theorem hy_tw_end : yX11_end.cls ≠ "java/lang/invoke/MethodHandle" ∧ yX11_end.cls ≠ "java/lang/invoke/VarHandle" ∧ (parseMethodDescriptor yX11_end.desc).map (fun d => d.parameters.length) = some 1 := by decide +kernel
abbrev mu_tw_in : gM := (yX11_in, cX11_in, 3, (some .boolean), [])
theorem hy_tw_in : yX11_in.cls ≠ "java/lang/invoke/MethodHandle" ∧ yX11_in.cls ≠ "java/lang/invoke/VarHandle" ∧ (parseMethodDescriptor yX11_in.desc).map (fun d => d.parameters.length) = some 3 := by decide +kernel
abbrev mu_tw_enter : gM := (yX11_enter, cX11_enter, 6, (some .int), [])
theorem hy_tw_enter : yX11_enter.cls ≠ "java/lang/invoke/MethodHandle" ∧ yX11_enter.cls ≠ "java/lang/invoke/VarHandle" ∧ (parseMethodDescriptor yX11_enter.desc).map (fun d => d.parameters.length) = some 2 := by decide +kernel
abbrev mu_tw_isCell : gM := (yX11_isCell, cX11_isCell, 4, (some .boolean), [])
theorem hy_tw_isCell : yX11_isCell.cls ≠ "java/lang/invoke/MethodHandle" ∧ yX11_isCell.cls ≠ "java/lang/invoke/VarHandle" ∧ (parseMethodDescriptor yX11_isCell.desc).map (fun d => d.parameters.length) = some 3 := by decide +kernel
abbrev mu_tw_readFormula : gM := (yX11_readFormula, cX11_readFormula, 1, none, [])
theorem hy_tw_readFormula : yX11_readFormula.cls ≠ "java/lang/invoke/MethodHandle" ∧ yX11_readFormula.cls ≠ "java/lang/invoke/VarHandle" ∧ (parseMethodDescriptor yX11_readFormula.desc).map (fun d => d.parameters.length) = some 0 := by decide +kernel
abbrev mu_tw_next : gM := (yX11_next, cX11_next, 2, none, [])
theorem hy_tw_next : yX11_next.cls ≠ "java/lang/invoke/MethodHandle" ∧ yX11_next.cls ≠ "java/lang/invoke/VarHandle" ∧ (parseMethodDescriptor yX11_next.desc).map (fun d => d.parameters.length) = some 0 := by decide +kernel
abbrev mu_tw_byteAt : gM := (yX11_byteAt, cX11_byteAt, 2, (some .int), [])
theorem hy_tw_byteAt : yX11_byteAt.cls ≠ "java/lang/invoke/MethodHandle" ∧ yX11_byteAt.cls ≠ "java/lang/invoke/VarHandle" ∧ (parseMethodDescriptor yX11_byteAt.desc).map (fun d => d.parameters.length) = some 1 := by decide +kernel
abbrev mu_tw_is : gM := (yX11_is, cX11_is, 3, none, [])
theorem hy_tw_is : yX11_is.cls ≠ "java/lang/invoke/MethodHandle" ∧ yX11_is.cls ≠ "java/lang/invoke/VarHandle" ∧ (parseMethodDescriptor yX11_is.desc).map (fun d => d.parameters.length) = some 2 := by decide +kernel
abbrev mu_tw_isDigit : gM := (yX11_isDigit, cX11_isDigit, 1, (some .boolean), [])
theorem hy_tw_isDigit : yX11_isDigit.cls ≠ "java/lang/invoke/MethodHandle" ∧ yX11_isDigit.cls ≠ "java/lang/invoke/VarHandle" ∧ (parseMethodDescriptor yX11_isDigit.desc).map (fun d => d.parameters.length) = some 1 := by decide +kernel
abbrev mu_tw_numberToken : gM := (yX11_numberToken, cX11_numberToken, 2, none, [])
theorem hy_tw_numberToken : yX11_numberToken.cls ≠ "java/lang/invoke/MethodHandle" ∧ yX11_numberToken.cls ≠ "java/lang/invoke/VarHandle" ∧ (parseMethodDescriptor yX11_numberToken.desc).map (fun d => d.parameters.length) = some 0 := by decide +kernel
abbrev mu_tw_textToken : gM := (yX11_textToken, cX11_textToken, 3, none, [])
theorem hy_tw_textToken : yX11_textToken.cls ≠ "java/lang/invoke/MethodHandle" ∧ yX11_textToken.cls ≠ "java/lang/invoke/VarHandle" ∧ (parseMethodDescriptor yX11_textToken.desc).map (fun d => d.parameters.length) = some 0 := by decide +kernel
abbrev mu_tw_isSign : gM := (yX11_isSign, cX11_isSign, 1, (some .boolean), [])
theorem hy_tw_isSign : yX11_isSign.cls ≠ "java/lang/invoke/MethodHandle" ∧ yX11_isSign.cls ≠ "java/lang/invoke/VarHandle" ∧ (parseMethodDescriptor yX11_isSign.desc).map (fun d => d.parameters.length) = some 1 := by decide +kernel
abbrev mu_tw_isLetter : gM := (yX11_isLetter, cX11_isLetter, 1, (some .boolean), [])
theorem hy_tw_isLetter : yX11_isLetter.cls ≠ "java/lang/invoke/MethodHandle" ∧ yX11_isLetter.cls ≠ "java/lang/invoke/VarHandle" ∧ (parseMethodDescriptor yX11_isLetter.desc).map (fun d => d.parameters.length) = some 1 := by decide +kernel
abbrev mu_tw_wordToken : gM := (yX11_wordToken, cX11_wordToken, 3, none, [])
theorem hy_tw_wordToken : yX11_wordToken.cls ≠ "java/lang/invoke/MethodHandle" ∧ yX11_wordToken.cls ≠ "java/lang/invoke/VarHandle" ∧ (parseMethodDescriptor yX11_wordToken.desc).map (fun d => d.parameters.length) = some 1 := by decide +kernel
abbrev mu_tw_corner : gM := (yX11_corner, cX11_corner, 7, (some .boolean), [])
theorem hy_tw_corner : yX11_corner.cls ≠ "java/lang/invoke/MethodHandle" ∧ yX11_corner.cls ≠ "java/lang/invoke/VarHandle" ∧ (parseMethodDescriptor yX11_corner.desc).map (fun d => d.parameters.length) = some 1 := by decide +kernel
abbrev mu_tw_isWord : gM := (yX11_isWord, cX11_isWord, 5, (some .boolean), [])
theorem hy_tw_isWord : yX11_isWord.cls ≠ "java/lang/invoke/MethodHandle" ∧ yX11_isWord.cls ≠ "java/lang/invoke/VarHandle" ∧ (parseMethodDescriptor yX11_isWord.desc).map (fun d => d.parameters.length) = some 3 := by decide +kernel
abbrev mu_tw_signToken : gM := (yX11_signToken, cX11_signToken, 3, none, [])
theorem hy_tw_signToken : yX11_signToken.cls ≠ "java/lang/invoke/MethodHandle" ∧ yX11_signToken.cls ≠ "java/lang/invoke/VarHandle" ∧ (parseMethodDescriptor yX11_signToken.desc).map (fun d => d.parameters.length) = some 1 := by decide +kernel
abbrev mu_tw_sign : gM := (yX11_sign, cX11_sign, 3, none, [])
theorem hy_tw_sign : yX11_sign.cls ≠ "java/lang/invoke/MethodHandle" ∧ yX11_sign.cls ≠ "java/lang/invoke/VarHandle" ∧ (parseMethodDescriptor yX11_sign.desc).map (fun d => d.parameters.length) = some 2 := by decide +kernel
abbrev mu_tw_readTest : gM := (yX11_readTest, cX11_readTest, 2, none, [])
theorem hy_tw_readTest : yX11_readTest.cls ≠ "java/lang/invoke/MethodHandle" ∧ yX11_readTest.cls ≠ "java/lang/invoke/VarHandle" ∧ (parseMethodDescriptor yX11_readTest.desc).map (fun d => d.parameters.length) = some 0 := by decide +kernel
abbrev mu_tw_readChain : gM := (yX11_readChain, cX11_readChain, 1, none, [])
theorem hy_tw_readChain : yX11_readChain.cls ≠ "java/lang/invoke/MethodHandle" ∧ yX11_readChain.cls ≠ "java/lang/invoke/VarHandle" ∧ (parseMethodDescriptor yX11_readChain.desc).map (fun d => d.parameters.length) = some 0 := by decide +kernel
abbrev mu_tw_readSum : gM := (yX11_readSum, cX11_readSum, 2, none, [])
theorem hy_tw_readSum : yX11_readSum.cls ≠ "java/lang/invoke/MethodHandle" ∧ yX11_readSum.cls ≠ "java/lang/invoke/VarHandle" ∧ (parseMethodDescriptor yX11_readSum.desc).map (fun d => d.parameters.length) = some 0 := by decide +kernel
abbrev mu_tw_readProduct : gM := (yX11_readProduct, cX11_readProduct, 2, none, [])
theorem hy_tw_readProduct : yX11_readProduct.cls ≠ "java/lang/invoke/MethodHandle" ∧ yX11_readProduct.cls ≠ "java/lang/invoke/VarHandle" ∧ (parseMethodDescriptor yX11_readProduct.desc).map (fun d => d.parameters.length) = some 0 := by decide +kernel
abbrev mu_tw_readSign : gM := (yX11_readSign, cX11_readSign, 1, none, [])
theorem hy_tw_readSign : yX11_readSign.cls ≠ "java/lang/invoke/MethodHandle" ∧ yX11_readSign.cls ≠ "java/lang/invoke/VarHandle" ∧ (parseMethodDescriptor yX11_readSign.desc).map (fun d => d.parameters.length) = some 0 := by decide +kernel
abbrev mu_tw_isSignOf : gM := (yX11_isSignOf, cX11_isSignOf, 3, (some .boolean), [])
theorem hy_tw_isSignOf : yX11_isSignOf.cls ≠ "java/lang/invoke/MethodHandle" ∧ yX11_isSignOf.cls ≠ "java/lang/invoke/VarHandle" ∧ (parseMethodDescriptor yX11_isSignOf.desc).map (fun d => d.parameters.length) = some 2 := by decide +kernel
abbrev mu_tw_readAtom : gM := (yX11_readAtom, cX11_readAtom, 1, none, [])
theorem hy_tw_readAtom : yX11_readAtom.cls ≠ "java/lang/invoke/MethodHandle" ∧ yX11_readAtom.cls ≠ "java/lang/invoke/VarHandle" ∧ (parseMethodDescriptor yX11_readAtom.desc).map (fun d => d.parameters.length) = some 0 := by decide +kernel
abbrev mu_tw_readPlain : gM := (yX11_readPlain, cX11_readPlain, 2, none, [])
theorem hy_tw_readPlain : yX11_readPlain.cls ≠ "java/lang/invoke/MethodHandle" ∧ yX11_readPlain.cls ≠ "java/lang/invoke/VarHandle" ∧ (parseMethodDescriptor yX11_readPlain.desc).map (fun d => d.parameters.length) = some 0 := by decide +kernel
abbrev mu_tw_fail : gM := (yX11_fail, cX11_fail, 3, none, [])
theorem hy_tw_fail : yX11_fail.cls ≠ "java/lang/invoke/MethodHandle" ∧ yX11_fail.cls ≠ "java/lang/invoke/VarHandle" ∧ (parseMethodDescriptor yX11_fail.desc).map (fun d => d.parameters.length) = some 2 := by decide +kernel
abbrev mu_tw_part : gM := (yX11_part, cX11_part, 7, (some .int), [])
theorem hy_tw_part : yX11_part.cls ≠ "java/lang/invoke/MethodHandle" ∧ yX11_part.cls ≠ "java/lang/invoke/VarHandle" ∧ (parseMethodDescriptor yX11_part.desc).map (fun d => d.parameters.length) = some 2 := by decide +kernel
abbrev mu_tw_numberFrom : gM := (yX11_numberFrom, cX11_numberFrom, 6, (some .long), [])
theorem hy_tw_numberFrom : yX11_numberFrom.cls ≠ "java/lang/invoke/MethodHandle" ∧ yX11_numberFrom.cls ≠ "java/lang/invoke/VarHandle" ∧ (parseMethodDescriptor yX11_numberFrom.desc).map (fun d => d.parameters.length) = some 2 := by decide +kernel
abbrev mu_tw_kept : gM := (yX11_kept, cX11_kept, 5, (some .int), [])
theorem hy_tw_kept : yX11_kept.cls ≠ "java/lang/invoke/MethodHandle" ∧ yX11_kept.cls ≠ "java/lang/invoke/VarHandle" ∧ (parseMethodDescriptor yX11_kept.desc).map (fun d => d.parameters.length) = some 2 := by decide +kernel
abbrev mu_tw_readWord : gM := (yX11_readWord, cX11_readWord, 4, none, [])
theorem hy_tw_readWord : yX11_readWord.cls ≠ "java/lang/invoke/MethodHandle" ∧ yX11_readWord.cls ≠ "java/lang/invoke/VarHandle" ∧ (parseMethodDescriptor yX11_readWord.desc).map (fun d => d.parameters.length) = some 0 := by decide +kernel
abbrev mu_tw_nameOf : gM := (yX11_nameOf, cX11_nameOf, 1, (some (.object "java/lang/String")), [])
theorem hy_tw_nameOf : yX11_nameOf.cls ≠ "java/lang/invoke/MethodHandle" ∧ yX11_nameOf.cls ≠ "java/lang/invoke/VarHandle" ∧ (parseMethodDescriptor yX11_nameOf.desc).map (fun d => d.parameters.length) = some 1 := by decide +kernel
abbrev mu_tw_readCall : gM := (yX11_readCall, cX11_readCall, 6, none, [])
theorem hy_tw_readCall : yX11_readCall.cls ≠ "java/lang/invoke/MethodHandle" ∧ yX11_readCall.cls ≠ "java/lang/invoke/VarHandle" ∧ (parseMethodDescriptor yX11_readCall.desc).map (fun d => d.parameters.length) = some 1 := by decide +kernel
abbrev mu_tw_opens : gM := (yX11_opens, cX11_opens, 1, (some .boolean), [])
theorem hy_tw_opens : yX11_opens.cls ≠ "java/lang/invoke/MethodHandle" ∧ yX11_opens.cls ≠ "java/lang/invoke/VarHandle" ∧ (parseMethodDescriptor yX11_opens.desc).map (fun d => d.parameters.length) = some 0 := by decide +kernel
abbrev mu_tw_readArea : gM := (yX11_readArea, cX11_readArea, 12, none, [])
theorem hy_tw_readArea : yX11_readArea.cls ≠ "java/lang/invoke/MethodHandle" ∧ yX11_readArea.cls ≠ "java/lang/invoke/VarHandle" ∧ (parseMethodDescriptor yX11_readArea.desc).map (fun d => d.parameters.length) = some 0 := by decide +kernel
abbrev mu_tw_readVersion : gM := (yX11_readVersion, cX11_readVersion, 4, (some .int), [])
theorem hy_tw_readVersion : yX11_readVersion.cls ≠ "java/lang/invoke/MethodHandle" ∧ yX11_readVersion.cls ≠ "java/lang/invoke/VarHandle" ∧ (parseMethodDescriptor yX11_readVersion.desc).map (fun d => d.parameters.length) = some 1 := by decide +kernel
abbrev mu_tw_isThere : gM := (yX11_isThere, cX11_isThere, 4, (some .boolean), [])
theorem hy_tw_isThere : yX11_isThere.cls ≠ "java/lang/invoke/MethodHandle" ∧ yX11_isThere.cls ≠ "java/lang/invoke/VarHandle" ∧ (parseMethodDescriptor yX11_isThere.desc).map (fun d => d.parameters.length) = some 3 := by decide +kernel
abbrev mu_tw_meanOne : gM := (yX11_meanOne, cX11_meanOne, 7, none, [])
theorem hy_tw_meanOne : yX11_meanOne.cls ≠ "java/lang/invoke/MethodHandle" ∧ yX11_meanOne.cls ≠ "java/lang/invoke/VarHandle" ∧ (parseMethodDescriptor yX11_meanOne.desc).map (fun d => d.parameters.length) = some 5 := by decide +kernel
abbrev mu_tw_lineAt : gM := (yX11_lineAt, cX11_lineAt, 4, (some .int), [])
theorem hy_tw_lineAt : yX11_lineAt.cls ≠ "java/lang/invoke/MethodHandle" ∧ yX11_lineAt.cls ≠ "java/lang/invoke/VarHandle" ∧ (parseMethodDescriptor yX11_lineAt.desc).map (fun d => d.parameters.length) = some 3 := by decide +kernel
abbrev mu_tw_later : gM := (yX11_later, cX11_later, 3, none, [])
theorem hy_tw_later : yX11_later.cls ≠ "java/lang/invoke/MethodHandle" ∧ yX11_later.cls ≠ "java/lang/invoke/VarHandle" ∧ (parseMethodDescriptor yX11_later.desc).map (fun d => d.parameters.length) = some 2 := by decide +kernel
abbrev mu_tw_isArg : gM := (yX11_isArg, cX11_isArg, 6, (some .boolean), [])
theorem hy_tw_isArg : yX11_isArg.cls ≠ "java/lang/invoke/MethodHandle" ∧ yX11_isArg.cls ≠ "java/lang/invoke/VarHandle" ∧ (parseMethodDescriptor yX11_isArg.desc).map (fun d => d.parameters.length) = some 3 := by decide +kernel
abbrev mu_tw_isMany : gM := (yX11_isMany, cX11_isMany, 1, (some .boolean), [])
theorem hy_tw_isMany : yX11_isMany.cls ≠ "java/lang/invoke/MethodHandle" ∧ yX11_isMany.cls ≠ "java/lang/invoke/VarHandle" ∧ (parseMethodDescriptor yX11_isMany.desc).map (fun d => d.parameters.length) = some 1 := by decide +kernel
abbrev mu_tw_readShut : gM := (yX11_readShut, cX11_readShut, 1, none, [])
theorem hy_tw_readShut : yX11_readShut.cls ≠ "java/lang/invoke/MethodHandle" ∧ yX11_readShut.cls ≠ "java/lang/invoke/VarHandle" ∧ (parseMethodDescriptor yX11_readShut.desc).map (fun d => d.parameters.length) = some 0 := by decide +kernel
abbrev mu_tw_leastArgs : gM := (yX11_leastArgs, cX11_leastArgs, 1, (some .int), [])
theorem hy_tw_leastArgs : yX11_leastArgs.cls ≠ "java/lang/invoke/MethodHandle" ∧ yX11_leastArgs.cls ≠ "java/lang/invoke/VarHandle" ∧ (parseMethodDescriptor yX11_leastArgs.desc).map (fun d => d.parameters.length) = some 1 := by decide +kernel
abbrev mu_tw_mostArgs : gM := (yX11_mostArgs, cX11_mostArgs, 1, (some .int), [])
theorem hy_tw_mostArgs : yX11_mostArgs.cls ≠ "java/lang/invoke/MethodHandle" ∧ yX11_mostArgs.cls ≠ "java/lang/invoke/VarHandle" ∧ (parseMethodDescriptor yX11_mostArgs.desc).map (fun d => d.parameters.length) = some 1 := by decide +kernel
abbrev mu_tw_readSpot : gM := (yX11_readSpot, cX11_readSpot, 7, none, [])
theorem hy_tw_readSpot : yX11_readSpot.cls ≠ "java/lang/invoke/MethodHandle" ∧ yX11_readSpot.cls ≠ "java/lang/invoke/VarHandle" ∧ (parseMethodDescriptor yX11_readSpot.desc).map (fun d => d.parameters.length) = some 0 := by decide +kernel
abbrev mu_tw_plainEntered : gM := (yX11_plainEntered, cX11_plainEntered, 5, (some .int), [])
theorem hy_tw_plainEntered : yX11_plainEntered.cls ≠ "java/lang/invoke/MethodHandle" ∧ yX11_plainEntered.cls ≠ "java/lang/invoke/VarHandle" ∧ (parseMethodDescriptor yX11_plainEntered.desc).map (fun d => d.parameters.length) = some 0 := by decide +kernel
abbrev mu_tw_isNumber : gM := (yX11_isNumber, cX11_isNumber, 5, (some .boolean), [])
theorem hy_tw_isNumber : yX11_isNumber.cls ≠ "java/lang/invoke/MethodHandle" ∧ yX11_isNumber.cls ≠ "java/lang/invoke/VarHandle" ∧ (parseMethodDescriptor yX11_isNumber.desc).map (fun d => d.parameters.length) = some 2 := by decide +kernel
abbrev mu_tw_plain : gM := (yX11_plain, cX11_plain, 6, (some .int), [])
theorem hy_tw_plain : yX11_plain.cls ≠ "java/lang/invoke/MethodHandle" ∧ yX11_plain.cls ≠ "java/lang/invoke/VarHandle" ∧ (parseMethodDescriptor yX11_plain.desc).map (fun d => d.parameters.length) = some 4 := by decide +kernel
abbrev mu_tw_step : gM := (yX11_step, cX11_step, 2, (some .int), [])
theorem hy_tw_step : yX11_step.cls ≠ "java/lang/invoke/MethodHandle" ∧ yX11_step.cls ≠ "java/lang/invoke/VarHandle" ∧ (parseMethodDescriptor yX11_step.desc).map (fun d => d.parameters.length) = some 0 := by decide +kernel
abbrev mu_tw_setCell : gM := (yX11_setCell, cX11_setCell, 4, none, [])
theorem hy_tw_setCell : yX11_setCell.cls ≠ "java/lang/invoke/MethodHandle" ∧ yX11_setCell.cls ≠ "java/lang/invoke/VarHandle" ∧ (parseMethodDescriptor yX11_setCell.desc).map (fun d => d.parameters.length) = some 3 := by decide +kernel
abbrev mu_tw_fault : gM := (yX11_fault, cX11_fault, 2, (some .int), [])
theorem hy_tw_fault : yX11_fault.cls ≠ "java/lang/invoke/MethodHandle" ∧ yX11_fault.cls ≠ "java/lang/invoke/VarHandle" ∧ (parseMethodDescriptor yX11_fault.desc).map (fun d => d.parameters.length) = some 1 := by decide +kernel
abbrev mu_tw_kind : gM := (yX11_kind, cX11_kind, 5, (some .int), [])
theorem hy_tw_kind : yX11_kind.cls ≠ "java/lang/invoke/MethodHandle" ∧ yX11_kind.cls ≠ "java/lang/invoke/VarHandle" ∧ (parseMethodDescriptor yX11_kind.desc).map (fun d => d.parameters.length) = some 3 := by decide +kernel
abbrev mu_tw_asked : gM := (yX11_asked, cX11_asked, 4, (some .int), [])
theorem hy_tw_asked : yX11_asked.cls ≠ "java/lang/invoke/MethodHandle" ∧ yX11_asked.cls ≠ "java/lang/invoke/VarHandle" ∧ (parseMethodDescriptor yX11_asked.desc).map (fun d => d.parameters.length) = some 3 := by decide +kernel
abbrev mu_tw_isSheet : gM := (yX11_isSheet, cX11_isSheet, 2, (some .boolean), [])
theorem hy_tw_isSheet : yX11_isSheet.cls ≠ "java/lang/invoke/MethodHandle" ∧ yX11_isSheet.cls ≠ "java/lang/invoke/VarHandle" ∧ (parseMethodDescriptor yX11_isSheet.desc).map (fun d => d.parameters.length) = some 1 := by decide +kernel
abbrev mu_tw_sheetAt : gM := (yX11_sheetAt, cX11_sheetAt, 1, (some .int), [])
theorem hy_tw_sheetAt : yX11_sheetAt.cls ≠ "java/lang/invoke/MethodHandle" ∧ yX11_sheetAt.cls ≠ "java/lang/invoke/VarHandle" ∧ (parseMethodDescriptor yX11_sheetAt.desc).map (fun d => d.parameters.length) = some 1 := by decide +kernel
abbrev mu_tw_needValues : gM := (yX11_needValues, cX11_needValues, 4, none, [])
theorem hy_tw_needValues : yX11_needValues.cls ≠ "java/lang/invoke/MethodHandle" ∧ yX11_needValues.cls ≠ "java/lang/invoke/VarHandle" ∧ (parseMethodDescriptor yX11_needValues.desc).map (fun d => d.parameters.length) = some 1 := by decide +kernel
abbrev mu_tw_valuesOf : gM := (yX11_valuesOf, cX11_valuesOf, 4, none, [])
theorem hy_tw_valuesOf : yX11_valuesOf.cls ≠ "java/lang/invoke/MethodHandle" ∧ yX11_valuesOf.cls ≠ "java/lang/invoke/VarHandle" ∧ (parseMethodDescriptor yX11_valuesOf.desc).map (fun d => d.parameters.length) = some 1 := by decide +kernel
abbrev mu_tw_isFormula : gM := (yX11_isFormula, cX11_isFormula, 1, (some .boolean), [])
theorem hy_tw_isFormula : yX11_isFormula.cls ≠ "java/lang/invoke/MethodHandle" ∧ yX11_isFormula.cls ≠ "java/lang/invoke/VarHandle" ∧ (parseMethodDescriptor yX11_isFormula.desc).map (fun d => d.parameters.length) = some 1 := by decide +kernel
abbrev mu_tw_leadsOf : gM := (yX11_leadsOf, cX11_leadsOf, 7, none, [])
theorem hy_tw_leadsOf : yX11_leadsOf.cls ≠ "java/lang/invoke/MethodHandle" ∧ yX11_leadsOf.cls ≠ "java/lang/invoke/VarHandle" ∧ (parseMethodDescriptor yX11_leadsOf.desc).map (fun d => d.parameters.length) = some 2 := by decide +kernel
abbrev mu_tw_spotCell : gM := (yX11_spotCell, cX11_spotCell, 6, (some .int), [])
theorem hy_tw_spotCell : yX11_spotCell.cls ≠ "java/lang/invoke/MethodHandle" ∧ yX11_spotCell.cls ≠ "java/lang/invoke/VarHandle" ∧ (parseMethodDescriptor yX11_spotCell.desc).map (fun d => d.parameters.length) = some 2 := by decide +kernel
abbrev mu_tw_sheetOf : gM := (yX11_sheetOf, cX11_sheetOf, 3, (some .int), [])
theorem hy_tw_sheetOf : yX11_sheetOf.cls ≠ "java/lang/invoke/MethodHandle" ∧ yX11_sheetOf.cls ≠ "java/lang/invoke/VarHandle" ∧ (parseMethodDescriptor yX11_sheetOf.desc).map (fun d => d.parameters.length) = some 2 := by decide +kernel
abbrev mu_tw_placeOf : gM := (yX11_placeOf, cX11_placeOf, 5, (some .int), [])
theorem hy_tw_placeOf : yX11_placeOf.cls ≠ "java/lang/invoke/MethodHandle" ∧ yX11_placeOf.cls ≠ "java/lang/invoke/VarHandle" ∧ (parseMethodDescriptor yX11_placeOf.desc).map (fun d => d.parameters.length) = some 3 := by decide +kernel
abbrev mu_tw_linesOf : gM := (yX11_linesOf, cX11_linesOf, 3, (some .int), [])
theorem hy_tw_linesOf : yX11_linesOf.cls ≠ "java/lang/invoke/MethodHandle" ∧ yX11_linesOf.cls ≠ "java/lang/invoke/VarHandle" ∧ (parseMethodDescriptor yX11_linesOf.desc).map (fun d => d.parameters.length) = some 2 := by decide +kernel
abbrev mu_tw_lead : gM := (yX11_lead, cX11_lead, 3, none, [])
theorem hy_tw_lead : yX11_lead.cls ≠ "java/lang/invoke/MethodHandle" ∧ yX11_lead.cls ≠ "java/lang/invoke/VarHandle" ∧ (parseMethodDescriptor yX11_lead.desc).map (fun d => d.parameters.length) = some 2 := by decide +kernel
abbrev mu_tw_area : gM := (yX11_area, cX11_area, 8, (some .boolean), [])
theorem hy_tw_area : yX11_area.cls ≠ "java/lang/invoke/MethodHandle" ∧ yX11_area.cls ≠ "java/lang/invoke/VarHandle" ∧ (parseMethodDescriptor yX11_area.desc).map (fun d => d.parameters.length) = some 2 := by decide +kernel
abbrev mu_tw_least : gM := (yX11_least, cX11_least, 2, (some .int), [])
theorem hy_tw_least : yX11_least.cls ≠ "java/lang/invoke/MethodHandle" ∧ yX11_least.cls ≠ "java/lang/invoke/VarHandle" ∧ (parseMethodDescriptor yX11_least.desc).map (fun d => d.parameters.length) = some 2 := by decide +kernel
abbrev mu_tw_most : gM := (yX11_most, cX11_most, 2, (some .int), [])
theorem hy_tw_most : yX11_most.cls ≠ "java/lang/invoke/MethodHandle" ∧ yX11_most.cls ≠ "java/lang/invoke/VarHandle" ∧ (parseMethodDescriptor yX11_most.desc).map (fun d => d.parameters.length) = some 2 := by decide +kernel
abbrev mu_tw_areaSize : gM := (yX11_areaSize, cX11_areaSize, 1, (some .int), [])
theorem hy_tw_areaSize : yX11_areaSize.cls ≠ "java/lang/invoke/MethodHandle" ∧ yX11_areaSize.cls ≠ "java/lang/invoke/VarHandle" ∧ (parseMethodDescriptor yX11_areaSize.desc).map (fun d => d.parameters.length) = some 0 := by decide +kernel
abbrev mu_tw_areaCell : gM := (yX11_areaCell, cX11_areaCell, 3, (some .int), [])
theorem hy_tw_areaCell : yX11_areaCell.cls ≠ "java/lang/invoke/MethodHandle" ∧ yX11_areaCell.cls ≠ "java/lang/invoke/VarHandle" ∧ (parseMethodDescriptor yX11_areaCell.desc).map (fun d => d.parameters.length) = some 1 := by decide +kernel
abbrev mu_tw_goesThrough : gM := (yX11_goesThrough, cX11_goesThrough, 2, none, [])
theorem hy_tw_goesThrough : yX11_goesThrough.cls ≠ "java/lang/invoke/MethodHandle" ∧ yX11_goesThrough.cls ≠ "java/lang/invoke/VarHandle" ∧ (parseMethodDescriptor yX11_goesThrough.desc).map (fun d => d.parameters.length) = some 1 := by decide +kernel
abbrev mu_tw_plainValue : gM := (yX11_plainValue, cX11_plainValue, 4, none, [])
theorem hy_tw_plainValue : yX11_plainValue.cls ≠ "java/lang/invoke/MethodHandle" ∧ yX11_plainValue.cls ≠ "java/lang/invoke/VarHandle" ∧ (parseMethodDescriptor yX11_plainValue.desc).map (fun d => d.parameters.length) = some 2 := by decide +kernel
abbrev mu_tw_text : gM := (yX11_text, cX11_text, 6, none, [])
theorem hy_tw_text : yX11_text.cls ≠ "java/lang/invoke/MethodHandle" ∧ yX11_text.cls ≠ "java/lang/invoke/VarHandle" ∧ (parseMethodDescriptor yX11_text.desc).map (fun d => d.parameters.length) = some 4 := by decide +kernel
abbrev mu_tw_store : gM := (yX11_store, cX11_store, 4, none, [])
theorem hy_tw_store : yX11_store.cls ≠ "java/lang/invoke/MethodHandle" ∧ yX11_store.cls ≠ "java/lang/invoke/VarHandle" ∧ (parseMethodDescriptor yX11_store.desc).map (fun d => d.parameters.length) = some 2 := by decide +kernel
abbrev mu_tw_close : gM := (yX11_close, cX11_close, 4, none, [])
theorem hy_tw_close : yX11_close.cls ≠ "java/lang/invoke/MethodHandle" ∧ yX11_close.cls ≠ "java/lang/invoke/VarHandle" ∧ (parseMethodDescriptor yX11_close.desc).map (fun d => d.parameters.length) = some 0 := by decide +kernel
abbrev mu_tw_bit : gM := (yX11_bit, cX11_bit, 3, (some .boolean), [])
theorem hy_tw_bit : yX11_bit.cls ≠ "java/lang/invoke/MethodHandle" ∧ yX11_bit.cls ≠ "java/lang/invoke/VarHandle" ∧ (parseMethodDescriptor yX11_bit.desc).map (fun d => d.parameters.length) = some 3 := by decide +kernel
abbrev mu_tw_error : gM := (yX11_error, cX11_error, 3, none, [])
theorem hy_tw_error : yX11_error.cls ≠ "java/lang/invoke/MethodHandle" ∧ yX11_error.cls ≠ "java/lang/invoke/VarHandle" ∧ (parseMethodDescriptor yX11_error.desc).map (fun d => d.parameters.length) = some 2 := by decide +kernel
abbrev mu_tw_isReady : gM := (yX11_isReady, cX11_isReady, 3, (some .boolean), [])
theorem hy_tw_isReady : yX11_isReady.cls ≠ "java/lang/invoke/MethodHandle" ∧ yX11_isReady.cls ≠ "java/lang/invoke/VarHandle" ∧ (parseMethodDescriptor yX11_isReady.desc).map (fun d => d.parameters.length) = some 1 := by decide +kernel
abbrev mu_tw_formulaValue : gM := (yX11_formulaValue, cX11_formulaValue, 4, none, [])
theorem hy_tw_formulaValue : yX11_formulaValue.cls ≠ "java/lang/invoke/MethodHandle" ∧ yX11_formulaValue.cls ≠ "java/lang/invoke/VarHandle" ∧ (parseMethodDescriptor yX11_formulaValue.desc).map (fun d => d.parameters.length) = some 3 := by decide +kernel
abbrev mu_tw_wholeOf : gM := (yX11_wholeOf, cX11_wholeOf, 2, (some .int), [])
theorem hy_tw_wholeOf : yX11_wholeOf.cls ≠ "java/lang/invoke/MethodHandle" ∧ yX11_wholeOf.cls ≠ "java/lang/invoke/VarHandle" ∧ (parseMethodDescriptor yX11_wholeOf.desc).map (fun d => d.parameters.length) = some 1 := by decide +kernel
abbrev mu_tw_work : gM := (yX11_work, cX11_work, 6, none, [])
theorem hy_tw_work : yX11_work.cls ≠ "java/lang/invoke/MethodHandle" ∧ yX11_work.cls ≠ "java/lang/invoke/VarHandle" ∧ (parseMethodDescriptor yX11_work.desc).map (fun d => d.parameters.length) = some 3 := by decide +kernel
abbrev mu_tw_number : gM := (yX11_number, cX11_number, 5, none, [])
theorem hy_tw_number : yX11_number.cls ≠ "java/lang/invoke/MethodHandle" ∧ yX11_number.cls ≠ "java/lang/invoke/VarHandle" ∧ (parseMethodDescriptor yX11_number.desc).map (fun d => d.parameters.length) = some 2 := by decide +kernel
abbrev mu_tw_truth : gM := (yX11_truth, cX11_truth, 3, none, [])
theorem hy_tw_truth : yX11_truth.cls ≠ "java/lang/invoke/MethodHandle" ∧ yX11_truth.cls ≠ "java/lang/invoke/VarHandle" ∧ (parseMethodDescriptor yX11_truth.desc).map (fun d => d.parameters.length) = some 2 := by decide +kernel
abbrev mu_tw_load : gM := (yX11_load, cX11_load, 3, none, [])
theorem hy_tw_load : yX11_load.cls ≠ "java/lang/invoke/MethodHandle" ∧ yX11_load.cls ≠ "java/lang/invoke/VarHandle" ∧ (parseMethodDescriptor yX11_load.desc).map (fun d => d.parameters.length) = some 2 := by decide +kernel
abbrev mu_tw_wantsNumber : gM := (yX11_wantsNumber, cX11_wantsNumber, 2, (some .boolean), [])
theorem hy_tw_wantsNumber : yX11_wantsNumber.cls ≠ "java/lang/invoke/MethodHandle" ∧ yX11_wantsNumber.cls ≠ "java/lang/invoke/VarHandle" ∧ (parseMethodDescriptor yX11_wantsNumber.desc).map (fun d => d.parameters.length) = some 1 := by decide +kernel
abbrev mu_tw_workTwo : gM := (yX11_workTwo, cX11_workTwo, 5, none, [])
theorem hy_tw_workTwo : yX11_workTwo.cls ≠ "java/lang/invoke/MethodHandle" ∧ yX11_workTwo.cls ≠ "java/lang/invoke/VarHandle" ∧ (parseMethodDescriptor yX11_workTwo.desc).map (fun d => d.parameters.length) = some 3 := by decide +kernel
abbrev mu_tw_under : gM := (yX11_under, cX11_under, 5, (some .int), [])
theorem hy_tw_under : yX11_under.cls ≠ "java/lang/invoke/MethodHandle" ∧ yX11_under.cls ≠ "java/lang/invoke/VarHandle" ∧ (parseMethodDescriptor yX11_under.desc).map (fun d => d.parameters.length) = some 2 := by decide +kernel
abbrev mu_tw_bring : gM := (yX11_bring, cX11_bring, 4, none, [])
theorem hy_tw_bring : yX11_bring.cls ≠ "java/lang/invoke/MethodHandle" ∧ yX11_bring.cls ≠ "java/lang/invoke/VarHandle" ∧ (parseMethodDescriptor yX11_bring.desc).map (fun d => d.parameters.length) = some 2 := by decide +kernel
abbrev mu_tw_compare : gM := (yX11_compare, cX11_compare, 3, none, [])
theorem hy_tw_compare : yX11_compare.cls ≠ "java/lang/invoke/MethodHandle" ∧ yX11_compare.cls ≠ "java/lang/invoke/VarHandle" ∧ (parseMethodDescriptor yX11_compare.desc).map (fun d => d.parameters.length) = some 2 := by decide +kernel
abbrev mu_tw_asOther : gM := (yX11_asOther, cX11_asOther, 3, none, [])
theorem hy_tw_asOther : yX11_asOther.cls ≠ "java/lang/invoke/MethodHandle" ∧ yX11_asOther.cls ≠ "java/lang/invoke/VarHandle" ∧ (parseMethodDescriptor yX11_asOther.desc).map (fun d => d.parameters.length) = some 2 := by decide +kernel
abbrev mu_tw_word : gM := (yX11_word, cX11_word, 4, none, [])
theorem hy_tw_word : yX11_word.cls ≠ "java/lang/invoke/MethodHandle" ∧ yX11_word.cls ≠ "java/lang/invoke/VarHandle" ∧ (parseMethodDescriptor yX11_word.desc).map (fun d => d.parameters.length) = some 2 := by decide +kernel
abbrev mu_tw_order : gM := (yX11_order, cX11_order, 7, (some .int), [])
theorem hy_tw_order : yX11_order.cls ≠ "java/lang/invoke/MethodHandle" ∧ yX11_order.cls ≠ "java/lang/invoke/VarHandle" ∧ (parseMethodDescriptor yX11_order.desc).map (fun d => d.parameters.length) = some 2 := by decide +kernel
abbrev mu_tw_holds : gM := (yX11_holds, cX11_holds, 2, (some .boolean), [])
theorem hy_tw_holds : yX11_holds.cls ≠ "java/lang/invoke/MethodHandle" ∧ yX11_holds.cls ≠ "java/lang/invoke/VarHandle" ∧ (parseMethodDescriptor yX11_holds.desc).map (fun d => d.parameters.length) = some 2 := by decide +kernel
abbrev mu_tw_join : gM := (yX11_join, cX11_join, 5, none, [])
theorem hy_tw_join : yX11_join.cls ≠ "java/lang/invoke/MethodHandle" ∧ yX11_join.cls ≠ "java/lang/invoke/VarHandle" ∧ (parseMethodDescriptor yX11_join.desc).map (fun d => d.parameters.length) = some 1 := by decide +kernel
abbrev mu_tw_wantsText : gM := (yX11_wantsText, cX11_wantsText, 3, none, [])
theorem hy_tw_wantsText : yX11_wantsText.cls ≠ "java/lang/invoke/MethodHandle" ∧ yX11_wantsText.cls ≠ "java/lang/invoke/VarHandle" ∧ (parseMethodDescriptor yX11_wantsText.desc).map (fun d => d.parameters.length) = some 1 := by decide +kernel
abbrev mu_tw_decimal : gM := (yX11_decimal, cX11_decimal, 6, (some .int), [])
theorem hy_tw_decimal : yX11_decimal.cls ≠ "java/lang/invoke/MethodHandle" ∧ yX11_decimal.cls ≠ "java/lang/invoke/VarHandle" ∧ (parseMethodDescriptor yX11_decimal.desc).map (fun d => d.parameters.length) = some 1 := by decide +kernel
abbrev mu_tw_reckon : gM := (yX11_reckon, cX11_reckon, 7, none, [])
theorem hy_tw_reckon : yX11_reckon.cls ≠ "java/lang/invoke/MethodHandle" ∧ yX11_reckon.cls ≠ "java/lang/invoke/VarHandle" ∧ (parseMethodDescriptor yX11_reckon.desc).map (fun d => d.parameters.length) = some 2 := by decide +kernel
abbrev mu_tw_times : gM := (yX11_times, cX11_times, 10, none, [])
theorem hy_tw_times : yX11_times.cls ≠ "java/lang/invoke/MethodHandle" ∧ yX11_times.cls ≠ "java/lang/invoke/VarHandle" ∧ (parseMethodDescriptor yX11_times.desc).map (fun d => d.parameters.length) = some 3 := by decide +kernel
abbrev mu_tw_workCall : gM := (yX11_workCall, cX11_workCall, 8, none, [])
theorem hy_tw_workCall : yX11_workCall.cls ≠ "java/lang/invoke/MethodHandle" ∧ yX11_workCall.cls ≠ "java/lang/invoke/VarHandle" ∧ (parseMethodDescriptor yX11_workCall.desc).map (fun d => d.parameters.length) = some 3 := by decide +kernel
abbrev mu_tw_workIf : gM := (yX11_workIf, cX11_workIf, 5, none, [])
theorem hy_tw_workIf : yX11_workIf.cls ≠ "java/lang/invoke/MethodHandle" ∧ yX11_workIf.cls ≠ "java/lang/invoke/VarHandle" ∧ (parseMethodDescriptor yX11_workIf.desc).map (fun d => d.parameters.length) = some 3 := by decide +kernel
abbrev mu_tw_wantsTruth : gM := (yX11_wantsTruth, cX11_wantsTruth, 2, (some .boolean), [])
theorem hy_tw_wantsTruth : yX11_wantsTruth.cls ≠ "java/lang/invoke/MethodHandle" ∧ yX11_wantsTruth.cls ≠ "java/lang/invoke/VarHandle" ∧ (parseMethodDescriptor yX11_wantsTruth.desc).map (fun d => d.parameters.length) = some 1 := by decide +kernel
abbrev mu_tw_workMany : gM := (yX11_workMany, cX11_workMany, 9, none, [])
theorem hy_tw_workMany : yX11_workMany.cls ≠ "java/lang/invoke/MethodHandle" ∧ yX11_workMany.cls ≠ "java/lang/invoke/VarHandle" ∧ (parseMethodDescriptor yX11_workMany.desc).map (fun d => d.parameters.length) = some 3 := by decide +kernel
abbrev mu_tw_countOne : gM := (yX11_countOne, cX11_countOne, 5, (some .boolean), [])
theorem hy_tw_countOne : yX11_countOne.cls ≠ "java/lang/invoke/MethodHandle" ∧ yX11_countOne.cls ≠ "java/lang/invoke/VarHandle" ∧ (parseMethodDescriptor yX11_countOne.desc).map (fun d => d.parameters.length) = some 3 := by decide +kernel
abbrev mu_tw_isGone : gM := (yX11_isGone, cX11_isGone, 2, (some .boolean), [])
theorem hy_tw_isGone : yX11_isGone.cls ≠ "java/lang/invoke/MethodHandle" ∧ yX11_isGone.cls ≠ "java/lang/invoke/VarHandle" ∧ (parseMethodDescriptor yX11_isGone.desc).map (fun d => d.parameters.length) = some 1 := by decide +kernel
abbrev mu_tw_count : gM := (yX11_count, cX11_count, 5, none, [])
theorem hy_tw_count : yX11_count.cls ≠ "java/lang/invoke/MethodHandle" ∧ yX11_count.cls ≠ "java/lang/invoke/VarHandle" ∧ (parseMethodDescriptor yX11_count.desc).map (fun d => d.parameters.length) = some 2 := by decide +kernel
abbrev mu_tw_wantsTruths : gM := (yX11_wantsTruths, cX11_wantsTruths, 1, (some .boolean), [])
theorem hy_tw_wantsTruths : yX11_wantsTruths.cls ≠ "java/lang/invoke/MethodHandle" ∧ yX11_wantsTruths.cls ≠ "java/lang/invoke/VarHandle" ∧ (parseMethodDescriptor yX11_wantsTruths.desc).map (fun d => d.parameters.length) = some 1 := by decide +kernel
abbrev mu_tw_countArea : gM := (yX11_countArea, cX11_countArea, 4, (some .boolean), [])
theorem hy_tw_countArea : yX11_countArea.cls ≠ "java/lang/invoke/MethodHandle" ∧ yX11_countArea.cls ≠ "java/lang/invoke/VarHandle" ∧ (parseMethodDescriptor yX11_countArea.desc).map (fun d => d.parameters.length) = some 2 := by decide +kernel
abbrev mu_tw_come : gM := (yX11_come, cX11_come, 3, none, [])
theorem hy_tw_come : yX11_come.cls ≠ "java/lang/invoke/MethodHandle" ∧ yX11_come.cls ≠ "java/lang/invoke/VarHandle" ∧ (parseMethodDescriptor yX11_come.desc).map (fun d => d.parameters.length) = some 2 := by decide +kernel
abbrev mu_tw_workOne : gM := (yX11_workOne, cX11_workOne, 5, none, [])
theorem hy_tw_workOne : yX11_workOne.cls ≠ "java/lang/invoke/MethodHandle" ∧ yX11_workOne.cls ≠ "java/lang/invoke/VarHandle" ∧ (parseMethodDescriptor yX11_workOne.desc).map (fun d => d.parameters.length) = some 3 := by decide +kernel
abbrev mu_tw_workEnd : gM := (yX11_workEnd, cX11_workEnd, 7, none, [])
theorem hy_tw_workEnd : yX11_workEnd.cls ≠ "java/lang/invoke/MethodHandle" ∧ yX11_workEnd.cls ≠ "java/lang/invoke/VarHandle" ∧ (parseMethodDescriptor yX11_workEnd.desc).map (fun d => d.parameters.length) = some 3 := by decide +kernel
abbrev mu_tw_workLook : gM := (yX11_workLook, cX11_workLook, 9, none, [])
theorem hy_tw_workLook : yX11_workLook.cls ≠ "java/lang/invoke/MethodHandle" ∧ yX11_workLook.cls ≠ "java/lang/invoke/VarHandle" ∧ (parseMethodDescriptor yX11_workLook.desc).map (fun d => d.parameters.length) = some 3 := by decide +kernel
abbrev mu_tw_isLike : gM := (yX11_isLike, cX11_isLike, 3, (some .boolean), [])
theorem hy_tw_isLike : yX11_isLike.cls ≠ "java/lang/invoke/MethodHandle" ∧ yX11_isLike.cls ≠ "java/lang/invoke/VarHandle" ∧ (parseMethodDescriptor yX11_isLike.desc).map (fun d => d.parameters.length) = some 2 := by decide +kernel
abbrev mu_tw_value : gM := (yX11_value, cX11_value, 5, (some .long), [])
theorem hy_tw_value : yX11_value.cls ≠ "java/lang/invoke/MethodHandle" ∧ yX11_value.cls ≠ "java/lang/invoke/VarHandle" ∧ (parseMethodDescriptor yX11_value.desc).map (fun d => d.parameters.length) = some 3 := by decide +kernel
abbrev mu_tw_letter : gM := (yX11_letter, cX11_letter, 6, (some .int), [])
theorem hy_tw_letter : yX11_letter.cls ≠ "java/lang/invoke/MethodHandle" ∧ yX11_letter.cls ≠ "java/lang/invoke/VarHandle" ∧ (parseMethodDescriptor yX11_letter.desc).map (fun d => d.parameters.length) = some 4 := by decide +kernel
abbrev mu_tw_written : gM := (yX11_written, cX11_written, 5, (some .int), [])
theorem hy_tw_written : yX11_written.cls ≠ "java/lang/invoke/MethodHandle" ∧ yX11_written.cls ≠ "java/lang/invoke/VarHandle" ∧ (parseMethodDescriptor yX11_written.desc).map (fun d => d.parameters.length) = some 4 := by decide +kernel
abbrev mu_tw_cellAt : gM := (yX11_cellAt, cX11_cellAt, 4, (some .int), [])
theorem hy_tw_cellAt : yX11_cellAt.cls ≠ "java/lang/invoke/MethodHandle" ∧ yX11_cellAt.cls ≠ "java/lang/invoke/VarHandle" ∧ (parseMethodDescriptor yX11_cellAt.desc).map (fun d => d.parameters.length) = some 3 := by decide +kernel
abbrev mu_tw_write : gM := (yX11_write, cX11_write, 4, none, [])
theorem hy_tw_write : yX11_write.cls ≠ "java/lang/invoke/MethodHandle" ∧ yX11_write.cls ≠ "java/lang/invoke/VarHandle" ∧ (parseMethodDescriptor yX11_write.desc).map (fun d => d.parameters.length) = some 2 := by decide +kernel
abbrev mu_tw_put : gM := (yX11_put, cX11_put, 2, none, [])
theorem hy_tw_put : yX11_put.cls ≠ "java/lang/invoke/MethodHandle" ∧ yX11_put.cls ≠ "java/lang/invoke/VarHandle" ∧ (parseMethodDescriptor yX11_put.desc).map (fun d => d.parameters.length) = some 1 := by decide +kernel
abbrev mu_tw_putPart : gM := (yX11_putPart, cX11_putPart, 7, none, [])
theorem hy_tw_putPart : yX11_putPart.cls ≠ "java/lang/invoke/MethodHandle" ∧ yX11_putPart.cls ≠ "java/lang/invoke/VarHandle" ∧ (parseMethodDescriptor yX11_putPart.desc).map (fun d => d.parameters.length) = some 2 := by decide +kernel
abbrev mu_tw_level : gM := (yX11_level, cX11_level, 1, (some .int), [])
theorem hy_tw_level : yX11_level.cls ≠ "java/lang/invoke/MethodHandle" ∧ yX11_level.cls ≠ "java/lang/invoke/VarHandle" ∧ (parseMethodDescriptor yX11_level.desc).map (fun d => d.parameters.length) = some 1 := by decide +kernel
abbrev mu_tw_putNumber : gM := (yX11_putNumber, cX11_putNumber, 5, none, [])
theorem hy_tw_putNumber : yX11_putNumber.cls ≠ "java/lang/invoke/MethodHandle" ∧ yX11_putNumber.cls ≠ "java/lang/invoke/VarHandle" ∧ (parseMethodDescriptor yX11_putNumber.desc).map (fun d => d.parameters.length) = some 1 := by decide +kernel
abbrev mu_tw_putLetters : gM := (yX11_putLetters, cX11_putLetters, 4, none, [])
theorem hy_tw_putLetters : yX11_putLetters.cls ≠ "java/lang/invoke/MethodHandle" ∧ yX11_putLetters.cls ≠ "java/lang/invoke/VarHandle" ∧ (parseMethodDescriptor yX11_putLetters.desc).map (fun d => d.parameters.length) = some 2 := by decide +kernel
abbrev mu_tw_say : gM := (yX11_say, cX11_say, 3, none, [])
theorem hy_tw_say : yX11_say.cls ≠ "java/lang/invoke/MethodHandle" ∧ yX11_say.cls ≠ "java/lang/invoke/VarHandle" ∧ (parseMethodDescriptor yX11_say.desc).map (fun d => d.parameters.length) = some 1 := by decide +kernel
abbrev mu_tw_putPlace : gM := (yX11_putPlace, cX11_putPlace, 9, none, [])
theorem hy_tw_putPlace : yX11_putPlace.cls ≠ "java/lang/invoke/MethodHandle" ∧ yX11_putPlace.cls ≠ "java/lang/invoke/VarHandle" ∧ (parseMethodDescriptor yX11_putPlace.desc).map (fun d => d.parameters.length) = some 2 := by decide +kernel
abbrev mu_tw_putCorner : gM := (yX11_putCorner, cX11_putCorner, 4, none, [])
theorem hy_tw_putCorner : yX11_putCorner.cls ≠ "java/lang/invoke/MethodHandle" ∧ yX11_putCorner.cls ≠ "java/lang/invoke/VarHandle" ∧ (parseMethodDescriptor yX11_putCorner.desc).map (fun d => d.parameters.length) = some 3 := by decide +kernel
abbrev mu_tw_putSide : gM := (yX11_putSide, cX11_putSide, 4, none, [])
theorem hy_tw_putSide : yX11_putSide.cls ≠ "java/lang/invoke/MethodHandle" ∧ yX11_putSide.cls ≠ "java/lang/invoke/VarHandle" ∧ (parseMethodDescriptor yX11_putSide.desc).map (fun d => d.parameters.length) = some 3 := by decide +kernel
abbrev mu_tw_signOf : gM := (yX11_signOf, cX11_signOf, 1, (some (.object "java/lang/String")), [])
theorem hy_tw_signOf : yX11_signOf.cls ≠ "java/lang/invoke/MethodHandle" ∧ yX11_signOf.cls ≠ "java/lang/invoke/VarHandle" ∧ (parseMethodDescriptor yX11_signOf.desc).map (fun d => d.parameters.length) = some 1 := by decide +kernel
abbrev mu_tw_needsMark : gM := (yX11_needsMark, cX11_needsMark, 6, (some .boolean), [])
theorem hy_tw_needsMark : yX11_needsMark.cls ≠ "java/lang/invoke/MethodHandle" ∧ yX11_needsMark.cls ≠ "java/lang/invoke/VarHandle" ∧ (parseMethodDescriptor yX11_needsMark.desc).map (fun d => d.parameters.length) = some 2 := by decide +kernel
abbrev mu_tw_isLetters : gM := (yX11_isLetters, cX11_isLetters, 5, (some .boolean), [])
theorem hy_tw_isLetters : yX11_isLetters.cls ≠ "java/lang/invoke/MethodHandle" ∧ yX11_isLetters.cls ≠ "java/lang/invoke/VarHandle" ∧ (parseMethodDescriptor yX11_isLetters.desc).map (fun d => d.parameters.length) = some 3 := by decide +kernel
abbrev mu_tw_erase : gM := (yX11_erase, cX11_erase, 8, (some .int), [])
theorem hy_tw_erase : yX11_erase.cls ≠ "java/lang/invoke/MethodHandle" ∧ yX11_erase.cls ≠ "java/lang/invoke/VarHandle" ∧ (parseMethodDescriptor yX11_erase.desc).map (fun d => d.parameters.length) = some 4 := by decide +kernel
abbrev mu_tw_insert : gM := (yX11_insert, cX11_insert, 6, (some .int), [])
theorem hy_tw_insert : yX11_insert.cls ≠ "java/lang/invoke/MethodHandle" ∧ yX11_insert.cls ≠ "java/lang/invoke/VarHandle" ∧ (parseMethodDescriptor yX11_insert.desc).map (fun d => d.parameters.length) = some 2 := by decide +kernel
abbrev mu_tw_setLines : gM := (yX11_setLines, cX11_setLines, 4, none, [])
theorem hy_tw_setLines : yX11_setLines.cls ≠ "java/lang/invoke/MethodHandle" ∧ yX11_setLines.cls ≠ "java/lang/invoke/VarHandle" ∧ (parseMethodDescriptor yX11_setLines.desc).map (fun d => d.parameters.length) = some 3 := by decide +kernel
abbrev mu_tw_comeLine : gM := (yX11_comeLine, cX11_comeLine, 6, none, [])
theorem hy_tw_comeLine : yX11_comeLine.cls ≠ "java/lang/invoke/MethodHandle" ∧ yX11_comeLine.cls ≠ "java/lang/invoke/VarHandle" ∧ (parseMethodDescriptor yX11_comeLine.desc).map (fun d => d.parameters.length) = some 4 := by decide +kernel
abbrev mu_tw_setLine : gM := (yX11_setLine, cX11_setLine, 5, none, [])
theorem hy_tw_setLine : yX11_setLine.cls ≠ "java/lang/invoke/MethodHandle" ∧ yX11_setLine.cls ≠ "java/lang/invoke/VarHandle" ∧ (parseMethodDescriptor yX11_setLine.desc).map (fun d => d.parameters.length) = some 4 := by decide +kernel
abbrev mu_tw_longOf : gM := (yX11_longOf, cX11_longOf, 1, (some .int), [])
theorem hy_tw_longOf : yX11_longOf.cls ≠ "java/lang/invoke/MethodHandle" ∧ yX11_longOf.cls ≠ "java/lang/invoke/VarHandle" ∧ (parseMethodDescriptor yX11_longOf.desc).map (fun d => d.parameters.length) = some 1 := by decide +kernel
abbrev mu_tw_onLine : gM := (yX11_onLine, cX11_onLine, 3, (some .int), [])
theorem hy_tw_onLine : yX11_onLine.cls ≠ "java/lang/invoke/MethodHandle" ∧ yX11_onLine.cls ≠ "java/lang/invoke/VarHandle" ∧ (parseMethodDescriptor yX11_onLine.desc).map (fun d => d.parameters.length) = some 3 := by decide +kernel
abbrev mu_tw_emptyLine : gM := (yX11_emptyLine, cX11_emptyLine, 4, none, [])
theorem hy_tw_emptyLine : yX11_emptyLine.cls ≠ "java/lang/invoke/MethodHandle" ∧ yX11_emptyLine.cls ≠ "java/lang/invoke/VarHandle" ∧ (parseMethodDescriptor yX11_emptyLine.desc).map (fun d => d.parameters.length) = some 2 := by decide +kernel
abbrev mu_tw_remove : gM := (yX11_remove, cX11_remove, 5, (some .int), [])
theorem hy_tw_remove : yX11_remove.cls ≠ "java/lang/invoke/MethodHandle" ∧ yX11_remove.cls ≠ "java/lang/invoke/VarHandle" ∧ (parseMethodDescriptor yX11_remove.desc).map (fun d => d.parameters.length) = some 2 := by decide +kernel
abbrev mu_tw_goLine : gM := (yX11_goLine, cX11_goLine, 6, none, [])
theorem hy_tw_goLine : yX11_goLine.cls ≠ "java/lang/invoke/MethodHandle" ∧ yX11_goLine.cls ≠ "java/lang/invoke/VarHandle" ∧ (parseMethodDescriptor yX11_goLine.desc).map (fun d => d.parameters.length) = some 3 := by decide +kernel
abbrev mu_tw_move : gM := (yX11_move, cX11_move, 8, (some .int), [])
theorem hy_tw_move : yX11_move.cls ≠ "java/lang/invoke/MethodHandle" ∧ yX11_move.cls ≠ "java/lang/invoke/VarHandle" ∧ (parseMethodDescriptor yX11_move.desc).map (fun d => d.parameters.length) = some 3 := by decide +kernel
abbrev mu_tw_copy : gM := (yX11_copy, cX11_copy, 13, (some .int), [])
theorem hy_tw_copy : yX11_copy.cls ≠ "java/lang/invoke/MethodHandle" ∧ yX11_copy.cls ≠ "java/lang/invoke/VarHandle" ∧ (parseMethodDescriptor yX11_copy.desc).map (fun d => d.parameters.length) = some 6 := by decide +kernel
abbrev mu_tw_copyFormula : gM := (yX11_copyFormula, cX11_copyFormula, 8, (some .int), [])
theorem hy_tw_copyFormula : yX11_copyFormula.cls ≠ "java/lang/invoke/MethodHandle" ∧ yX11_copyFormula.cls ≠ "java/lang/invoke/VarHandle" ∧ (parseMethodDescriptor yX11_copyFormula.desc).map (fun d => d.parameters.length) = some 3 := by decide +kernel
abbrev mu_tw_shift : gM := (yX11_shift, cX11_shift, 12, none, [])
theorem hy_tw_shift : yX11_shift.cls ≠ "java/lang/invoke/MethodHandle" ∧ yX11_shift.cls ≠ "java/lang/invoke/VarHandle" ∧ (parseMethodDescriptor yX11_shift.desc).map (fun d => d.parameters.length) = some 3 := by decide +kernel
abbrev mu_tw_further : gM := (yX11_further, cX11_further, 6, (some .int), [])
theorem hy_tw_further : yX11_further.cls ≠ "java/lang/invoke/MethodHandle" ∧ yX11_further.cls ≠ "java/lang/invoke/VarHandle" ∧ (parseMethodDescriptor yX11_further.desc).map (fun d => d.parameters.length) = some 4 := by decide +kernel
abbrev mu_tw_sort : gM := (yX11_sort, cX11_sort, 10, (some .int), [])
theorem hy_tw_sort : yX11_sort.cls ≠ "java/lang/invoke/MethodHandle" ∧ yX11_sort.cls ≠ "java/lang/invoke/VarHandle" ∧ (parseMethodDescriptor yX11_sort.desc).map (fun d => d.parameters.length) = some 4 := by decide +kernel
abbrev mu_tw_isAhead : gM := (yX11_isAhead, cX11_isAhead, 7, (some .boolean), [])
theorem hy_tw_isAhead : yX11_isAhead.cls ≠ "java/lang/invoke/MethodHandle" ∧ yX11_isAhead.cls ≠ "java/lang/invoke/VarHandle" ∧ (parseMethodDescriptor yX11_isAhead.desc).map (fun d => d.parameters.length) = some 3 := by decide +kernel
abbrev mu_tw_rank : gM := (yX11_rank, cX11_rank, 1, (some .int), [])
theorem hy_tw_rank : yX11_rank.cls ≠ "java/lang/invoke/MethodHandle" ∧ yX11_rank.cls ≠ "java/lang/invoke/VarHandle" ∧ (parseMethodDescriptor yX11_rank.desc).map (fun d => d.parameters.length) = some 1 := by decide +kernel
abbrev mu_tw_commit : gM := (yX11_commit, cX11_commit, 2, (some .int), [])
theorem hy_tw_commit : yX11_commit.cls ≠ "java/lang/invoke/MethodHandle" ∧ yX11_commit.cls ≠ "java/lang/invoke/VarHandle" ∧ (parseMethodDescriptor yX11_commit.desc).map (fun d => d.parameters.length) = some 0 := by decide +kernel
abbrev mu_tw_unsettled : gM := (yX11_unsettled, cX11_unsettled, 3, (some .int), [])
theorem hy_tw_unsettled : yX11_unsettled.cls ≠ "java/lang/invoke/MethodHandle" ∧ yX11_unsettled.cls ≠ "java/lang/invoke/VarHandle" ∧ (parseMethodDescriptor yX11_unsettled.desc).map (fun d => d.parameters.length) = some 0 := by decide +kernel
abbrev mu_tw_head : gM := (yX11_head, cX11_head, 1, (some .int), [])
theorem hy_tw_head : yX11_head.cls ≠ "java/lang/invoke/MethodHandle" ∧ yX11_head.cls ≠ "java/lang/invoke/VarHandle" ∧ (parseMethodDescriptor yX11_head.desc).map (fun d => d.parameters.length) = some 0 := by decide +kernel
abbrev mu_tw_branch : gM := (yX11_branch, cX11_branch, 2, (some .int), [])
theorem hy_tw_branch : yX11_branch.cls ≠ "java/lang/invoke/MethodHandle" ∧ yX11_branch.cls ≠ "java/lang/invoke/VarHandle" ∧ (parseMethodDescriptor yX11_branch.desc).map (fun d => d.parameters.length) = some 1 := by decide +kernel
abbrev mu_tw_go : gM := (yX11_go, cX11_go, 2, (some .int), [])
theorem hy_tw_go : yX11_go.cls ≠ "java/lang/invoke/MethodHandle" ∧ yX11_go.cls ≠ "java/lang/invoke/VarHandle" ∧ (parseMethodDescriptor yX11_go.desc).map (fun d => d.parameters.length) = some 1 := by decide +kernel
abbrev mu_tw_isLikeHead : gM := (yX11_isLikeHead, cX11_isLikeHead, 4, (some .boolean), [])
theorem hy_tw_isLikeHead : yX11_isLikeHead.cls ≠ "java/lang/invoke/MethodHandle" ∧ yX11_isLikeHead.cls ≠ "java/lang/invoke/VarHandle" ∧ (parseMethodDescriptor yX11_isLikeHead.desc).map (fun d => d.parameters.length) = some 0 := by decide +kernel
abbrev mu_tw_isLike_2 : gM := (yX11_isLike_2, cX11_isLike_2, 6, (some .boolean), [])
theorem hy_tw_isLike_2 : yX11_isLike_2.cls ≠ "java/lang/invoke/MethodHandle" ∧ yX11_isLike_2.cls ≠ "java/lang/invoke/VarHandle" ∧ (parseMethodDescriptor yX11_isLike_2.desc).map (fun d => d.parameters.length) = some 3 := by decide +kernel
abbrev mu_tw_alike : gM := (yX11_alike, cX11_alike, 6, (some .boolean), [])
theorem hy_tw_alike : yX11_alike.cls ≠ "java/lang/invoke/MethodHandle" ∧ yX11_alike.cls ≠ "java/lang/invoke/VarHandle" ∧ (parseMethodDescriptor yX11_alike.desc).map (fun d => d.parameters.length) = some 2 := by decide +kernel
abbrev mu_tw_sameParts : gM := (yX11_sameParts, cX11_sameParts, 4, (some .boolean), [])
theorem hy_tw_sameParts : yX11_sameParts.cls ≠ "java/lang/invoke/MethodHandle" ∧ yX11_sameParts.cls ≠ "java/lang/invoke/VarHandle" ∧ (parseMethodDescriptor yX11_sameParts.desc).map (fun d => d.parameters.length) = some 2 := by decide +kernel
abbrev mu_tw_sameLetters : gM := (yX11_sameLetters, cX11_sameLetters, 5, (some .boolean), [])
theorem hy_tw_sameLetters : yX11_sameLetters.cls ≠ "java/lang/invoke/MethodHandle" ∧ yX11_sameLetters.cls ≠ "java/lang/invoke/VarHandle" ∧ (parseMethodDescriptor yX11_sameLetters.desc).map (fun d => d.parameters.length) = some 3 := by decide +kernel
abbrev mu_tw_become : gM := (yX11_become, cX11_become, 2, none, [])
theorem hy_tw_become : yX11_become.cls ≠ "java/lang/invoke/MethodHandle" ∧ yX11_become.cls ≠ "java/lang/invoke/VarHandle" ∧ (parseMethodDescriptor yX11_become.desc).map (fun d => d.parameters.length) = some 1 := by decide +kernel
abbrev mu_tw_forgetSteps : gM := (yX11_forgetSteps, cX11_forgetSteps, 1, none, [])
theorem hy_tw_forgetSteps : yX11_forgetSteps.cls ≠ "java/lang/invoke/MethodHandle" ∧ yX11_forgetSteps.cls ≠ "java/lang/invoke/VarHandle" ∧ (parseMethodDescriptor yX11_forgetSteps.desc).map (fun d => d.parameters.length) = some 0 := by decide +kernel
abbrev mu_tw_drop : gM := (yX11_drop, cX11_drop, 1, (some .int), [])
theorem hy_tw_drop : yX11_drop.cls ≠ "java/lang/invoke/MethodHandle" ∧ yX11_drop.cls ≠ "java/lang/invoke/VarHandle" ∧ (parseMethodDescriptor yX11_drop.desc).map (fun d => d.parameters.length) = some 0 := by decide +kernel
abbrev mu_tw_base : gM := (yX11_base, cX11_base, 4, (some .int), [])
theorem hy_tw_base : yX11_base.cls ≠ "java/lang/invoke/MethodHandle" ∧ yX11_base.cls ≠ "java/lang/invoke/VarHandle" ∧ (parseMethodDescriptor yX11_base.desc).map (fun d => d.parameters.length) = some 2 := by decide +kernel
abbrev mu_tw_ancestors : gM := (yX11_ancestors, cX11_ancestors, 4, none, [])
theorem hy_tw_ancestors : yX11_ancestors.cls ≠ "java/lang/invoke/MethodHandle" ∧ yX11_ancestors.cls ≠ "java/lang/invoke/VarHandle" ∧ (parseMethodDescriptor yX11_ancestors.desc).map (fun d => d.parameters.length) = some 2 := by decide +kernel
abbrev mu_tw_merge : gM := (yX11_merge, cX11_merge, 5, (some .int), [])
theorem hy_tw_merge : yX11_merge.cls ≠ "java/lang/invoke/MethodHandle" ∧ yX11_merge.cls ≠ "java/lang/invoke/VarHandle" ∧ (parseMethodDescriptor yX11_merge.desc).map (fun d => d.parameters.length) = some 1 := by decide +kernel
abbrev mu_tw_bars : gM := (yX11_bars, cX11_bars, 2, (some .int), [])
theorem hy_tw_bars : yX11_bars.cls ≠ "java/lang/invoke/MethodHandle" ∧ yX11_bars.cls ≠ "java/lang/invoke/VarHandle" ∧ (parseMethodDescriptor yX11_bars.desc).map (fun d => d.parameters.length) = some 1 := by decide +kernel
abbrev mu_tw_together : gM := (yX11_together, cX11_together, 4, (some .int), [])
theorem hy_tw_together : yX11_together.cls ≠ "java/lang/invoke/MethodHandle" ∧ yX11_together.cls ≠ "java/lang/invoke/VarHandle" ∧ (parseMethodDescriptor yX11_together.desc).map (fun d => d.parameters.length) = some 2 := by decide +kernel
abbrev mu_tw_newLines : gM := (yX11_newLines, cX11_newLines, 5, (some .boolean), [])
theorem hy_tw_newLines : yX11_newLines.cls ≠ "java/lang/invoke/MethodHandle" ∧ yX11_newLines.cls ≠ "java/lang/invoke/VarHandle" ∧ (parseMethodDescriptor yX11_newLines.desc).map (fun d => d.parameters.length) = some 3 := by decide +kernel
abbrev mu_tw_comeTogether : gM := (yX11_comeTogether, cX11_comeTogether, 10, none, [])
theorem hy_tw_comeTogether : yX11_comeTogether.cls ≠ "java/lang/invoke/MethodHandle" ∧ yX11_comeTogether.cls ≠ "java/lang/invoke/VarHandle" ∧ (parseMethodDescriptor yX11_comeTogether.desc).map (fun d => d.parameters.length) = some 3 := by decide +kernel
abbrev mu_tw_sameOrder : gM := (yX11_sameOrder, cX11_sameOrder, 9, (some .boolean), [])
theorem hy_tw_sameOrder : yX11_sameOrder.cls ≠ "java/lang/invoke/MethodHandle" ∧ yX11_sameOrder.cls ≠ "java/lang/invoke/VarHandle" ∧ (parseMethodDescriptor yX11_sameOrder.desc).map (fun d => d.parameters.length) = some 4 := by decide +kernel
abbrev mu_tw_isIn : gM := (yX11_isIn, cX11_isIn, 6, (some .boolean), [])
theorem hy_tw_isIn : yX11_isIn.cls ≠ "java/lang/invoke/MethodHandle" ∧ yX11_isIn.cls ≠ "java/lang/invoke/VarHandle" ∧ (parseMethodDescriptor yX11_isIn.desc).map (fun d => d.parameters.length) = some 5 := by decide +kernel
abbrev mu_tw_isChanged : gM := (yX11_isChanged, cX11_isChanged, 9, (some .boolean), [])
theorem hy_tw_isChanged : yX11_isChanged.cls ≠ "java/lang/invoke/MethodHandle" ∧ yX11_isChanged.cls ≠ "java/lang/invoke/VarHandle" ∧ (parseMethodDescriptor yX11_isChanged.desc).map (fun d => d.parameters.length) = some 4 := by decide +kernel
abbrev mu_tw_contentOf : gM := (yX11_contentOf, cX11_contentOf, 6, (some .int), [])
theorem hy_tw_contentOf : yX11_contentOf.cls ≠ "java/lang/invoke/MethodHandle" ∧ yX11_contentOf.cls ≠ "java/lang/invoke/VarHandle" ∧ (parseMethodDescriptor yX11_contentOf.desc).map (fun d => d.parameters.length) = some 3 := by decide +kernel
abbrev mu_tw_putLine : gM := (yX11_putLine, cX11_putLine, 4, none, [])
theorem hy_tw_putLine : yX11_putLine.cls ≠ "java/lang/invoke/MethodHandle" ∧ yX11_putLine.cls ≠ "java/lang/invoke/VarHandle" ∧ (parseMethodDescriptor yX11_putLine.desc).map (fun d => d.parameters.length) = some 2 := by decide +kernel
abbrev mu_tw_lineOf : gM := (yX11_lineOf, cX11_lineOf, 3, (some .int), [])
theorem hy_tw_lineOf : yX11_lineOf.cls ≠ "java/lang/invoke/MethodHandle" ∧ yX11_lineOf.cls ≠ "java/lang/invoke/VarHandle" ∧ (parseMethodDescriptor yX11_lineOf.desc).map (fun d => d.parameters.length) = some 1 := by decide +kernel
abbrev mu_tw_lineConflicts : gM := (yX11_lineConflicts, cX11_lineConflicts, 8, none, [])
theorem hy_tw_lineConflicts : yX11_lineConflicts.cls ≠ "java/lang/invoke/MethodHandle" ∧ yX11_lineConflicts.cls ≠ "java/lang/invoke/VarHandle" ∧ (parseMethodDescriptor yX11_lineConflicts.desc).map (fun d => d.parameters.length) = some 3 := by decide +kernel
abbrev mu_tw_clash : gM := (yX11_clash, cX11_clash, 5, none, [])
theorem hy_tw_clash : yX11_clash.cls ≠ "java/lang/invoke/MethodHandle" ∧ yX11_clash.cls ≠ "java/lang/invoke/VarHandle" ∧ (parseMethodDescriptor yX11_clash.desc).map (fun d => d.parameters.length) = some 4 := by decide +kernel
abbrev mu_tw_newCell : gM := (yX11_newCell, cX11_newCell, 11, none, [])
theorem hy_tw_newCell : yX11_newCell.cls ≠ "java/lang/invoke/MethodHandle" ∧ yX11_newCell.cls ≠ "java/lang/invoke/VarHandle" ∧ (parseMethodDescriptor yX11_newCell.desc).map (fun d => d.parameters.length) = some 4 := by decide +kernel
abbrev mu_tw_pick : gM := (yX11_pick, cX11_pick, 3, (some .int), [])
theorem hy_tw_pick : yX11_pick.cls ≠ "java/lang/invoke/MethodHandle" ∧ yX11_pick.cls ≠ "java/lang/invoke/VarHandle" ∧ (parseMethodDescriptor yX11_pick.desc).map (fun d => d.parameters.length) = some 1 := by decide +kernel
abbrev mu_tw_conflict : gM := (yX11_conflict, cX11_conflict, 3, (some .int), [])
theorem hy_tw_conflict : yX11_conflict.cls ≠ "java/lang/invoke/MethodHandle" ∧ yX11_conflict.cls ≠ "java/lang/invoke/VarHandle" ∧ (parseMethodDescriptor yX11_conflict.desc).map (fun d => d.parameters.length) = some 2 := by decide +kernel
abbrev mu_tw_choose : gM := (yX11_choose, cX11_choose, 9, (some .int), [])
theorem hy_tw_choose : yX11_choose.cls ≠ "java/lang/invoke/MethodHandle" ∧ yX11_choose.cls ≠ "java/lang/invoke/VarHandle" ∧ (parseMethodDescriptor yX11_choose.desc).map (fun d => d.parameters.length) = some 2 := by decide +kernel
abbrev mu_tw_diff : gM := (yX11_diff, cX11_diff, 9, (some .int), [])
theorem hy_tw_diff : yX11_diff.cls ≠ "java/lang/invoke/MethodHandle" ∧ yX11_diff.cls ≠ "java/lang/invoke/VarHandle" ∧ (parseMethodDescriptor yX11_diff.desc).map (fun d => d.parameters.length) = some 2 := by decide +kernel
abbrev mu_tw_linesAlone : gM := (yX11_linesAlone, cX11_linesAlone, 6, none, [])
theorem hy_tw_linesAlone : yX11_linesAlone.cls ≠ "java/lang/invoke/MethodHandle" ∧ yX11_linesAlone.cls ≠ "java/lang/invoke/VarHandle" ∧ (parseMethodDescriptor yX11_linesAlone.desc).map (fun d => d.parameters.length) = some 4 := by decide +kernel
abbrev mu_tw_differ : gM := (yX11_differ, cX11_differ, 4, none, [])
theorem hy_tw_differ : yX11_differ.cls ≠ "java/lang/invoke/MethodHandle" ∧ yX11_differ.cls ≠ "java/lang/invoke/VarHandle" ∧ (parseMethodDescriptor yX11_differ.desc).map (fun d => d.parameters.length) = some 3 := by decide +kernel
abbrev mu_tw_difference : gM := (yX11_difference, cX11_difference, 3, (some .int), [])
theorem hy_tw_difference : yX11_difference.cls ≠ "java/lang/invoke/MethodHandle" ∧ yX11_difference.cls ≠ "java/lang/invoke/VarHandle" ∧ (parseMethodDescriptor yX11_difference.desc).map (fun d => d.parameters.length) = some 2 := by decide +kernel
abbrev mu_tw_blame : gM := (yX11_blame, cX11_blame, 8, (some .int), [])
theorem hy_tw_blame : yX11_blame.cls ≠ "java/lang/invoke/MethodHandle" ∧ yX11_blame.cls ≠ "java/lang/invoke/VarHandle" ∧ (parseMethodDescriptor yX11_blame.desc).map (fun d => d.parameters.length) = some 2 := by decide +kernel
abbrev mu_tw_hasLike : gM := (yX11_hasLike, cX11_hasLike, 6, (some .boolean), [])
theorem hy_tw_hasLike : yX11_hasLike.cls ≠ "java/lang/invoke/MethodHandle" ∧ yX11_hasLike.cls ≠ "java/lang/invoke/VarHandle" ∧ (parseMethodDescriptor yX11_hasLike.desc).map (fun d => d.parameters.length) = some 4 := by decide +kernel
abbrev mu_tw_sheet : gM := (yX11_sheet, cX11_sheet, 3, (some .int), [])
theorem hy_tw_sheet : yX11_sheet.cls ≠ "java/lang/invoke/MethodHandle" ∧ yX11_sheet.cls ≠ "java/lang/invoke/VarHandle" ∧ (parseMethodDescriptor yX11_sheet.desc).map (fun d => d.parameters.length) = some 2 := by decide +kernel
abbrev mu_tw_total : gM := (yX11_total, cX11_total, 2, (some .int), [])
theorem hy_tw_total : yX11_total.cls ≠ "java/lang/invoke/MethodHandle" ∧ yX11_total.cls ≠ "java/lang/invoke/VarHandle" ∧ (parseMethodDescriptor yX11_total.desc).map (fun d => d.parameters.length) = some 1 := by decide +kernel
abbrev mu_x13_leads : gM := (yX13_leads, cX13_leads, 3, none, [])
theorem hy_x13_leads : yX13_leads.cls ≠ "java/lang/invoke/MethodHandle" ∧ yX13_leads.cls ≠ "java/lang/invoke/VarHandle" ∧ (parseMethodDescriptor yX13_leads.desc).map (fun d => d.parameters.length) = some 2 := by decide +kernel
abbrev mu_x13_work : gM := (yX13_work, cX13_work, 3, none, [])
theorem hy_x13_work : yX13_work.cls ≠ "java/lang/invoke/MethodHandle" ∧ yX13_work.cls ≠ "java/lang/invoke/VarHandle" ∧ (parseMethodDescriptor yX13_work.desc).map (fun d => d.parameters.length) = some 2 := by decide +kernel
abbrev mu_x13_rank : gM := (yX13_rank, cX13_rank, 1, (some .int), [])
theorem hy_x13_rank : yX13_rank.cls ≠ "java/lang/invoke/MethodHandle" ∧ yX13_rank.cls ≠ "java/lang/invoke/VarHandle" ∧ (parseMethodDescriptor yX13_rank.desc).map (fun d => d.parameters.length) = some 0 := by decide +kernel
abbrev mu_x13_write : gM := (yX13_write, cX13_write, 3, none, [])
theorem hy_x13_write : yX13_write.cls ≠ "java/lang/invoke/MethodHandle" ∧ yX13_write.cls ≠ "java/lang/invoke/VarHandle" ∧ (parseMethodDescriptor yX13_write.desc).map (fun d => d.parameters.length) = some 2 := by decide +kernel
abbrev mu_x13_same : gM := (yX13_same, cX13_same, 2, (some .boolean), [])
theorem hy_x13_same : yX13_same.cls ≠ "java/lang/invoke/MethodHandle" ∧ yX13_same.cls ≠ "java/lang/invoke/VarHandle" ∧ (parseMethodDescriptor yX13_same.desc).map (fun d => d.parameters.length) = some 1 := by decide +kernel
abbrev mu_x13_isAlike : gM := (yX13_isAlike, cX13_isAlike, 2, (some .boolean), [])
theorem hy_x13_isAlike : yX13_isAlike.cls ≠ "java/lang/invoke/MethodHandle" ∧ yX13_isAlike.cls ≠ "java/lang/invoke/VarHandle" ∧ (parseMethodDescriptor yX13_isAlike.desc).map (fun d => d.parameters.length) = some 1 := by decide +kernel
abbrev mu_x13_init : gM := (yX13_init, cX13_init, 3, none, [])
theorem hy_x13_init : yX13_init.cls ≠ "java/lang/invoke/MethodHandle" ∧ yX13_init.cls ≠ "java/lang/invoke/VarHandle" ∧ (parseMethodDescriptor yX13_init.desc).map (fun d => d.parameters.length) = some 1 := by decide +kernel
abbrev mu_x13_parts : gM := (yX13_parts, cX13_parts, 1, (some .int), [])
theorem hy_x13_parts : yX13_parts.cls ≠ "java/lang/invoke/MethodHandle" ∧ yX13_parts.cls ≠ "java/lang/invoke/VarHandle" ∧ (parseMethodDescriptor yX13_parts.desc).map (fun d => d.parameters.length) = some 0 := by decide +kernel
abbrev mu_x13_shifted : gM := (yX13_shifted, cX13_shifted, 2, (some (.object "SheetBranches$Part")), [])
theorem hy_x13_shifted : yX13_shifted.cls ≠ "java/lang/invoke/MethodHandle" ∧ yX13_shifted.cls ≠ "java/lang/invoke/VarHandle" ∧ (parseMethodDescriptor yX13_shifted.desc).map (fun d => d.parameters.length) = some 1 := by decide +kernel
abbrev mu_x14_leads : gM := (yX14_leads, cX14_leads, 3, none, [])
theorem hy_x14_leads : yX14_leads.cls ≠ "java/lang/invoke/MethodHandle" ∧ yX14_leads.cls ≠ "java/lang/invoke/VarHandle" ∧ (parseMethodDescriptor yX14_leads.desc).map (fun d => d.parameters.length) = some 2 := by decide +kernel
abbrev mu_x14_work : gM := (yX14_work, cX14_work, 3, none, [])
theorem hy_x14_work : yX14_work.cls ≠ "java/lang/invoke/MethodHandle" ∧ yX14_work.cls ≠ "java/lang/invoke/VarHandle" ∧ (parseMethodDescriptor yX14_work.desc).map (fun d => d.parameters.length) = some 2 := by decide +kernel
abbrev mu_x14_rank : gM := (yX14_rank, cX14_rank, 1, (some .int), [])
theorem hy_x14_rank : yX14_rank.cls ≠ "java/lang/invoke/MethodHandle" ∧ yX14_rank.cls ≠ "java/lang/invoke/VarHandle" ∧ (parseMethodDescriptor yX14_rank.desc).map (fun d => d.parameters.length) = some 0 := by decide +kernel
abbrev mu_x14_write : gM := (yX14_write, cX14_write, 3, none, [])
theorem hy_x14_write : yX14_write.cls ≠ "java/lang/invoke/MethodHandle" ∧ yX14_write.cls ≠ "java/lang/invoke/VarHandle" ∧ (parseMethodDescriptor yX14_write.desc).map (fun d => d.parameters.length) = some 2 := by decide +kernel
abbrev mu_x14_same : gM := (yX14_same, cX14_same, 2, (some .boolean), [])
theorem hy_x14_same : yX14_same.cls ≠ "java/lang/invoke/MethodHandle" ∧ yX14_same.cls ≠ "java/lang/invoke/VarHandle" ∧ (parseMethodDescriptor yX14_same.desc).map (fun d => d.parameters.length) = some 1 := by decide +kernel
abbrev mu_x14_has : gM := (yX14_has, cX14_has, 4, (some .boolean), [])
theorem hy_x14_has : yX14_has.cls ≠ "java/lang/invoke/MethodHandle" ∧ yX14_has.cls ≠ "java/lang/invoke/VarHandle" ∧ (parseMethodDescriptor yX14_has.desc).map (fun d => d.parameters.length) = some 1 := by decide +kernel
abbrev mu_x14_isAlike : gM := (yX14_isAlike, cX14_isAlike, 2, (some .boolean), [])
theorem hy_x14_isAlike : yX14_isAlike.cls ≠ "java/lang/invoke/MethodHandle" ∧ yX14_isAlike.cls ≠ "java/lang/invoke/VarHandle" ∧ (parseMethodDescriptor yX14_isAlike.desc).map (fun d => d.parameters.length) = some 1 := by decide +kernel
abbrev mu_x14_init : gM := (yX14_init, cX14_init, 2, none, [])
theorem hy_x14_init : yX14_init.cls ≠ "java/lang/invoke/MethodHandle" ∧ yX14_init.cls ≠ "java/lang/invoke/VarHandle" ∧ (parseMethodDescriptor yX14_init.desc).map (fun d => d.parameters.length) = some 1 := by decide +kernel
abbrev mu_x14_parts : gM := (yX14_parts, cX14_parts, 1, (some .int), [])
theorem hy_x14_parts : yX14_parts.cls ≠ "java/lang/invoke/MethodHandle" ∧ yX14_parts.cls ≠ "java/lang/invoke/VarHandle" ∧ (parseMethodDescriptor yX14_parts.desc).map (fun d => d.parameters.length) = some 0 := by decide +kernel
abbrev mu_x14_shifted : gM := (yX14_shifted, cX14_shifted, 2, (some (.object "SheetBranches$Part")), [])
theorem hy_x14_shifted : yX14_shifted.cls ≠ "java/lang/invoke/MethodHandle" ∧ yX14_shifted.cls ≠ "java/lang/invoke/VarHandle" ∧ (parseMethodDescriptor yX14_shifted.desc).map (fun d => d.parameters.length) = some 1 := by decide +kernel
abbrev mu_x15_leads : gM := (yX15_leads, cX15_leads, 3, none, [])
theorem hy_x15_leads : yX15_leads.cls ≠ "java/lang/invoke/MethodHandle" ∧ yX15_leads.cls ≠ "java/lang/invoke/VarHandle" ∧ (parseMethodDescriptor yX15_leads.desc).map (fun d => d.parameters.length) = some 2 := by decide +kernel
abbrev mu_x15_work : gM := (yX15_work, cX15_work, 3, none, [])
theorem hy_x15_work : yX15_work.cls ≠ "java/lang/invoke/MethodHandle" ∧ yX15_work.cls ≠ "java/lang/invoke/VarHandle" ∧ (parseMethodDescriptor yX15_work.desc).map (fun d => d.parameters.length) = some 2 := by decide +kernel
abbrev mu_x15_write : gM := (yX15_write, cX15_write, 3, none, [])
theorem hy_x15_write : yX15_write.cls ≠ "java/lang/invoke/MethodHandle" ∧ yX15_write.cls ≠ "java/lang/invoke/VarHandle" ∧ (parseMethodDescriptor yX15_write.desc).map (fun d => d.parameters.length) = some 2 := by decide +kernel
abbrev mu_x15_rank : gM := (yX15_rank, cX15_rank, 1, (some .int), [])
theorem hy_x15_rank : yX15_rank.cls ≠ "java/lang/invoke/MethodHandle" ∧ yX15_rank.cls ≠ "java/lang/invoke/VarHandle" ∧ (parseMethodDescriptor yX15_rank.desc).map (fun d => d.parameters.length) = some 0 := by decide +kernel
abbrev mu_x15_same : gM := (yX15_same, cX15_same, 2, (some .boolean), [])
theorem hy_x15_same : yX15_same.cls ≠ "java/lang/invoke/MethodHandle" ∧ yX15_same.cls ≠ "java/lang/invoke/VarHandle" ∧ (parseMethodDescriptor yX15_same.desc).map (fun d => d.parameters.length) = some 1 := by decide +kernel
abbrev mu_x15_init : gM := (yX15_init, cX15_init, 1, none, [])
theorem hy_x15_init : yX15_init.cls ≠ "java/lang/invoke/MethodHandle" ∧ yX15_init.cls ≠ "java/lang/invoke/VarHandle" ∧ (parseMethodDescriptor yX15_init.desc).map (fun d => d.parameters.length) = some 0 := by decide +kernel
abbrev mu_x15_shifted : gM := (yX15_shifted, cX15_shifted, 2, (some (.object "SheetBranches$Part")), [])
theorem hy_x15_shifted : yX15_shifted.cls ≠ "java/lang/invoke/MethodHandle" ∧ yX15_shifted.cls ≠ "java/lang/invoke/VarHandle" ∧ (parseMethodDescriptor yX15_shifted.desc).map (fun d => d.parameters.length) = some 1 := by decide +kernel
abbrev mu_x16_isIn : gM := (yX16_isIn, cX16_isIn, 2, (some .boolean), [])
theorem hy_x16_isIn : yX16_isIn.cls ≠ "java/lang/invoke/MethodHandle" ∧ yX16_isIn.cls ≠ "java/lang/invoke/VarHandle" ∧ (parseMethodDescriptor yX16_isIn.desc).map (fun d => d.parameters.length) = some 1 := by decide +kernel
abbrev mu_x16_write : gM := (yX16_write, cX16_write, 3, none, [])
theorem hy_x16_write : yX16_write.cls ≠ "java/lang/invoke/MethodHandle" ∧ yX16_write.cls ≠ "java/lang/invoke/VarHandle" ∧ (parseMethodDescriptor yX16_write.desc).map (fun d => d.parameters.length) = some 2 := by decide +kernel
abbrev mu_x16_same : gM := (yX16_same, cX16_same, 2, (some .boolean), [])
theorem hy_x16_same : yX16_same.cls ≠ "java/lang/invoke/MethodHandle" ∧ yX16_same.cls ≠ "java/lang/invoke/VarHandle" ∧ (parseMethodDescriptor yX16_same.desc).map (fun d => d.parameters.length) = some 1 := by decide +kernel
abbrev mu_x16_init : gM := (yX16_init, cX16_init, 5, none, [])
theorem hy_x16_init : yX16_init.cls ≠ "java/lang/invoke/MethodHandle" ∧ yX16_init.cls ≠ "java/lang/invoke/VarHandle" ∧ (parseMethodDescriptor yX16_init.desc).map (fun d => d.parameters.length) = some 4 := by decide +kernel
abbrev mu_x16_shifted : gM := (yX16_shifted, cX16_shifted, 5, (some (.object "SheetBranches$Corner")), [])
theorem hy_x16_shifted : yX16_shifted.cls ≠ "java/lang/invoke/MethodHandle" ∧ yX16_shifted.cls ≠ "java/lang/invoke/VarHandle" ∧ (parseMethodDescriptor yX16_shifted.desc).map (fun d => d.parameters.length) = some 2 := by decide +kernel
abbrev mu_x16_moved : gM := (yX16_moved, cX16_moved, 4, (some .int), [])
theorem hy_x16_moved : yX16_moved.cls ≠ "java/lang/invoke/MethodHandle" ∧ yX16_moved.cls ≠ "java/lang/invoke/VarHandle" ∧ (parseMethodDescriptor yX16_moved.desc).map (fun d => d.parameters.length) = some 3 := by decide +kernel
abbrev mu_x17_leads : gM := (yX17_leads, cX17_leads, 3, none, [])
theorem hy_x17_leads : yX17_leads.cls ≠ "java/lang/invoke/MethodHandle" ∧ yX17_leads.cls ≠ "java/lang/invoke/VarHandle" ∧ (parseMethodDescriptor yX17_leads.desc).map (fun d => d.parameters.length) = some 2 := by decide +kernel
abbrev mu_x17_work : gM := (yX17_work, cX17_work, 6, none, [])
theorem hy_x17_work : yX17_work.cls ≠ "java/lang/invoke/MethodHandle" ∧ yX17_work.cls ≠ "java/lang/invoke/VarHandle" ∧ (parseMethodDescriptor yX17_work.desc).map (fun d => d.parameters.length) = some 2 := by decide +kernel
abbrev mu_x17_rank : gM := (yX17_rank, cX17_rank, 1, (some .int), [])
theorem hy_x17_rank : yX17_rank.cls ≠ "java/lang/invoke/MethodHandle" ∧ yX17_rank.cls ≠ "java/lang/invoke/VarHandle" ∧ (parseMethodDescriptor yX17_rank.desc).map (fun d => d.parameters.length) = some 0 := by decide +kernel
abbrev mu_x17_write : gM := (yX17_write, cX17_write, 4, none, [])
theorem hy_x17_write : yX17_write.cls ≠ "java/lang/invoke/MethodHandle" ∧ yX17_write.cls ≠ "java/lang/invoke/VarHandle" ∧ (parseMethodDescriptor yX17_write.desc).map (fun d => d.parameters.length) = some 2 := by decide +kernel
abbrev mu_x17_same : gM := (yX17_same, cX17_same, 2, (some .boolean), [])
theorem hy_x17_same : yX17_same.cls ≠ "java/lang/invoke/MethodHandle" ∧ yX17_same.cls ≠ "java/lang/invoke/VarHandle" ∧ (parseMethodDescriptor yX17_same.desc).map (fun d => d.parameters.length) = some 1 := by decide +kernel
abbrev mu_x17_init : gM := (yX17_init, cX17_init, 3, none, [])
theorem hy_x17_init : yX17_init.cls ≠ "java/lang/invoke/MethodHandle" ∧ yX17_init.cls ≠ "java/lang/invoke/VarHandle" ∧ (parseMethodDescriptor yX17_init.desc).map (fun d => d.parameters.length) = some 2 := by decide +kernel
abbrev mu_x17_shifted : gM := (yX17_shifted, cX17_shifted, 3, (some (.object "SheetBranches$Part")), [])
theorem hy_x17_shifted : yX17_shifted.cls ≠ "java/lang/invoke/MethodHandle" ∧ yX17_shifted.cls ≠ "java/lang/invoke/VarHandle" ∧ (parseMethodDescriptor yX17_shifted.desc).map (fun d => d.parameters.length) = some 1 := by decide +kernel
abbrev mu_x18_leads : gM := (yX18_leads, cX18_leads, 3, none, [])
theorem hy_x18_leads : yX18_leads.cls ≠ "java/lang/invoke/MethodHandle" ∧ yX18_leads.cls ≠ "java/lang/invoke/VarHandle" ∧ (parseMethodDescriptor yX18_leads.desc).map (fun d => d.parameters.length) = some 2 := by decide +kernel
abbrev mu_x18_work : gM := (yX18_work, cX18_work, 3, none, [])
theorem hy_x18_work : yX18_work.cls ≠ "java/lang/invoke/MethodHandle" ∧ yX18_work.cls ≠ "java/lang/invoke/VarHandle" ∧ (parseMethodDescriptor yX18_work.desc).map (fun d => d.parameters.length) = some 2 := by decide +kernel
abbrev mu_x18_rank : gM := (yX18_rank, cX18_rank, 1, (some .int), [])
theorem hy_x18_rank : yX18_rank.cls ≠ "java/lang/invoke/MethodHandle" ∧ yX18_rank.cls ≠ "java/lang/invoke/VarHandle" ∧ (parseMethodDescriptor yX18_rank.desc).map (fun d => d.parameters.length) = some 0 := by decide +kernel
abbrev mu_x18_write : gM := (yX18_write, cX18_write, 3, none, [])
theorem hy_x18_write : yX18_write.cls ≠ "java/lang/invoke/MethodHandle" ∧ yX18_write.cls ≠ "java/lang/invoke/VarHandle" ∧ (parseMethodDescriptor yX18_write.desc).map (fun d => d.parameters.length) = some 2 := by decide +kernel
abbrev mu_x18_same : gM := (yX18_same, cX18_same, 2, (some .boolean), [])
theorem hy_x18_same : yX18_same.cls ≠ "java/lang/invoke/MethodHandle" ∧ yX18_same.cls ≠ "java/lang/invoke/VarHandle" ∧ (parseMethodDescriptor yX18_same.desc).map (fun d => d.parameters.length) = some 1 := by decide +kernel
abbrev mu_x18_isAlike : gM := (yX18_isAlike, cX18_isAlike, 2, (some .boolean), [])
theorem hy_x18_isAlike : yX18_isAlike.cls ≠ "java/lang/invoke/MethodHandle" ∧ yX18_isAlike.cls ≠ "java/lang/invoke/VarHandle" ∧ (parseMethodDescriptor yX18_isAlike.desc).map (fun d => d.parameters.length) = some 1 := by decide +kernel
abbrev mu_x18_init : gM := (yX18_init, cX18_init, 2, none, [])
theorem hy_x18_init : yX18_init.cls ≠ "java/lang/invoke/MethodHandle" ∧ yX18_init.cls ≠ "java/lang/invoke/VarHandle" ∧ (parseMethodDescriptor yX18_init.desc).map (fun d => d.parameters.length) = some 1 := by decide +kernel
abbrev mu_x18_parts : gM := (yX18_parts, cX18_parts, 1, (some .int), [])
theorem hy_x18_parts : yX18_parts.cls ≠ "java/lang/invoke/MethodHandle" ∧ yX18_parts.cls ≠ "java/lang/invoke/VarHandle" ∧ (parseMethodDescriptor yX18_parts.desc).map (fun d => d.parameters.length) = some 0 := by decide +kernel
abbrev mu_x18_shifted : gM := (yX18_shifted, cX18_shifted, 2, (some (.object "SheetBranches$Part")), [])
theorem hy_x18_shifted : yX18_shifted.cls ≠ "java/lang/invoke/MethodHandle" ∧ yX18_shifted.cls ≠ "java/lang/invoke/VarHandle" ∧ (parseMethodDescriptor yX18_shifted.desc).map (fun d => d.parameters.length) = some 1 := by decide +kernel
abbrev mu_x19_leads : gM := (yX19_leads, cX19_leads, 9, none, [])
theorem hy_x19_leads : yX19_leads.cls ≠ "java/lang/invoke/MethodHandle" ∧ yX19_leads.cls ≠ "java/lang/invoke/VarHandle" ∧ (parseMethodDescriptor yX19_leads.desc).map (fun d => d.parameters.length) = some 2 := by decide +kernel
abbrev mu_x19_work : gM := (yX19_work, cX19_work, 3, none, [])
theorem hy_x19_work : yX19_work.cls ≠ "java/lang/invoke/MethodHandle" ∧ yX19_work.cls ≠ "java/lang/invoke/VarHandle" ∧ (parseMethodDescriptor yX19_work.desc).map (fun d => d.parameters.length) = some 2 := by decide +kernel
abbrev mu_x19_write : gM := (yX19_write, cX19_write, 4, none, [])
theorem hy_x19_write : yX19_write.cls ≠ "java/lang/invoke/MethodHandle" ∧ yX19_write.cls ≠ "java/lang/invoke/VarHandle" ∧ (parseMethodDescriptor yX19_write.desc).map (fun d => d.parameters.length) = some 2 := by decide +kernel
abbrev mu_x19_rank : gM := (yX19_rank, cX19_rank, 1, (some .int), [])
theorem hy_x19_rank : yX19_rank.cls ≠ "java/lang/invoke/MethodHandle" ∧ yX19_rank.cls ≠ "java/lang/invoke/VarHandle" ∧ (parseMethodDescriptor yX19_rank.desc).map (fun d => d.parameters.length) = some 0 := by decide +kernel
abbrev mu_x19_same : gM := (yX19_same, cX19_same, 3, (some .boolean), [])
theorem hy_x19_same : yX19_same.cls ≠ "java/lang/invoke/MethodHandle" ∧ yX19_same.cls ≠ "java/lang/invoke/VarHandle" ∧ (parseMethodDescriptor yX19_same.desc).map (fun d => d.parameters.length) = some 1 := by decide +kernel
abbrev mu_x19_init : gM := (yX19_init, cX19_init, 4, none, [])
theorem hy_x19_init : yX19_init.cls ≠ "java/lang/invoke/MethodHandle" ∧ yX19_init.cls ≠ "java/lang/invoke/VarHandle" ∧ (parseMethodDescriptor yX19_init.desc).map (fun d => d.parameters.length) = some 3 := by decide +kernel
abbrev mu_x19_shifted : gM := (yX19_shifted, cX19_shifted, 5, (some (.object "SheetBranches$Part")), [])
theorem hy_x19_shifted : yX19_shifted.cls ≠ "java/lang/invoke/MethodHandle" ∧ yX19_shifted.cls ≠ "java/lang/invoke/VarHandle" ∧ (parseMethodDescriptor yX19_shifted.desc).map (fun d => d.parameters.length) = some 1 := by decide +kernel
abbrev mu_x2_init : gM := (yX2_init, cX2_init, 1, none, [])
theorem hy_x2_init : yX2_init.cls ≠ "java/lang/invoke/MethodHandle" ∧ yX2_init.cls ≠ "java/lang/invoke/VarHandle" ∧ (parseMethodDescriptor yX2_init.desc).map (fun d => d.parameters.length) = some 0 := by decide +kernel
abbrev mu_x2_give : gM := (yX2_give, cX2_give, 3, none, [])
theorem hy_x2_give : yX2_give.cls ≠ "java/lang/invoke/MethodHandle" ∧ yX2_give.cls ≠ "java/lang/invoke/VarHandle" ∧ (parseMethodDescriptor yX2_give.desc).map (fun d => d.parameters.length) = some 2 := by decide +kernel
abbrev mu_x2_put : gM := (yX2_put, cX2_put, 3, none, [])
theorem hy_x2_put : yX2_put.cls ≠ "java/lang/invoke/MethodHandle" ∧ yX2_put.cls ≠ "java/lang/invoke/VarHandle" ∧ (parseMethodDescriptor yX2_put.desc).map (fun d => d.parameters.length) = some 2 := by decide +kernel
abbrev mu_x2_copy : gM := (yX2_copy, cX2_copy, 2, none, [])
theorem hy_x2_copy : yX2_copy.cls ≠ "java/lang/invoke/MethodHandle" ∧ yX2_copy.cls ≠ "java/lang/invoke/VarHandle" ∧ (parseMethodDescriptor yX2_copy.desc).map (fun d => d.parameters.length) = some 1 := by decide +kernel
abbrev mu_x20_leads : gM := (yX20_leads, cX20_leads, 4, none, [])
theorem hy_x20_leads : yX20_leads.cls ≠ "java/lang/invoke/MethodHandle" ∧ yX20_leads.cls ≠ "java/lang/invoke/VarHandle" ∧ (parseMethodDescriptor yX20_leads.desc).map (fun d => d.parameters.length) = some 2 := by decide +kernel
abbrev mu_x20_work : gM := (yX20_work, cX20_work, 3, none, [])
theorem hy_x20_work : yX20_work.cls ≠ "java/lang/invoke/MethodHandle" ∧ yX20_work.cls ≠ "java/lang/invoke/VarHandle" ∧ (parseMethodDescriptor yX20_work.desc).map (fun d => d.parameters.length) = some 2 := by decide +kernel
abbrev mu_x20_truths : gM := (yX20_truths, cX20_truths, 9, none, [])
theorem hy_x20_truths : yX20_truths.cls ≠ "java/lang/invoke/MethodHandle" ∧ yX20_truths.cls ≠ "java/lang/invoke/VarHandle" ∧ (parseMethodDescriptor yX20_truths.desc).map (fun d => d.parameters.length) = some 2 := by decide +kernel
abbrev mu_x20_workAll : gM := (yX20_workAll, cX20_workAll, 7, (some .boolean), [])
theorem hy_x20_workAll : yX20_workAll.cls ≠ "java/lang/invoke/MethodHandle" ∧ yX20_workAll.cls ≠ "java/lang/invoke/VarHandle" ∧ (parseMethodDescriptor yX20_workAll.desc).map (fun d => d.parameters.length) = some 3 := by decide +kernel
abbrev mu_x20_numbers : gM := (yX20_numbers, cX20_numbers, 8, none, [])
theorem hy_x20_numbers : yX20_numbers.cls ≠ "java/lang/invoke/MethodHandle" ∧ yX20_numbers.cls ≠ "java/lang/invoke/VarHandle" ∧ (parseMethodDescriptor yX20_numbers.desc).map (fun d => d.parameters.length) = some 2 := by decide +kernel
abbrev mu_x20_search : gM := (yX20_search, cX20_search, 5, none, [])
theorem hy_x20_search : yX20_search.cls ≠ "java/lang/invoke/MethodHandle" ∧ yX20_search.cls ≠ "java/lang/invoke/VarHandle" ∧ (parseMethodDescriptor yX20_search.desc).map (fun d => d.parameters.length) = some 2 := by decide +kernel
abbrev mu_x20_nth : gM := (yX20_nth, cX20_nth, 7, none, [])
theorem hy_x20_nth : yX20_nth.cls ≠ "java/lang/invoke/MethodHandle" ∧ yX20_nth.cls ≠ "java/lang/invoke/VarHandle" ∧ (parseMethodDescriptor yX20_nth.desc).map (fun d => d.parameters.length) = some 3 := by decide +kernel
abbrev mu_x20_alike : gM := (yX20_alike, cX20_alike, 8, none, [])
theorem hy_x20_alike : yX20_alike.cls ≠ "java/lang/invoke/MethodHandle" ∧ yX20_alike.cls ≠ "java/lang/invoke/VarHandle" ∧ (parseMethodDescriptor yX20_alike.desc).map (fun d => d.parameters.length) = some 3 := by decide +kernel
abbrev mu_x20_place : gM := (yX20_place, cX20_place, 5, none, [])
theorem hy_x20_place : yX20_place.cls ≠ "java/lang/invoke/MethodHandle" ∧ yX20_place.cls ≠ "java/lang/invoke/VarHandle" ∧ (parseMethodDescriptor yX20_place.desc).map (fun d => d.parameters.length) = some 2 := by decide +kernel
abbrev mu_x20_cut : gM := (yX20_cut, cX20_cut, 4, none, [])
theorem hy_x20_cut : yX20_cut.cls ≠ "java/lang/invoke/MethodHandle" ∧ yX20_cut.cls ≠ "java/lang/invoke/VarHandle" ∧ (parseMethodDescriptor yX20_cut.desc).map (fun d => d.parameters.length) = some 2 := by decide +kernel
abbrev mu_x20_one : gM := (yX20_one, cX20_one, 2, none, [])
theorem hy_x20_one : yX20_one.cls ≠ "java/lang/invoke/MethodHandle" ∧ yX20_one.cls ≠ "java/lang/invoke/VarHandle" ∧ (parseMethodDescriptor yX20_one.desc).map (fun d => d.parameters.length) = some 1 := by decide +kernel
abbrev mu_x20_write : gM := (yX20_write, cX20_write, 4, none, [])
theorem hy_x20_write : yX20_write.cls ≠ "java/lang/invoke/MethodHandle" ∧ yX20_write.cls ≠ "java/lang/invoke/VarHandle" ∧ (parseMethodDescriptor yX20_write.desc).map (fun d => d.parameters.length) = some 2 := by decide +kernel
abbrev mu_x20_rank : gM := (yX20_rank, cX20_rank, 1, (some .int), [])
theorem hy_x20_rank : yX20_rank.cls ≠ "java/lang/invoke/MethodHandle" ∧ yX20_rank.cls ≠ "java/lang/invoke/VarHandle" ∧ (parseMethodDescriptor yX20_rank.desc).map (fun d => d.parameters.length) = some 0 := by decide +kernel
abbrev mu_x20_same : gM := (yX20_same, cX20_same, 5, (some .boolean), [])
theorem hy_x20_same : yX20_same.cls ≠ "java/lang/invoke/MethodHandle" ∧ yX20_same.cls ≠ "java/lang/invoke/VarHandle" ∧ (parseMethodDescriptor yX20_same.desc).map (fun d => d.parameters.length) = some 1 := by decide +kernel
abbrev mu_x20_init : gM := (yX20_init, cX20_init, 3, none, [])
theorem hy_x20_init : yX20_init.cls ≠ "java/lang/invoke/MethodHandle" ∧ yX20_init.cls ≠ "java/lang/invoke/VarHandle" ∧ (parseMethodDescriptor yX20_init.desc).map (fun d => d.parameters.length) = some 2 := by decide +kernel
abbrev mu_x20_shifted : gM := (yX20_shifted, cX20_shifted, 4, (some (.object "SheetBranches$Part")), [])
theorem hy_x20_shifted : yX20_shifted.cls ≠ "java/lang/invoke/MethodHandle" ∧ yX20_shifted.cls ≠ "java/lang/invoke/VarHandle" ∧ (parseMethodDescriptor yX20_shifted.desc).map (fun d => d.parameters.length) = some 1 := by decide +kernel
abbrev mu_x21_leads : gM := (yX21_leads, cX21_leads, 3, none, [])
theorem hy_x21_leads : yX21_leads.cls ≠ "java/lang/invoke/MethodHandle" ∧ yX21_leads.cls ≠ "java/lang/invoke/VarHandle" ∧ (parseMethodDescriptor yX21_leads.desc).map (fun d => d.parameters.length) = some 2 := by decide +kernel
abbrev mu_x21_work : gM := (yX21_work, cX21_work, 3, none, [])
theorem hy_x21_work : yX21_work.cls ≠ "java/lang/invoke/MethodHandle" ∧ yX21_work.cls ≠ "java/lang/invoke/VarHandle" ∧ (parseMethodDescriptor yX21_work.desc).map (fun d => d.parameters.length) = some 2 := by decide +kernel
abbrev mu_x21_write : gM := (yX21_write, cX21_write, 3, none, [])
theorem hy_x21_write : yX21_write.cls ≠ "java/lang/invoke/MethodHandle" ∧ yX21_write.cls ≠ "java/lang/invoke/VarHandle" ∧ (parseMethodDescriptor yX21_write.desc).map (fun d => d.parameters.length) = some 2 := by decide +kernel
abbrev mu_x21_rank : gM := (yX21_rank, cX21_rank, 1, (some .int), [])
theorem hy_x21_rank : yX21_rank.cls ≠ "java/lang/invoke/MethodHandle" ∧ yX21_rank.cls ≠ "java/lang/invoke/VarHandle" ∧ (parseMethodDescriptor yX21_rank.desc).map (fun d => d.parameters.length) = some 0 := by decide +kernel
abbrev mu_x21_same : gM := (yX21_same, cX21_same, 2, (some .boolean), [])
theorem hy_x21_same : yX21_same.cls ≠ "java/lang/invoke/MethodHandle" ∧ yX21_same.cls ≠ "java/lang/invoke/VarHandle" ∧ (parseMethodDescriptor yX21_same.desc).map (fun d => d.parameters.length) = some 1 := by decide +kernel
abbrev mu_x21_init : gM := (yX21_init, cX21_init, 2, none, [])
theorem hy_x21_init : yX21_init.cls ≠ "java/lang/invoke/MethodHandle" ∧ yX21_init.cls ≠ "java/lang/invoke/VarHandle" ∧ (parseMethodDescriptor yX21_init.desc).map (fun d => d.parameters.length) = some 1 := by decide +kernel
abbrev mu_x21_shifted : gM := (yX21_shifted, cX21_shifted, 2, (some (.object "SheetBranches$Part")), [])
theorem hy_x21_shifted : yX21_shifted.cls ≠ "java/lang/invoke/MethodHandle" ∧ yX21_shifted.cls ≠ "java/lang/invoke/VarHandle" ∧ (parseMethodDescriptor yX21_shifted.desc).map (fun d => d.parameters.length) = some 1 := by decide +kernel
abbrev mu_x22_leads : gM := (yX22_leads, cX22_leads, 3, none, [])
theorem hy_x22_leads : yX22_leads.cls ≠ "java/lang/invoke/MethodHandle" ∧ yX22_leads.cls ≠ "java/lang/invoke/VarHandle" ∧ (parseMethodDescriptor yX22_leads.desc).map (fun d => d.parameters.length) = some 2 := by decide +kernel
abbrev mu_x22_work : gM := (yX22_work, cX22_work, 4, none, [])
theorem hy_x22_work : yX22_work.cls ≠ "java/lang/invoke/MethodHandle" ∧ yX22_work.cls ≠ "java/lang/invoke/VarHandle" ∧ (parseMethodDescriptor yX22_work.desc).map (fun d => d.parameters.length) = some 2 := by decide +kernel
abbrev mu_x22_rank : gM := (yX22_rank, cX22_rank, 1, (some .int), [])
theorem hy_x22_rank : yX22_rank.cls ≠ "java/lang/invoke/MethodHandle" ∧ yX22_rank.cls ≠ "java/lang/invoke/VarHandle" ∧ (parseMethodDescriptor yX22_rank.desc).map (fun d => d.parameters.length) = some 0 := by decide +kernel
abbrev mu_x22_write : gM := (yX22_write, cX22_write, 4, none, [])
theorem hy_x22_write : yX22_write.cls ≠ "java/lang/invoke/MethodHandle" ∧ yX22_write.cls ≠ "java/lang/invoke/VarHandle" ∧ (parseMethodDescriptor yX22_write.desc).map (fun d => d.parameters.length) = some 2 := by decide +kernel
abbrev mu_x22_same : gM := (yX22_same, cX22_same, 3, (some .boolean), [])
theorem hy_x22_same : yX22_same.cls ≠ "java/lang/invoke/MethodHandle" ∧ yX22_same.cls ≠ "java/lang/invoke/VarHandle" ∧ (parseMethodDescriptor yX22_same.desc).map (fun d => d.parameters.length) = some 1 := by decide +kernel
abbrev mu_x22_init : gM := (yX22_init, cX22_init, 4, none, [])
theorem hy_x22_init : yX22_init.cls ≠ "java/lang/invoke/MethodHandle" ∧ yX22_init.cls ≠ "java/lang/invoke/VarHandle" ∧ (parseMethodDescriptor yX22_init.desc).map (fun d => d.parameters.length) = some 3 := by decide +kernel
abbrev mu_x22_shifted : gM := (yX22_shifted, cX22_shifted, 2, (some (.object "SheetBranches$Part")), [])
theorem hy_x22_shifted : yX22_shifted.cls ≠ "java/lang/invoke/MethodHandle" ∧ yX22_shifted.cls ≠ "java/lang/invoke/VarHandle" ∧ (parseMethodDescriptor yX22_shifted.desc).map (fun d => d.parameters.length) = some 1 := by decide +kernel
abbrev mu_x23_write : gM := (yX23_write, cX23_write, 3, none, [])
theorem hy_x23_write : yX23_write.cls ≠ "java/lang/invoke/MethodHandle" ∧ yX23_write.cls ≠ "java/lang/invoke/VarHandle" ∧ (parseMethodDescriptor yX23_write.desc).map (fun d => d.parameters.length) = some 2 := by decide +kernel
abbrev mu_x23_isAlike : gM := (yX23_isAlike, cX23_isAlike, 2, (some .boolean), [])
theorem hy_x23_isAlike : yX23_isAlike.cls ≠ "java/lang/invoke/MethodHandle" ∧ yX23_isAlike.cls ≠ "java/lang/invoke/VarHandle" ∧ (parseMethodDescriptor yX23_isAlike.desc).map (fun d => d.parameters.length) = some 1 := by decide +kernel
abbrev mu_x23_init : gM := (yX23_init, cX23_init, 3, none, [])
theorem hy_x23_init : yX23_init.cls ≠ "java/lang/invoke/MethodHandle" ∧ yX23_init.cls ≠ "java/lang/invoke/VarHandle" ∧ (parseMethodDescriptor yX23_init.desc).map (fun d => d.parameters.length) = some 2 := by decide +kernel
abbrev mu_x23_parts : gM := (yX23_parts, cX23_parts, 1, (some .int), [])
theorem hy_x23_parts : yX23_parts.cls ≠ "java/lang/invoke/MethodHandle" ∧ yX23_parts.cls ≠ "java/lang/invoke/VarHandle" ∧ (parseMethodDescriptor yX23_parts.desc).map (fun d => d.parameters.length) = some 0 := by decide +kernel
abbrev mu_x24_init : gM := (yX24_init, cX24_init, 5, none, [])
theorem hy_x24_init : yX24_init.cls ≠ "java/lang/invoke/MethodHandle" ∧ yX24_init.cls ≠ "java/lang/invoke/VarHandle" ∧ (parseMethodDescriptor yX24_init.desc).map (fun d => d.parameters.length) = some 4 := by decide +kernel
abbrev mu_x24_sheet : gM := (yX24_sheet, cX24_sheet, 2, (some (.object "SheetBranches$Sheet")), [])
theorem hy_x24_sheet : yX24_sheet.cls ≠ "java/lang/invoke/MethodHandle" ∧ yX24_sheet.cls ≠ "java/lang/invoke/VarHandle" ∧ (parseMethodDescriptor yX24_sheet.desc).map (fun d => d.parameters.length) = some 1 := by decide +kernel
abbrev mu_x25_init : gM := (yX25_init, cX25_init, 4, none, [])
theorem hy_x25_init : yX25_init.cls ≠ "java/lang/invoke/MethodHandle" ∧ yX25_init.cls ≠ "java/lang/invoke/VarHandle" ∧ (parseMethodDescriptor yX25_init.desc).map (fun d => d.parameters.length) = some 3 := by decide +kernel
abbrev mu_x25_weave : gM := (yX25_weave, cX25_weave, 5, (some .boolean), [])
theorem hy_x25_weave : yX25_weave.cls ≠ "java/lang/invoke/MethodHandle" ∧ yX25_weave.cls ≠ "java/lang/invoke/VarHandle" ∧ (parseMethodDescriptor yX25_weave.desc).map (fun d => d.parameters.length) = some 0 := by decide +kernel
abbrev mu_x25_marks : gM := (yX25_marks, cX25_marks, 11, (some (.array .int)), [])
theorem hy_x25_marks : yX25_marks.cls ≠ "java/lang/invoke/MethodHandle" ∧ yX25_marks.cls ≠ "java/lang/invoke/VarHandle" ∧ (parseMethodDescriptor yX25_marks.desc).map (fun d => d.parameters.length) = some 1 := by decide +kernel
abbrev mu_x25_isInOrder : gM := (yX25_isInOrder, cX25_isInOrder, 6, (some .boolean), [])
theorem hy_x25_isInOrder : yX25_isInOrder.cls ≠ "java/lang/invoke/MethodHandle" ∧ yX25_isInOrder.cls ≠ "java/lang/invoke/VarHandle" ∧ (parseMethodDescriptor yX25_isInOrder.desc).map (fun d => d.parameters.length) = some 1 := by decide +kernel
abbrev mu_x25_has : gM := (yX25_has, cX25_has, 3, (some .boolean), [])
theorem hy_x25_has : yX25_has.cls ≠ "java/lang/invoke/MethodHandle" ∧ yX25_has.cls ≠ "java/lang/invoke/VarHandle" ∧ (parseMethodDescriptor yX25_has.desc).map (fun d => d.parameters.length) = some 3 := by decide +kernel
abbrev mu_x25_isIn : gM := (yX25_isIn, cX25_isIn, 5, (some .boolean), [])
theorem hy_x25_isIn : yX25_isIn.cls ≠ "java/lang/invoke/MethodHandle" ∧ yX25_isIn.cls ≠ "java/lang/invoke/VarHandle" ∧ (parseMethodDescriptor yX25_isIn.desc).map (fun d => d.parameters.length) = some 2 := by decide +kernel
abbrev mu_x25_isChanged : gM := (yX25_isChanged, cX25_isChanged, 8, (some .boolean), [])
theorem hy_x25_isChanged : yX25_isChanged.cls ≠ "java/lang/invoke/MethodHandle" ∧ yX25_isChanged.cls ≠ "java/lang/invoke/VarHandle" ∧ (parseMethodDescriptor yX25_isChanged.desc).map (fun d => d.parameters.length) = some 3 := by decide +kernel
abbrev mu_x25_of : gM := (yX25_of, cX25_of, 4, (some (.object "SheetBranches$Content")), [])
theorem hy_x25_of : yX25_of.cls ≠ "java/lang/invoke/MethodHandle" ∧ yX25_of.cls ≠ "java/lang/invoke/VarHandle" ∧ (parseMethodDescriptor yX25_of.desc).map (fun d => d.parameters.length) = some 4 := by decide +kernel
abbrev mu_x25_behind : gM := (yX25_behind, cX25_behind, 6, (some .int), [])
theorem hy_x25_behind : yX25_behind.cls ≠ "java/lang/invoke/MethodHandle" ∧ yX25_behind.cls ≠ "java/lang/invoke/VarHandle" ∧ (parseMethodDescriptor yX25_behind.desc).map (fun d => d.parameters.length) = some 4 := by decide +kernel
abbrev mu_x25_tellKept : gM := (yX25_tellKept, cX25_tellKept, 5, none, [])
theorem hy_x25_tellKept : yX25_tellKept.cls ≠ "java/lang/invoke/MethodHandle" ∧ yX25_tellKept.cls ≠ "java/lang/invoke/VarHandle" ∧ (parseMethodDescriptor yX25_tellKept.desc).map (fun d => d.parameters.length) = some 1 := by decide +kernel
abbrev mu_x25_tell : gM := (yX25_tell, cX25_tell, 8, none, [])
theorem hy_x25_tell : yX25_tell.cls ≠ "java/lang/invoke/MethodHandle" ∧ yX25_tell.cls ≠ "java/lang/invoke/VarHandle" ∧ (parseMethodDescriptor yX25_tell.desc).map (fun d => d.parameters.length) = some 6 := by decide +kernel
abbrev mu_x25_cell : gM := (yX25_cell, cX25_cell, 8, (some (.object "SheetBranches$Content")), [])
theorem hy_x25_cell : yX25_cell.cls ≠ "java/lang/invoke/MethodHandle" ∧ yX25_cell.cls ≠ "java/lang/invoke/VarHandle" ∧ (parseMethodDescriptor yX25_cell.desc).map (fun d => d.parameters.length) = some 2 := by decide +kernel
abbrev mu_x25_hasCell : gM := (yX25_hasCell, cX25_hasCell, 3, (some .boolean), [])
theorem hy_x25_hasCell : yX25_hasCell.cls ≠ "java/lang/invoke/MethodHandle" ∧ yX25_hasCell.cls ≠ "java/lang/invoke/VarHandle" ∧ (parseMethodDescriptor yX25_hasCell.desc).map (fun d => d.parameters.length) = some 3 := by decide +kernel
abbrev mu_x26_init : gM := (yX26_init, cX26_init, 7, none, [])
theorem hy_x26_init : yX26_init.cls ≠ "java/lang/invoke/MethodHandle" ∧ yX26_init.cls ≠ "java/lang/invoke/VarHandle" ∧ (parseMethodDescriptor yX26_init.desc).map (fun d => d.parameters.length) = some 6 := by decide +kernel
abbrev mu_x3_init : gM := (yX3_init, cX3_init, 3, none, [])
theorem hy_x3_init : yX3_init.cls ≠ "java/lang/invoke/MethodHandle" ∧ yX3_init.cls ≠ "java/lang/invoke/VarHandle" ∧ (parseMethodDescriptor yX3_init.desc).map (fun d => d.parameters.length) = some 1 := by decide +kernel
abbrev mu_x3_reckon : gM := (yX3_reckon, cX3_reckon, 6, none, [])
theorem hy_x3_reckon : yX3_reckon.cls ≠ "java/lang/invoke/MethodHandle" ∧ yX3_reckon.cls ≠ "java/lang/invoke/VarHandle" ∧ (parseMethodDescriptor yX3_reckon.desc).map (fun d => d.parameters.length) = some 2 := by decide +kernel
abbrev mu_x3_sheetOf : gM := (yX3_sheetOf, cX3_sheetOf, 2, (some (.object "SheetBranches$Sheet")), [])
theorem hy_x3_sheetOf : yX3_sheetOf.cls ≠ "java/lang/invoke/MethodHandle" ∧ yX3_sheetOf.cls ≠ "java/lang/invoke/VarHandle" ∧ (parseMethodDescriptor yX3_sheetOf.desc).map (fun d => d.parameters.length) = some 1 := by decide +kernel
abbrev mu_x3_valuesOf : gM := (yX3_valuesOf, cX3_valuesOf, 2, (some (.object "SheetBranches$Values")), [])
theorem hy_x3_valuesOf : yX3_valuesOf.cls ≠ "java/lang/invoke/MethodHandle" ∧ yX3_valuesOf.cls ≠ "java/lang/invoke/VarHandle" ∧ (parseMethodDescriptor yX3_valuesOf.desc).map (fun d => d.parameters.length) = some 1 := by decide +kernel
abbrev mu_x3_take : gM := (yX3_take, cX3_take, 1, (some (.object "SheetBranches$Worth")), [])
theorem hy_x3_take : yX3_take.cls ≠ "java/lang/invoke/MethodHandle" ∧ yX3_take.cls ≠ "java/lang/invoke/VarHandle" ∧ (parseMethodDescriptor yX3_take.desc).map (fun d => d.parameters.length) = some 0 := by decide +kernel
abbrev mu_x3_give : gM := (yX3_give, cX3_give, 1, none, [])
theorem hy_x3_give : yX3_give.cls ≠ "java/lang/invoke/MethodHandle" ∧ yX3_give.cls ≠ "java/lang/invoke/VarHandle" ∧ (parseMethodDescriptor yX3_give.desc).map (fun d => d.parameters.length) = some 0 := by decide +kernel
abbrev mu_x3_opens : gM := (yX3_opens, cX3_opens, 8, (some .boolean), [])
theorem hy_x3_opens : yX3_opens.cls ≠ "java/lang/invoke/MethodHandle" ∧ yX3_opens.cls ≠ "java/lang/invoke/VarHandle" ∧ (parseMethodDescriptor yX3_opens.desc).map (fun d => d.parameters.length) = some 2 := by decide +kernel
abbrev mu_x3_next : gM := (yX3_next, cX3_next, 1, (some .boolean), [])
theorem hy_x3_next : yX3_next.cls ≠ "java/lang/invoke/MethodHandle" ∧ yX3_next.cls ≠ "java/lang/invoke/VarHandle" ∧ (parseMethodDescriptor yX3_next.desc).map (fun d => d.parameters.length) = some 0 := by decide +kernel
abbrev mu_x3_clear : gM := (yX3_clear, cX3_clear, 1, none, [])
theorem hy_x3_clear : yX3_clear.cls ≠ "java/lang/invoke/MethodHandle" ∧ yX3_clear.cls ≠ "java/lang/invoke/VarHandle" ∧ (parseMethodDescriptor yX3_clear.desc).map (fun d => d.parameters.length) = some 0 := by decide +kernel
abbrev mu_x3_tally : gM := (yX3_tally, cX3_tally, 3, none, [])
theorem hy_x3_tally : yX3_tally.cls ≠ "java/lang/invoke/MethodHandle" ∧ yX3_tally.cls ≠ "java/lang/invoke/VarHandle" ∧ (parseMethodDescriptor yX3_tally.desc).map (fun d => d.parameters.length) = some 1 := by decide +kernel
abbrev mu_x3_isThere : gM := (yX3_isThere, cX3_isThere, 2, (some .boolean), [])
theorem hy_x3_isThere : yX3_isThere.cls ≠ "java/lang/invoke/MethodHandle" ∧ yX3_isThere.cls ≠ "java/lang/invoke/VarHandle" ∧ (parseMethodDescriptor yX3_isThere.desc).map (fun d => d.parameters.length) = some 1 := by decide +kernel
abbrev mu_x3_size : gM := (yX3_size, cX3_size, 1, (some .int), [])
theorem hy_x3_size : yX3_size.cls ≠ "java/lang/invoke/MethodHandle" ∧ yX3_size.cls ≠ "java/lang/invoke/VarHandle" ∧ (parseMethodDescriptor yX3_size.desc).map (fun d => d.parameters.length) = some 0 := by decide +kernel
abbrev mu_x4_init : gM := (yX4_init, cX4_init, 1, none, [])
theorem hy_x4_init : yX4_init.cls ≠ "java/lang/invoke/MethodHandle" ∧ yX4_init.cls ≠ "java/lang/invoke/VarHandle" ∧ (parseMethodDescriptor yX4_init.desc).map (fun d => d.parameters.length) = some 0 := by decide +kernel
abbrev mu_x4_find : gM := (yX4_find, cX4_find, 4, none, [])
theorem hy_x4_find : yX4_find.cls ≠ "java/lang/invoke/MethodHandle" ∧ yX4_find.cls ≠ "java/lang/invoke/VarHandle" ∧ (parseMethodDescriptor yX4_find.desc).map (fun d => d.parameters.length) = some 1 := by decide +kernel
abbrev mu_x4_add : gM := (yX4_add, cX4_add, 4, none, [])
theorem hy_x4_add : yX4_add.cls ≠ "java/lang/invoke/MethodHandle" ∧ yX4_add.cls ≠ "java/lang/invoke/VarHandle" ∧ (parseMethodDescriptor yX4_add.desc).map (fun d => d.parameters.length) = some 2 := by decide +kernel
abbrev mu_x4_walk : gM := (yX4_walk, cX4_walk, 5, none, [])
theorem hy_x4_walk : yX4_walk.cls ≠ "java/lang/invoke/MethodHandle" ∧ yX4_walk.cls ≠ "java/lang/invoke/VarHandle" ∧ (parseMethodDescriptor yX4_walk.desc).map (fun d => d.parameters.length) = some 1 := by decide +kernel
abbrev mu_x4_meet : gM := (yX4_meet, cX4_meet, 2, none, [])
theorem hy_x4_meet : yX4_meet.cls ≠ "java/lang/invoke/MethodHandle" ∧ yX4_meet.cls ≠ "java/lang/invoke/VarHandle" ∧ (parseMethodDescriptor yX4_meet.desc).map (fun d => d.parameters.length) = some 1 := by decide +kernel
abbrev mu_x4_first : gM := (yX4_first, cX4_first, 6, (some .int), [])
theorem hy_x4_first : yX4_first.cls ≠ "java/lang/invoke/MethodHandle" ∧ yX4_first.cls ≠ "java/lang/invoke/VarHandle" ∧ (parseMethodDescriptor yX4_first.desc).map (fun d => d.parameters.length) = some 2 := by decide +kernel
abbrev mu_x4_leave : gM := (yX4_leave, cX4_leave, 4, none, [])
theorem hy_x4_leave : yX4_leave.cls ≠ "java/lang/invoke/MethodHandle" ∧ yX4_leave.cls ≠ "java/lang/invoke/VarHandle" ∧ (parseMethodDescriptor yX4_leave.desc).map (fun d => d.parameters.length) = some 1 := by decide +kernel
abbrev mu_x4_leads : gM := (yX4_leads, cX4_leads, 3, (some .boolean), [])
theorem hy_x4_leads : yX4_leads.cls ≠ "java/lang/invoke/MethodHandle" ∧ yX4_leads.cls ≠ "java/lang/invoke/VarHandle" ∧ (parseMethodDescriptor yX4_leads.desc).map (fun d => d.parameters.length) = some 2 := by decide +kernel
abbrev mu_x5_init : gM := (yX5_init, cX5_init, 1, none, [])
theorem hy_x5_init : yX5_init.cls ≠ "java/lang/invoke/MethodHandle" ∧ yX5_init.cls ≠ "java/lang/invoke/VarHandle" ∧ (parseMethodDescriptor yX5_init.desc).map (fun d => d.parameters.length) = some 0 := by decide +kernel
abbrev mu_x5_none : gM := (yX5_none, cX5_none, 1, none, [])
theorem hy_x5_none : yX5_none.cls ≠ "java/lang/invoke/MethodHandle" ∧ yX5_none.cls ≠ "java/lang/invoke/VarHandle" ∧ (parseMethodDescriptor yX5_none.desc).map (fun d => d.parameters.length) = some 0 := by decide +kernel
abbrev mu_x5_fail : gM := (yX5_fail, cX5_fail, 2, none, [])
theorem hy_x5_fail : yX5_fail.cls ≠ "java/lang/invoke/MethodHandle" ∧ yX5_fail.cls ≠ "java/lang/invoke/VarHandle" ∧ (parseMethodDescriptor yX5_fail.desc).map (fun d => d.parameters.length) = some 1 := by decide +kernel
abbrev mu_x5_is : gM := (yX5_is, cX5_is, 2, none, [])
theorem hy_x5_is : yX5_is.cls ≠ "java/lang/invoke/MethodHandle" ∧ yX5_is.cls ≠ "java/lang/invoke/VarHandle" ∧ (parseMethodDescriptor yX5_is.desc).map (fun d => d.parameters.length) = some 1 := by decide +kernel
abbrev mu_x5_be : gM := (yX5_be, cX5_be, 3, none, [])
theorem hy_x5_be : yX5_be.cls ≠ "java/lang/invoke/MethodHandle" ∧ yX5_be.cls ≠ "java/lang/invoke/VarHandle" ∧ (parseMethodDescriptor yX5_be.desc).map (fun d => d.parameters.length) = some 1 := by decide +kernel
abbrev mu_x5_words : gM := (yX5_words, cX5_words, 4, none, [])
theorem hy_x5_words : yX5_words.cls ≠ "java/lang/invoke/MethodHandle" ∧ yX5_words.cls ≠ "java/lang/invoke/VarHandle" ∧ (parseMethodDescriptor yX5_words.desc).map (fun d => d.parameters.length) = some 3 := by decide +kernel
abbrev mu_x5_failed : gM := (yX5_failed, cX5_failed, 1, (some .boolean), [])
theorem hy_x5_failed : yX5_failed.cls ≠ "java/lang/invoke/MethodHandle" ∧ yX5_failed.cls ≠ "java/lang/invoke/VarHandle" ∧ (parseMethodDescriptor yX5_failed.desc).map (fun d => d.parameters.length) = some 0 := by decide +kernel
abbrev mu_x5_copy : gM := (yX5_copy, cX5_copy, 2, none, [])
theorem hy_x5_copy : yX5_copy.cls ≠ "java/lang/invoke/MethodHandle" ∧ yX5_copy.cls ≠ "java/lang/invoke/VarHandle" ∧ (parseMethodDescriptor yX5_copy.desc).map (fun d => d.parameters.length) = some 1 := by decide +kernel
abbrev mu_x5_adapt : gM := (yX5_adapt, cX5_adapt, 2, none, [])
theorem hy_x5_adapt : yX5_adapt.cls ≠ "java/lang/invoke/MethodHandle" ∧ yX5_adapt.cls ≠ "java/lang/invoke/VarHandle" ∧ (parseMethodDescriptor yX5_adapt.desc).map (fun d => d.parameters.length) = some 1 := by decide +kernel
abbrev mu_x5_against : gM := (yX5_against, cX5_against, 3, (some .int), [])
theorem hy_x5_against : yX5_against.cls ≠ "java/lang/invoke/MethodHandle" ∧ yX5_against.cls ≠ "java/lang/invoke/VarHandle" ∧ (parseMethodDescriptor yX5_against.desc).map (fun d => d.parameters.length) = some 1 := by decide +kernel
abbrev mu_x5_wantText : gM := (yX5_wantText, cX5_wantText, 4, none, [])
theorem hy_x5_wantText : yX5_wantText.cls ≠ "java/lang/invoke/MethodHandle" ∧ yX5_wantText.cls ≠ "java/lang/invoke/VarHandle" ∧ (parseMethodDescriptor yX5_wantText.desc).map (fun d => d.parameters.length) = some 0 := by decide +kernel
abbrev mu_x5_spell : gM := (yX5_spell, cX5_spell, 3, none, [])
theorem hy_x5_spell : yX5_spell.cls ≠ "java/lang/invoke/MethodHandle" ∧ yX5_spell.cls ≠ "java/lang/invoke/VarHandle" ∧ (parseMethodDescriptor yX5_spell.desc).map (fun d => d.parameters.length) = some 1 := by decide +kernel
abbrev mu_x5_digits : gM := (yX5_digits, cX5_digits, 9, none, [])
theorem hy_x5_digits : yX5_digits.cls ≠ "java/lang/invoke/MethodHandle" ∧ yX5_digits.cls ≠ "java/lang/invoke/VarHandle" ∧ (parseMethodDescriptor yX5_digits.desc).map (fun d => d.parameters.length) = some 1 := by decide +kernel
abbrev mu_x5_join : gM := (yX5_join, cX5_join, 2, none, [])
theorem hy_x5_join : yX5_join.cls ≠ "java/lang/invoke/MethodHandle" ∧ yX5_join.cls ≠ "java/lang/invoke/VarHandle" ∧ (parseMethodDescriptor yX5_join.desc).map (fun d => d.parameters.length) = some 1 := by decide +kernel
abbrev mu_x5_wantNumber : gM := (yX5_wantNumber, cX5_wantNumber, 1, (some .boolean), [])
theorem hy_x5_wantNumber : yX5_wantNumber.cls ≠ "java/lang/invoke/MethodHandle" ∧ yX5_wantNumber.cls ≠ "java/lang/invoke/VarHandle" ∧ (parseMethodDescriptor yX5_wantNumber.desc).map (fun d => d.parameters.length) = some 0 := by decide +kernel
abbrev mu_x5_wantTruth : gM := (yX5_wantTruth, cX5_wantTruth, 1, (some .boolean), [])
theorem hy_x5_wantTruth : yX5_wantTruth.cls ≠ "java/lang/invoke/MethodHandle" ∧ yX5_wantTruth.cls ≠ "java/lang/invoke/VarHandle" ∧ (parseMethodDescriptor yX5_wantTruth.desc).map (fun d => d.parameters.length) = some 0 := by decide +kernel
abbrev mu_x5_cut : gM := (yX5_cut, cX5_cut, 5, none, [])
theorem hy_x5_cut : yX5_cut.cls ≠ "java/lang/invoke/MethodHandle" ∧ yX5_cut.cls ≠ "java/lang/invoke/VarHandle" ∧ (parseMethodDescriptor yX5_cut.desc).map (fun d => d.parameters.length) = some 2 := by decide +kernel
abbrev mu_x6_init : gM := (yX6_init, cX6_init, 2, none, [])
theorem hy_x6_init : yX6_init.cls ≠ "java/lang/invoke/MethodHandle" ∧ yX6_init.cls ≠ "java/lang/invoke/VarHandle" ∧ (parseMethodDescriptor yX6_init.desc).map (fun d => d.parameters.length) = some 1 := by decide +kernel
abbrev mu_x6_isPlain : gM := (yX6_isPlain, cX6_isPlain, 2, (some .boolean), [])
theorem hy_x6_isPlain : yX6_isPlain.cls ≠ "java/lang/invoke/MethodHandle" ∧ yX6_isPlain.cls ≠ "java/lang/invoke/VarHandle" ∧ (parseMethodDescriptor yX6_isPlain.desc).map (fun d => d.parameters.length) = some 1 := by decide +kernel
abbrev mu_x6_isWhole : gM := (yX6_isWhole, cX6_isWhole, 5, (some .boolean), [])
theorem hy_x6_isWhole : yX6_isWhole.cls ≠ "java/lang/invoke/MethodHandle" ∧ yX6_isWhole.cls ≠ "java/lang/invoke/VarHandle" ∧ (parseMethodDescriptor yX6_isWhole.desc).map (fun d => d.parameters.length) = some 3 := by decide +kernel
abbrev mu_x6_isDigit : gM := (yX6_isDigit, cX6_isDigit, 1, (some .boolean), [])
theorem hy_x6_isDigit : yX6_isDigit.cls ≠ "java/lang/invoke/MethodHandle" ∧ yX6_isDigit.cls ≠ "java/lang/invoke/VarHandle" ∧ (parseMethodDescriptor yX6_isDigit.desc).map (fun d => d.parameters.length) = some 1 := by decide +kernel
abbrev mu_x6_isTruth : gM := (yX6_isTruth, cX6_isTruth, 3, (some .boolean), [])
theorem hy_x6_isTruth : yX6_isTruth.cls ≠ "java/lang/invoke/MethodHandle" ∧ yX6_isTruth.cls ≠ "java/lang/invoke/VarHandle" ∧ (parseMethodDescriptor yX6_isTruth.desc).map (fun d => d.parameters.length) = some 3 := by decide +kernel
abbrev mu_x6_spells : gM := (yX6_spells, cX6_spells, 6, (some .boolean), [])
theorem hy_x6_spells : yX6_spells.cls ≠ "java/lang/invoke/MethodHandle" ∧ yX6_spells.cls ≠ "java/lang/invoke/VarHandle" ∧ (parseMethodDescriptor yX6_spells.desc).map (fun d => d.parameters.length) = some 4 := by decide +kernel
abbrev mu_x6_read : gM := (yX6_read, cX6_read, 7, none, [])
theorem hy_x6_read : yX6_read.cls ≠ "java/lang/invoke/MethodHandle" ∧ yX6_read.cls ≠ "java/lang/invoke/VarHandle" ∧ (parseMethodDescriptor yX6_read.desc).map (fun d => d.parameters.length) = some 4 := by decide +kernel
abbrev mu_x6_formula : gM := (yX6_formula, cX6_formula, 4, none, [])
theorem hy_x6_formula : yX6_formula.cls ≠ "java/lang/invoke/MethodHandle" ∧ yX6_formula.cls ≠ "java/lang/invoke/VarHandle" ∧ (parseMethodDescriptor yX6_formula.desc).map (fun d => d.parameters.length) = some 2 := by decide +kernel
abbrev mu_x6_test : gM := (yX6_test, cX6_test, 3, (some (.object "SheetBranches$Part")), [])
theorem hy_x6_test : yX6_test.cls ≠ "java/lang/invoke/MethodHandle" ∧ yX6_test.cls ≠ "java/lang/invoke/VarHandle" ∧ (parseMethodDescriptor yX6_test.desc).map (fun d => d.parameters.length) = some 0 := by decide +kernel
abbrev mu_x6_chain : gM := (yX6_chain, cX6_chain, 2, (some (.object "SheetBranches$Part")), [])
theorem hy_x6_chain : yX6_chain.cls ≠ "java/lang/invoke/MethodHandle" ∧ yX6_chain.cls ≠ "java/lang/invoke/VarHandle" ∧ (parseMethodDescriptor yX6_chain.desc).map (fun d => d.parameters.length) = some 0 := by decide +kernel
abbrev mu_x6_sum : gM := (yX6_sum, cX6_sum, 3, (some (.object "SheetBranches$Part")), [])
theorem hy_x6_sum : yX6_sum.cls ≠ "java/lang/invoke/MethodHandle" ∧ yX6_sum.cls ≠ "java/lang/invoke/VarHandle" ∧ (parseMethodDescriptor yX6_sum.desc).map (fun d => d.parameters.length) = some 0 := by decide +kernel
abbrev mu_x6_product : gM := (yX6_product, cX6_product, 3, (some (.object "SheetBranches$Part")), [])
theorem hy_x6_product : yX6_product.cls ≠ "java/lang/invoke/MethodHandle" ∧ yX6_product.cls ≠ "java/lang/invoke/VarHandle" ∧ (parseMethodDescriptor yX6_product.desc).map (fun d => d.parameters.length) = some 0 := by decide +kernel
abbrev mu_x6_sign : gM := (yX6_sign, cX6_sign, 2, (some (.object "SheetBranches$Part")), [])
theorem hy_x6_sign : yX6_sign.cls ≠ "java/lang/invoke/MethodHandle" ∧ yX6_sign.cls ≠ "java/lang/invoke/VarHandle" ∧ (parseMethodDescriptor yX6_sign.desc).map (fun d => d.parameters.length) = some 0 := by decide +kernel
abbrev mu_x6_peek : gM := (yX6_peek, cX6_peek, 1, (some .int), [])
theorem hy_x6_peek : yX6_peek.cls ≠ "java/lang/invoke/MethodHandle" ∧ yX6_peek.cls ≠ "java/lang/invoke/VarHandle" ∧ (parseMethodDescriptor yX6_peek.desc).map (fun d => d.parameters.length) = some 0 := by decide +kernel
abbrev mu_x6_here : gM := (yX6_here, cX6_here, 2, (some .int), [])
theorem hy_x6_here : yX6_here.cls ≠ "java/lang/invoke/MethodHandle" ∧ yX6_here.cls ≠ "java/lang/invoke/VarHandle" ∧ (parseMethodDescriptor yX6_here.desc).map (fun d => d.parameters.length) = some 1 := by decide +kernel
abbrev mu_x6_atom : gM := (yX6_atom, cX6_atom, 3, (some (.object "SheetBranches$Part")), [])
theorem hy_x6_atom : yX6_atom.cls ≠ "java/lang/invoke/MethodHandle" ∧ yX6_atom.cls ≠ "java/lang/invoke/VarHandle" ∧ (parseMethodDescriptor yX6_atom.desc).map (fun d => d.parameters.length) = some 0 := by decide +kernel
abbrev mu_x6_opens : gM := (yX6_opens, cX6_opens, 1, none, [])
theorem hy_x6_opens : yX6_opens.cls ≠ "java/lang/invoke/MethodHandle" ∧ yX6_opens.cls ≠ "java/lang/invoke/VarHandle" ∧ (parseMethodDescriptor yX6_opens.desc).map (fun d => d.parameters.length) = some 0 := by decide +kernel
abbrev mu_x6_wrong : gM := (yX6_wrong, cX6_wrong, 3, (some (.object "SheetBranches$Wrong")), [])
theorem hy_x6_wrong : yX6_wrong.cls ≠ "java/lang/invoke/MethodHandle" ∧ yX6_wrong.cls ≠ "java/lang/invoke/VarHandle" ∧ (parseMethodDescriptor yX6_wrong.desc).map (fun d => d.parameters.length) = some 2 := by decide +kernel
abbrev mu_x6_wrongJust : gM := (yX6_wrongJust, cX6_wrongJust, 3, (some (.object "SheetBranches$Wrong")), [])
theorem hy_x6_wrongJust : yX6_wrongJust.cls ≠ "java/lang/invoke/MethodHandle" ∧ yX6_wrongJust.cls ≠ "java/lang/invoke/VarHandle" ∧ (parseMethodDescriptor yX6_wrongJust.desc).map (fun d => d.parameters.length) = some 2 := by decide +kernel
abbrev mu_x6_expect : gM := (yX6_expect, cX6_expect, 2, none, [])
theorem hy_x6_expect : yX6_expect.cls ≠ "java/lang/invoke/MethodHandle" ∧ yX6_expect.cls ≠ "java/lang/invoke/VarHandle" ∧ (parseMethodDescriptor yX6_expect.desc).map (fun d => d.parameters.length) = some 1 := by decide +kernel
abbrev mu_x6_number : gM := (yX6_number, cX6_number, 2, (some (.object "SheetBranches$Part")), [])
theorem hy_x6_number : yX6_number.cls ≠ "java/lang/invoke/MethodHandle" ∧ yX6_number.cls ≠ "java/lang/invoke/VarHandle" ∧ (parseMethodDescriptor yX6_number.desc).map (fun d => d.parameters.length) = some 0 := by decide +kernel
abbrev mu_x6_digits : gM := (yX6_digits, cX6_digits, 6, (some .long), [])
theorem hy_x6_digits : yX6_digits.cls ≠ "java/lang/invoke/MethodHandle" ∧ yX6_digits.cls ≠ "java/lang/invoke/VarHandle" ∧ (parseMethodDescriptor yX6_digits.desc).map (fun d => d.parameters.length) = some 2 := by decide +kernel
abbrev mu_x6_quoted : gM := (yX6_quoted, cX6_quoted, 2, (some (.object "SheetBranches$Part")), [])
theorem hy_x6_quoted : yX6_quoted.cls ≠ "java/lang/invoke/MethodHandle" ∧ yX6_quoted.cls ≠ "java/lang/invoke/VarHandle" ∧ (parseMethodDescriptor yX6_quoted.desc).map (fun d => d.parameters.length) = some 0 := by decide +kernel
abbrev mu_x6_isSign : gM := (yX6_isSign, cX6_isSign, 1, (some .boolean), [])
theorem hy_x6_isSign : yX6_isSign.cls ≠ "java/lang/invoke/MethodHandle" ∧ yX6_isSign.cls ≠ "java/lang/invoke/VarHandle" ∧ (parseMethodDescriptor yX6_isSign.desc).map (fun d => d.parameters.length) = some 1 := by decide +kernel
abbrev mu_x6_part : gM := (yX6_part, cX6_part, 4, (some (.array .byte)), [])
theorem hy_x6_part : yX6_part.cls ≠ "java/lang/invoke/MethodHandle" ∧ yX6_part.cls ≠ "java/lang/invoke/VarHandle" ∧ (parseMethodDescriptor yX6_part.desc).map (fun d => d.parameters.length) = some 2 := by decide +kernel
abbrev mu_x6_gone : gM := (yX6_gone, cX6_gone, 1, (some (.object "SheetBranches$Part")), [])
theorem hy_x6_gone : yX6_gone.cls ≠ "java/lang/invoke/MethodHandle" ∧ yX6_gone.cls ≠ "java/lang/invoke/VarHandle" ∧ (parseMethodDescriptor yX6_gone.desc).map (fun d => d.parameters.length) = some 0 := by decide +kernel
abbrev mu_x6_corner : gM := (yX6_corner, cX6_corner, 3, (some .int), [])
theorem hy_x6_corner : yX6_corner.cls ≠ "java/lang/invoke/MethodHandle" ∧ yX6_corner.cls ≠ "java/lang/invoke/VarHandle" ∧ (parseMethodDescriptor yX6_corner.desc).map (fun d => d.parameters.length) = some 1 := by decide +kernel
abbrev mu_x6_isLetter : gM := (yX6_isLetter, cX6_isLetter, 1, (some .boolean), [])
theorem hy_x6_isLetter : yX6_isLetter.cls ≠ "java/lang/invoke/MethodHandle" ∧ yX6_isLetter.cls ≠ "java/lang/invoke/VarHandle" ∧ (parseMethodDescriptor yX6_isLetter.desc).map (fun d => d.parameters.length) = some 1 := by decide +kernel
abbrev mu_x6_spot : gM := (yX6_spot, cX6_spot, 5, (some (.object "SheetBranches$Part")), [])
theorem hy_x6_spot : yX6_spot.cls ≠ "java/lang/invoke/MethodHandle" ∧ yX6_spot.cls ≠ "java/lang/invoke/VarHandle" ∧ (parseMethodDescriptor yX6_spot.desc).map (fun d => d.parameters.length) = some 0 := by decide +kernel
abbrev mu_x6_version : gM := (yX6_version, cX6_version, 2, (some .int), [])
theorem hy_x6_version : yX6_version.cls ≠ "java/lang/invoke/MethodHandle" ∧ yX6_version.cls ≠ "java/lang/invoke/VarHandle" ∧ (parseMethodDescriptor yX6_version.desc).map (fun d => d.parameters.length) = some 0 := by decide +kernel
abbrev mu_x6_sheetOf : gM := (yX6_sheetOf, cX6_sheetOf, 2, (some (.object "SheetBranches$Sheet")), [])
theorem hy_x6_sheetOf : yX6_sheetOf.cls ≠ "java/lang/invoke/MethodHandle" ∧ yX6_sheetOf.cls ≠ "java/lang/invoke/VarHandle" ∧ (parseMethodDescriptor yX6_sheetOf.desc).map (fun d => d.parameters.length) = some 1 := by decide +kernel
abbrev mu_x6_cornerOf : gM := (yX6_cornerOf, cX6_cornerOf, 9, (some (.object "SheetBranches$Corner")), [])
theorem hy_x6_cornerOf : yX6_cornerOf.cls ≠ "java/lang/invoke/MethodHandle" ∧ yX6_cornerOf.cls ≠ "java/lang/invoke/VarHandle" ∧ (parseMethodDescriptor yX6_cornerOf.desc).map (fun d => d.parameters.length) = some 3 := by decide +kernel
abbrev mu_x6_late : gM := (yX6_late, cX6_late, 3, none, [])
theorem hy_x6_late : yX6_late.cls ≠ "java/lang/invoke/MethodHandle" ∧ yX6_late.cls ≠ "java/lang/invoke/VarHandle" ∧ (parseMethodDescriptor yX6_late.desc).map (fun d => d.parameters.length) = some 2 := by decide +kernel
abbrev mu_x6_word : gM := (yX6_word, cX6_word, 3, (some (.object "SheetBranches$Part")), [])
theorem hy_x6_word : yX6_word.cls ≠ "java/lang/invoke/MethodHandle" ∧ yX6_word.cls ≠ "java/lang/invoke/VarHandle" ∧ (parseMethodDescriptor yX6_word.desc).map (fun d => d.parameters.length) = some 0 := by decide +kernel
abbrev mu_x6_call : gM := (yX6_call, cX6_call, 8, (some (.object "SheetBranches$Part")), [])
theorem hy_x6_call : yX6_call.cls ≠ "java/lang/invoke/MethodHandle" ∧ yX6_call.cls ≠ "java/lang/invoke/VarHandle" ∧ (parseMethodDescriptor yX6_call.desc).map (fun d => d.parameters.length) = some 2 := by decide +kernel
abbrev mu_x6_arg : gM := (yX6_arg, cX6_arg, 3, (some (.object "SheetBranches$Part")), [])
theorem hy_x6_arg : yX6_arg.cls ≠ "java/lang/invoke/MethodHandle" ∧ yX6_arg.cls ≠ "java/lang/invoke/VarHandle" ∧ (parseMethodDescriptor yX6_arg.desc).map (fun d => d.parameters.length) = some 0 := by decide +kernel
abbrev mu_x6_area : gM := (yX6_area, cX6_area, 7, (some (.object "SheetBranches$Part")), [])
theorem hy_x6_area : yX6_area.cls ≠ "java/lang/invoke/MethodHandle" ∧ yX6_area.cls ≠ "java/lang/invoke/VarHandle" ∧ (parseMethodDescriptor yX6_area.desc).map (fun d => d.parameters.length) = some 0 := by decide +kernel
abbrev mu_x6_two : gM := (yX6_two, cX6_two, 4, (some (.object "SheetBranches$Part")), [])
theorem hy_x6_two : yX6_two.cls ≠ "java/lang/invoke/MethodHandle" ∧ yX6_two.cls ≠ "java/lang/invoke/VarHandle" ∧ (parseMethodDescriptor yX6_two.desc).map (fun d => d.parameters.length) = some 3 := by decide +kernel
abbrev mu_x6_comparing : gM := (yX6_comparing, cX6_comparing, 3, (some (.object "SheetBranches$Sign")), [])
theorem hy_x6_comparing : yX6_comparing.cls ≠ "java/lang/invoke/MethodHandle" ∧ yX6_comparing.cls ≠ "java/lang/invoke/VarHandle" ∧ (parseMethodDescriptor yX6_comparing.desc).map (fun d => d.parameters.length) = some 0 := by decide +kernel
abbrev mu_x6_plain : gM := (yX6_plain, cX6_plain, 6, none, [])
theorem hy_x6_plain : yX6_plain.cls ≠ "java/lang/invoke/MethodHandle" ∧ yX6_plain.cls ≠ "java/lang/invoke/VarHandle" ∧ (parseMethodDescriptor yX6_plain.desc).map (fun d => d.parameters.length) = some 2 := by decide +kernel
abbrev mu_x7_values : gM := (yX7_values, cX7_values, 0, (some (.array (.object "SheetBranches$Name"))), [])
theorem hy_x7_values : yX7_values.cls ≠ "java/lang/invoke/MethodHandle" ∧ yX7_values.cls ≠ "java/lang/invoke/VarHandle" ∧ (parseMethodDescriptor yX7_values.desc).map (fun d => d.parameters.length) = some 0 := by decide +kernel
abbrev mu_x7_wantsSpot : gM := (yX7_wantsSpot, cX7_wantsSpot, 1, (some .boolean), [])
theorem hy_x7_wantsSpot : yX7_wantsSpot.cls ≠ "java/lang/invoke/MethodHandle" ∧ yX7_wantsSpot.cls ≠ "java/lang/invoke/VarHandle" ∧ (parseMethodDescriptor yX7_wantsSpot.desc).map (fun d => d.parameters.length) = some 0 := by decide +kernel
abbrev mu_x7_takes : gM := (yX7_takes, cX7_takes, 3, (some .boolean), [])
theorem hy_x7_takes : yX7_takes.cls ≠ "java/lang/invoke/MethodHandle" ∧ yX7_takes.cls ≠ "java/lang/invoke/VarHandle" ∧ (parseMethodDescriptor yX7_takes.desc).map (fun d => d.parameters.length) = some 2 := by decide +kernel
abbrev mu_x8_init : gM := (yX8_init, cX8_init, 2, none, [])
theorem hy_x8_init : yX8_init.cls ≠ "java/lang/invoke/MethodHandle" ∧ yX8_init.cls ≠ "java/lang/invoke/VarHandle" ∧ (parseMethodDescriptor yX8_init.desc).map (fun d => d.parameters.length) = some 1 := by decide +kernel
abbrev mu_x8_clear : gM := (yX8_clear, cX8_clear, 1, none, [])
theorem hy_x8_clear : yX8_clear.cls ≠ "java/lang/invoke/MethodHandle" ∧ yX8_clear.cls ≠ "java/lang/invoke/VarHandle" ∧ (parseMethodDescriptor yX8_clear.desc).map (fun d => d.parameters.length) = some 0 := by decide +kernel
abbrev mu_x8_begin : gM := (yX8_begin, cX8_begin, 1, none, [])
theorem hy_x8_begin : yX8_begin.cls ≠ "java/lang/invoke/MethodHandle" ∧ yX8_begin.cls ≠ "java/lang/invoke/VarHandle" ∧ (parseMethodDescriptor yX8_begin.desc).map (fun d => d.parameters.length) = some 0 := by decide +kernel
abbrev mu_x8_put : gM := (yX8_put, cX8_put, 2, none, [])
theorem hy_x8_put : yX8_put.cls ≠ "java/lang/invoke/MethodHandle" ∧ yX8_put.cls ≠ "java/lang/invoke/VarHandle" ∧ (parseMethodDescriptor yX8_put.desc).map (fun d => d.parameters.length) = some 1 := by decide +kernel
abbrev mu_x8_sheetOf : gM := (yX8_sheetOf, cX8_sheetOf, 3, (some (.object "SheetBranches$Sheet")), [])
theorem hy_x8_sheetOf : yX8_sheetOf.cls ≠ "java/lang/invoke/MethodHandle" ∧ yX8_sheetOf.cls ≠ "java/lang/invoke/VarHandle" ∧ (parseMethodDescriptor yX8_sheetOf.desc).map (fun d => d.parameters.length) = some 2 := by decide +kernel
abbrev mu_x8_word : gM := (yX8_word, cX8_word, 3, none, [])
theorem hy_x8_word : yX8_word.cls ≠ "java/lang/invoke/MethodHandle" ∧ yX8_word.cls ≠ "java/lang/invoke/VarHandle" ∧ (parseMethodDescriptor yX8_word.desc).map (fun d => d.parameters.length) = some 1 := by decide +kernel
abbrev mu_x8_number : gM := (yX8_number, cX8_number, 3, none, [])
theorem hy_x8_number : yX8_number.cls ≠ "java/lang/invoke/MethodHandle" ∧ yX8_number.cls ≠ "java/lang/invoke/VarHandle" ∧ (parseMethodDescriptor yX8_number.desc).map (fun d => d.parameters.length) = some 1 := by decide +kernel
abbrev mu_x8_at : gM := (yX8_at, cX8_at, 2, none, [])
theorem hy_x8_at : yX8_at.cls ≠ "java/lang/invoke/MethodHandle" ∧ yX8_at.cls ≠ "java/lang/invoke/VarHandle" ∧ (parseMethodDescriptor yX8_at.desc).map (fun d => d.parameters.length) = some 1 := by decide +kernel
abbrev mu_x8_part : gM := (yX8_part, cX8_part, 4, none, [])
theorem hy_x8_part : yX8_part.cls ≠ "java/lang/invoke/MethodHandle" ∧ yX8_part.cls ≠ "java/lang/invoke/VarHandle" ∧ (parseMethodDescriptor yX8_part.desc).map (fun d => d.parameters.length) = some 3 := by decide +kernel
abbrev mu_x8_isFormula : gM := (yX8_isFormula, cX8_isFormula, 1, (some .boolean), [])
theorem hy_x8_isFormula : yX8_isFormula.cls ≠ "java/lang/invoke/MethodHandle" ∧ yX8_isFormula.cls ≠ "java/lang/invoke/VarHandle" ∧ (parseMethodDescriptor yX8_isFormula.desc).map (fun d => d.parameters.length) = some 0 := by decide +kernel
abbrev mu_x8_all : gM := (yX8_all, cX8_all, 3, none, [])
theorem hy_x8_all : yX8_all.cls ≠ "java/lang/invoke/MethodHandle" ∧ yX8_all.cls ≠ "java/lang/invoke/VarHandle" ∧ (parseMethodDescriptor yX8_all.desc).map (fun d => d.parameters.length) = some 1 := by decide +kernel
abbrev mu_x9_init : gM := (yX9_init, cX9_init, 3, none, [])
theorem hy_x9_init : yX9_init.cls ≠ "java/lang/invoke/MethodHandle" ∧ yX9_init.cls ≠ "java/lang/invoke/VarHandle" ∧ (parseMethodDescriptor yX9_init.desc).map (fun d => d.parameters.length) = some 2 := by decide +kernel
abbrev mu_x9_twin : gM := (yX9_twin, cX9_twin, 3, (some (.object "SheetBranches$Sheet")), [])
theorem hy_x9_twin : yX9_twin.cls ≠ "java/lang/invoke/MethodHandle" ∧ yX9_twin.cls ≠ "java/lang/invoke/VarHandle" ∧ (parseMethodDescriptor yX9_twin.desc).map (fun d => d.parameters.length) = some 0 := by decide +kernel
abbrev mu_x9_init_2 : gM := (yX9_init_2, cX9_init_2, 4, none, [])
theorem hy_x9_init_2 : yX9_init_2.cls ≠ "java/lang/invoke/MethodHandle" ∧ yX9_init_2.cls ≠ "java/lang/invoke/VarHandle" ∧ (parseMethodDescriptor yX9_init_2.desc).map (fun d => d.parameters.length) = some 3 := by decide +kernel
abbrev mu_x9_row : gM := (yX9_row, cX9_row, 2, (some .int), [])
theorem hy_x9_row : yX9_row.cls ≠ "java/lang/invoke/MethodHandle" ∧ yX9_row.cls ≠ "java/lang/invoke/VarHandle" ∧ (parseMethodDescriptor yX9_row.desc).map (fun d => d.parameters.length) = some 1 := by decide +kernel
abbrev mu_x9_placeOf : gM := (yX9_placeOf, cX9_placeOf, 3, (some .int), [])
theorem hy_x9_placeOf : yX9_placeOf.cls ≠ "java/lang/invoke/MethodHandle" ∧ yX9_placeOf.cls ≠ "java/lang/invoke/VarHandle" ∧ (parseMethodDescriptor yX9_placeOf.desc).map (fun d => d.parameters.length) = some 2 := by decide +kernel
abbrev mu_x9_column : gM := (yX9_column, cX9_column, 2, (some .int), [])
theorem hy_x9_column : yX9_column.cls ≠ "java/lang/invoke/MethodHandle" ∧ yX9_column.cls ≠ "java/lang/invoke/VarHandle" ∧ (parseMethodDescriptor yX9_column.desc).map (fun d => d.parameters.length) = some 1 := by decide +kernel
abbrev mu_x9_has : gM := (yX9_has, cX9_has, 3, (some .boolean), [])
theorem hy_x9_has : yX9_has.cls ≠ "java/lang/invoke/MethodHandle" ∧ yX9_has.cls ≠ "java/lang/invoke/VarHandle" ∧ (parseMethodDescriptor yX9_has.desc).map (fun d => d.parameters.length) = some 2 := by decide +kernel
abbrev mu_x9_isLike : gM := (yX9_isLike, cX9_isLike, 5, (some .boolean), [])
theorem hy_x9_isLike : yX9_isLike.cls ≠ "java/lang/invoke/MethodHandle" ∧ yX9_isLike.cls ≠ "java/lang/invoke/VarHandle" ∧ (parseMethodDescriptor yX9_isLike.desc).map (fun d => d.parameters.length) = some 1 := by decide +kernel
abbrev mu_x9_isAlike : gM := (yX9_isAlike, cX9_isAlike, 4, (some .boolean), [])
theorem hy_x9_isAlike : yX9_isAlike.cls ≠ "java/lang/invoke/MethodHandle" ∧ yX9_isAlike.cls ≠ "java/lang/invoke/VarHandle" ∧ (parseMethodDescriptor yX9_isAlike.desc).map (fun d => d.parameters.length) = some 2 := by decide +kernel
abbrev mu_x9_marks : gM := (yX9_marks, cX9_marks, 2, (some (.array .int)), [])
theorem hy_x9_marks : yX9_marks.cls ≠ "java/lang/invoke/MethodHandle" ∧ yX9_marks.cls ≠ "java/lang/invoke/VarHandle" ∧ (parseMethodDescriptor yX9_marks.desc).map (fun d => d.parameters.length) = some 1 := by decide +kernel
abbrev mu_x9_lay : gM := (yX9_lay, cX9_lay, 3, none, [])
theorem hy_x9_lay : yX9_lay.cls ≠ "java/lang/invoke/MethodHandle" ∧ yX9_lay.cls ≠ "java/lang/invoke/VarHandle" ∧ (parseMethodDescriptor yX9_lay.desc).map (fun d => d.parameters.length) = some 2 := by decide +kernel
abbrev mu_x9_lay_2 : gM := (yX9_lay_2, cX9_lay_2, 6, none, [])
theorem hy_x9_lay_2 : yX9_lay_2.cls ≠ "java/lang/invoke/MethodHandle" ∧ yX9_lay_2.cls ≠ "java/lang/invoke/VarHandle" ∧ (parseMethodDescriptor yX9_lay_2.desc).map (fun d => d.parameters.length) = some 2 := by decide +kernel
abbrev mu_x9_of : gM := (yX9_of, cX9_of, 5, (some (.object "SheetBranches$Content")), [])
theorem hy_x9_of : yX9_of.cls ≠ "java/lang/invoke/MethodHandle" ∧ yX9_of.cls ≠ "java/lang/invoke/VarHandle" ∧ (parseMethodDescriptor yX9_of.desc).map (fun d => d.parameters.length) = some 2 := by decide +kernel
abbrev mu_l_law : gM := (x, code, 7, ret, [])
theorem hy_l_law : x.cls ≠ "java/lang/invoke/MethodHandle" ∧ x.cls ≠ "java/lang/invoke/VarHandle" ∧ (parseMethodDescriptor x.desc).map (fun d => d.parameters.length) = some 1 := by decide +kernel
abbrev mu_j15_numberOfLeadingZeros : gM := (yJ15_numberOfLeadingZeros, cJ15_numberOfLeadingZeros, 3, (some .int), [])
theorem hy_j15_numberOfLeadingZeros : yJ15_numberOfLeadingZeros.cls ≠ "java/lang/invoke/MethodHandle" ∧ yJ15_numberOfLeadingZeros.cls ≠ "java/lang/invoke/VarHandle" ∧ (parseMethodDescriptor yJ15_numberOfLeadingZeros.desc).map (fun d => d.parameters.length) = some 1 := by decide +kernel
abbrev mu_j15_numberOfTrailingZeros : gM := (yJ15_numberOfTrailingZeros, cJ15_numberOfTrailingZeros, 3, (some .int), [])
theorem hy_j15_numberOfTrailingZeros : yJ15_numberOfTrailingZeros.cls ≠ "java/lang/invoke/MethodHandle" ∧ yJ15_numberOfTrailingZeros.cls ≠ "java/lang/invoke/VarHandle" ∧ (parseMethodDescriptor yJ15_numberOfTrailingZeros.desc).map (fun d => d.parameters.length) = some 1 := by decide +kernel
abbrev mu_j15_compare : gM := (yJ15_compare, cJ15_compare, 4, (some .int), [])
theorem hy_j15_compare : yJ15_compare.cls ≠ "java/lang/invoke/MethodHandle" ∧ yJ15_compare.cls ≠ "java/lang/invoke/VarHandle" ∧ (parseMethodDescriptor yJ15_compare.desc).map (fun d => d.parameters.length) = some 2 := by decide +kernel
abbrev mu_j16_numberOfLeadingZeros : gM := (yJ16_numberOfLeadingZeros, cJ16_numberOfLeadingZeros, 2, (some .int), [])
theorem hy_j16_numberOfLeadingZeros : yJ16_numberOfLeadingZeros.cls ≠ "java/lang/invoke/MethodHandle" ∧ yJ16_numberOfLeadingZeros.cls ≠ "java/lang/invoke/VarHandle" ∧ (parseMethodDescriptor yJ16_numberOfLeadingZeros.desc).map (fun d => d.parameters.length) = some 1 := by decide +kernel
abbrev mu_j16_numberOfTrailingZeros : gM := (yJ16_numberOfTrailingZeros, cJ16_numberOfTrailingZeros, 2, (some .int), [])
theorem hy_j16_numberOfTrailingZeros : yJ16_numberOfTrailingZeros.cls ≠ "java/lang/invoke/MethodHandle" ∧ yJ16_numberOfTrailingZeros.cls ≠ "java/lang/invoke/VarHandle" ∧ (parseMethodDescriptor yJ16_numberOfTrailingZeros.desc).map (fun d => d.parameters.length) = some 1 := by decide +kernel
abbrev mu_j16_compare : gM := (yJ16_compare, cJ16_compare, 2, (some .int), [])
theorem hy_j16_compare : yJ16_compare.cls ≠ "java/lang/invoke/MethodHandle" ∧ yJ16_compare.cls ≠ "java/lang/invoke/VarHandle" ∧ (parseMethodDescriptor yJ16_compare.desc).map (fun d => d.parameters.length) = some 2 := by decide +kernel
