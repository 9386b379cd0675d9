set_option maxRecDepth 100000
/-! HintTeamLaw -/
def RX0 : String := "HintTeamLaw"
abbrev cX0_count : ByteArray := method_3_code
def yX0_count : MethodName := ⟨RX0, "count", "(LHintTeam;I[J)I"⟩
abbrev cX0_pile : ByteArray := method_4_code
def yX0_pile : MethodName := ⟨RX0, "pile", "(LHintTeam;I[J)I"⟩
abbrev cX0_hand : ByteArray := method_5_code
def yX0_hand : MethodName := ⟨RX0, "hand", "(LHintTeam;I[J)I"⟩
abbrev cX0_card : ByteArray := method_6_code
def yX0_card : MethodName := ⟨RX0, "card", "(LHintTeam;II[J)I"⟩
abbrev cX0_copies : ByteArray := method_7_code
def yX0_copies : MethodName := ⟨RX0, "copies", "(LHintTeam;III[J)I"⟩
abbrev cX0_isUseless : ByteArray := method_8_code
def yX0_isUseless : MethodName := ⟨RX0, "isUseless", "(LHintTeam;II[J)I"⟩
abbrev cX0_isCritical : ByteArray := method_9_code
def yX0_isCritical : MethodName := ⟨RX0, "isCritical", "(LHintTeam;II[J)I"⟩
abbrev cX0_colorsOf : ByteArray := method_10_code
def yX0_colorsOf : MethodName := ⟨RX0, "colorsOf", "(LHintTeam;II[J)I"⟩
abbrev cX0_ranksOf : ByteArray := method_11_code
def yX0_ranksOf : MethodName := ⟨RX0, "ranksOf", "(LHintTeam;II[J)I"⟩
abbrev cX0_isTouched : ByteArray := method_12_code
def yX0_isTouched : MethodName := ⟨RX0, "isTouched", "(LHintTeam;II[J)I"⟩
abbrev cX0_thinks : ByteArray := method_13_code
def yX0_thinks : MethodName := ⟨RX0, "thinks", "(LHintTeam;II[J)I"⟩
abbrev cX0_thought : ByteArray := method_14_code
def yX0_thought : MethodName := ⟨RX0, "thought", "(LHintTeam;III[J)I"⟩
abbrev cX0_knows : ByteArray := method_15_code
def yX0_knows : MethodName := ⟨RX0, "knows", "(LHintTeam;II[J)I"⟩
abbrev cX0_wordsLeft : ByteArray := method_16_code
def yX0_wordsLeft : MethodName := ⟨RX0, "wordsLeft", "(LHintTeam;II[J)I"⟩
abbrev cX0_touches : ByteArray := method_17_code
def yX0_touches : MethodName := ⟨RX0, "touches", "(LHintTeam;III[J)I"⟩
abbrev cX0_tells : ByteArray := method_18_code
def yX0_tells : MethodName := ⟨RX0, "tells", "(LHintTeam;III[J)I"⟩
abbrev cX0_play : ByteArray := method_19_code
def yX0_play : MethodName := ⟨RX0, "play", "(LHintTeam;I[J)I"⟩
abbrev cX0_discard : ByteArray := method_20_code
def yX0_discard : MethodName := ⟨RX0, "discard", "(LHintTeam;I[J)I"⟩
abbrev cX0_hint : ByteArray := method_21_code
def yX0_hint : MethodName := ⟨RX0, "hint", "(LHintTeam;III[J)I"⟩
abbrev cX0_advice : ByteArray := method_22_code
def yX0_advice : MethodName := ⟨RX0, "advice", "(LHintTeam;I[J)I"⟩
abbrev cX0_follow : ByteArray := method_23_code
def yX0_follow : MethodName := ⟨RX0, "follow", "(LHintTeam;I[J)I"⟩
abbrev cX0_valueBehind : ByteArray := method_24_code
def yX0_valueBehind : MethodName := ⟨RX0, "valueBehind", "(LHintTeam;II[J)I"⟩
abbrev cX0_bestMove : ByteArray := method_25_code
def yX0_bestMove : MethodName := ⟨RX0, "bestMove", "(LHintTeam;I[J)I"⟩
abbrev cX0_total : ByteArray := method_26_code
def yX0_total : MethodName := ⟨RX0, "total", "(LHintTeam;I[J)I"⟩
abbrev cX0_logPart : ByteArray := method_27_code
def yX0_logPart : MethodName := ⟨RX0, "logPart", "(LHintTeam;II[J)I"⟩
abbrev cX0_writeHand : ByteArray := method_28_code
def yX0_writeHand : MethodName := ⟨RX0, "writeHand", "(LHintTeam;IZ[J)I"⟩
abbrev cX0_saveSnapshot : ByteArray := method_29_code
def yX0_saveSnapshot : MethodName := ⟨RX0, "saveSnapshot", "(LHintTeam;I[J)I"⟩
abbrev cX0_restoreSnapshot : ByteArray := method_30_code
def yX0_restoreSnapshot : MethodName := ⟨RX0, "restoreSnapshot", "(LHintTeam;I[J)I"⟩
theorem q148 : (Jvm.Cond.initialized "HintTeamLaw") ∈ lw_all := lw_g (lw_at lw_m1 0 rfl) rfl
theorem q205 : (Jvm.Cond.classLink "HintTeamLaw" (8 : Nat) "HintTeam") ∈ lw_all := lw_g (lw_at lw_m1 57 rfl) rfl
theorem q207 : (Jvm.Cond.methodLink "HintTeamLaw" (102 : Nat) ({ cls := "HintTeam", name := "<init>", desc := "()V" } : Jvm.MethodName)) ∈ lw_all := lw_g (lw_at lw_m1 59 rfl) rfl
theorem q898 : (Jvm.Cond.methodLink "HintTeamLaw" (108 : Nat) ({ cls := "HintTeam", name := "append", desc := "(J)I" } : Jvm.MethodName)) ∈ lw_all := lw_g (lw_at lw_m4 30 rfl) rfl
theorem q903 : (Jvm.Cond.methodLink "HintTeamLaw" (113 : Nat) ({ cls := "HintTeam", name := "load", desc := "()I" } : Jvm.MethodName)) ∈ lw_all := lw_g (lw_at lw_m4 35 rfl) rfl
theorem q2075 : (Jvm.Cond.methodLink "HintTeamLaw" (118 : Nat) ({ cls := "HintTeam", name := "loadError", desc := "()I" } : Jvm.MethodName)) ∈ lw_all := lw_g (lw_at lw_m9 7 rfl) rfl
theorem q2079 : (Jvm.Cond.methodLink "HintTeamLaw" (122 : Nat) ({ cls := "HintTeam", name := "loadStatement", desc := "()I" } : Jvm.MethodName)) ∈ lw_all := lw_g (lw_at lw_m9 11 rfl) rfl
theorem q2083 : (Jvm.Cond.methodLink "HintTeamLaw" (135 : Nat) ({ cls := "HintTeam", name := "turnOf", desc := "()I" } : Jvm.MethodName)) ∈ lw_all := lw_g (lw_at lw_m9 15 rfl) rfl
theorem q2099 : (Jvm.Cond.methodLink "HintTeamLaw" (139 : Nat) ({ cls := "HintTeam", name := "over", desc := "()I" } : Jvm.MethodName)) ∈ lw_all := lw_g (lw_at lw_m9 31 rfl) rfl
theorem q2103 : (Jvm.Cond.methodLink "HintTeamLaw" (153 : Nat) ({ cls := "HintTeam", name := "drawn", desc := "(I)I" } : Jvm.MethodName)) ∈ lw_all := lw_g (lw_at lw_m9 35 rfl) rfl
theorem q2112 : (Jvm.Cond.methodLink "HintTeamLaw" (203 : Nat) ({ cls := "HintTeam", name := "pass", desc := "()I" } : Jvm.MethodName)) ∈ lw_all := lw_g (lw_at lw_m9 44 rfl) rfl
theorem q2205 : (Jvm.Cond.methodLink "HintTeamLaw" (213 : Nat) ({ cls := "HintTeam", name := "foreseen", desc := "()I" } : Jvm.MethodName)) ∈ lw_all := lw_g (lw_at lw_m9 137 rfl) rfl
theorem q2448 : (Jvm.Cond.methodLink "HintTeamLaw" (245 : Nat) ({ cls := "HintTeam", name := "undo", desc := "()I" } : Jvm.MethodName)) ∈ lw_all := lw_g (lw_at lw_m10 140 rfl) rfl
theorem q2467 : (Jvm.Cond.methodLink "HintTeamLaw" (217 : Nat) ({ cls := "HintTeam", name := "bound", desc := "()I" } : Jvm.MethodName)) ∈ lw_all := lw_g (lw_at lw_m10 159 rfl) rfl
theorem q2476 : (Jvm.Cond.methodLink "HintTeamLaw" (221 : Nat) ({ cls := "HintTeam", name := "pace", desc := "()I" } : Jvm.MethodName)) ∈ lw_all := lw_g (lw_at lw_m10 168 rfl) rfl
theorem q2480 : (Jvm.Cond.methodLink "HintTeamLaw" (225 : Nat) ({ cls := "HintTeam", name := "value", desc := "()I" } : Jvm.MethodName)) ∈ lw_all := lw_g (lw_at lw_m10 172 rfl) rfl
theorem q2575 : (Jvm.Cond.methodLink "HintTeamLaw" (229 : Nat) ({ cls := "HintTeam", name := "positions", desc := "()I" } : Jvm.MethodName)) ∈ lw_all := lw_g (lw_at lw_m11 27 rfl) rfl
theorem q2580 : (Jvm.Cond.methodLink "HintTeamLaw" (253 : Nat) ({ cls := "HintTeam", name := "outputByte", desc := "(I)I" } : Jvm.MethodName)) ∈ lw_all := lw_g (lw_at lw_m11 32 rfl) rfl
theorem q2595 : (Jvm.Cond.methodLink "HintTeamLaw" (126 : Nat) ({ cls := "HintTeamLaw", name := "count", desc := "(LHintTeam;I[J)I" } : Jvm.MethodName)) ∈ lw_all := lw_g (lw_at lw_m11 47 rfl) rfl
theorem q2596 : (Jvm.Cond.static ({ cls := "HintTeamLaw", name := "count", desc := "(LHintTeam;I[J)I" } : Jvm.MethodName)) ∈ lw_all := lw_g (lw_at lw_m11 48 rfl) rfl
theorem q2597 : (Jvm.Cond.codeWith ({ cls := "HintTeamLaw", name := "count", desc := "(LHintTeam;I[J)I" } : Jvm.MethodName) method_3_code (4 : Nat) (Option.some Jvm.ClassFile.FieldType.int) [((0 : Nat), (9 : Nat), (12 : Nat), (13 : Nat))]) ∈ lw_all := lw_g (lw_at lw_m11 49 rfl) rfl
theorem q2598 : (Jvm.Cond.classLink "HintTeamLaw" (13 : Nat) "java/lang/IllegalArgumentException") ∈ lw_all := lw_g (lw_at lw_m11 50 rfl) rfl
theorem q2599 : (Jvm.Cond.methodLink "HintTeamLaw" (7 : Nat) ({ cls := "HintTeam", name := "count", desc := "(I)I" } : Jvm.MethodName)) ∈ lw_all := lw_g (lw_at lw_m11 51 rfl) rfl
theorem q2608 : (Jvm.Cond.methodLink "HintTeamLaw" (143 : Nat) ({ cls := "HintTeamLaw", name := "pile", desc := "(LHintTeam;I[J)I" } : Jvm.MethodName)) ∈ lw_all := lw_g (lw_at lw_m11 60 rfl) rfl
theorem q2609 : (Jvm.Cond.static ({ cls := "HintTeamLaw", name := "pile", desc := "(LHintTeam;I[J)I" } : Jvm.MethodName)) ∈ lw_all := lw_g (lw_at lw_m11 61 rfl) rfl
theorem q2610 : (Jvm.Cond.codeWith ({ cls := "HintTeamLaw", name := "pile", desc := "(LHintTeam;I[J)I" } : Jvm.MethodName) method_4_code (4 : Nat) (Option.some Jvm.ClassFile.FieldType.int) [((0 : Nat), (9 : Nat), (12 : Nat), (18 : Nat))]) ∈ lw_all := lw_g (lw_at lw_m11 62 rfl) rfl
theorem q2611 : (Jvm.Cond.classLink "HintTeamLaw" (18 : Nat) "java/lang/IndexOutOfBoundsException") ∈ lw_all := lw_g (lw_at lw_m11 63 rfl) rfl
theorem q2627 : (Jvm.Cond.methodLink "HintTeamLaw" (15 : Nat) ({ cls := "HintTeam", name := "pile", desc := "(I)I" } : Jvm.MethodName)) ∈ lw_all := lw_g (lw_at lw_m11 79 rfl) rfl
theorem q2639 : (Jvm.Cond.methodLink "HintTeamLaw" (146 : Nat) ({ cls := "HintTeamLaw", name := "hand", desc := "(LHintTeam;I[J)I" } : Jvm.MethodName)) ∈ lw_all := lw_g (lw_at lw_m11 91 rfl) rfl
theorem q2640 : (Jvm.Cond.static ({ cls := "HintTeamLaw", name := "hand", desc := "(LHintTeam;I[J)I" } : Jvm.MethodName)) ∈ lw_all := lw_g (lw_at lw_m11 92 rfl) rfl
theorem q2641 : (Jvm.Cond.codeWith ({ cls := "HintTeamLaw", name := "hand", desc := "(LHintTeam;I[J)I" } : Jvm.MethodName) method_5_code (4 : Nat) (Option.some Jvm.ClassFile.FieldType.int) [((0 : Nat), (9 : Nat), (12 : Nat), (18 : Nat))]) ∈ lw_all := lw_g (lw_at lw_m11 93 rfl) rfl
theorem q2642 : (Jvm.Cond.methodLink "HintTeamLaw" (20 : Nat) ({ cls := "HintTeam", name := "hand", desc := "(I)I" } : Jvm.MethodName)) ∈ lw_all := lw_g (lw_at lw_m11 94 rfl) rfl
theorem q2650 : (Jvm.Cond.methodLink "HintTeamLaw" (149 : Nat) ({ cls := "HintTeamLaw", name := "card", desc := "(LHintTeam;II[J)I" } : Jvm.MethodName)) ∈ lw_all := lw_g (lw_at lw_m11 102 rfl) rfl
theorem q2651 : (Jvm.Cond.static ({ cls := "HintTeamLaw", name := "card", desc := "(LHintTeam;II[J)I" } : Jvm.MethodName)) ∈ lw_all := lw_g (lw_at lw_m11 103 rfl) rfl
theorem q2652 : (Jvm.Cond.codeWith ({ cls := "HintTeamLaw", name := "card", desc := "(LHintTeam;II[J)I" } : Jvm.MethodName) method_6_code (5 : Nat) (Option.some Jvm.ClassFile.FieldType.int) [((0 : Nat), (10 : Nat), (13 : Nat), (18 : Nat))]) ∈ lw_all := lw_g (lw_at lw_m11 104 rfl) rfl
theorem q2653 : (Jvm.Cond.methodLink "HintTeamLaw" (23 : Nat) ({ cls := "HintTeam", name := "card", desc := "(II)I" } : Jvm.MethodName)) ∈ lw_all := lw_g (lw_at lw_m11 105 rfl) rfl
theorem q2661 : (Jvm.Cond.methodLink "HintTeamLaw" (157 : Nat) ({ cls := "HintTeamLaw", name := "copies", desc := "(LHintTeam;III[J)I" } : Jvm.MethodName)) ∈ lw_all := lw_g (lw_at lw_m11 113 rfl) rfl
theorem q2662 : (Jvm.Cond.static ({ cls := "HintTeamLaw", name := "copies", desc := "(LHintTeam;III[J)I" } : Jvm.MethodName)) ∈ lw_all := lw_g (lw_at lw_m11 114 rfl) rfl
theorem q2663 : (Jvm.Cond.codeWith ({ cls := "HintTeamLaw", name := "copies", desc := "(LHintTeam;III[J)I" } : Jvm.MethodName) method_7_code (6 : Nat) (Option.some Jvm.ClassFile.FieldType.int) [((0 : Nat), (12 : Nat), (15 : Nat), (18 : Nat)), ((0 : Nat), (12 : Nat), (19 : Nat), (13 : Nat))]) ∈ lw_all := lw_g (lw_at lw_m11 115 rfl) rfl
theorem q2664 : (Jvm.Cond.methodLink "HintTeamLaw" (27 : Nat) ({ cls := "HintTeam", name := "copies", desc := "(III)I" } : Jvm.MethodName)) ∈ lw_all := lw_g (lw_at lw_m11 116 rfl) rfl
theorem q2678 : (Jvm.Cond.methodLink "HintTeamLaw" (161 : Nat) ({ cls := "HintTeamLaw", name := "isUseless", desc := "(LHintTeam;II[J)I" } : Jvm.MethodName)) ∈ lw_all := lw_g (lw_at lw_m11 130 rfl) rfl
theorem q2679 : (Jvm.Cond.static ({ cls := "HintTeamLaw", name := "isUseless", desc := "(LHintTeam;II[J)I" } : Jvm.MethodName)) ∈ lw_all := lw_g (lw_at lw_m11 131 rfl) rfl
theorem q2680 : (Jvm.Cond.codeWith ({ cls := "HintTeamLaw", name := "isUseless", desc := "(LHintTeam;II[J)I" } : Jvm.MethodName) method_8_code (5 : Nat) (Option.some Jvm.ClassFile.FieldType.int) [((0 : Nat), (17 : Nat), (20 : Nat), (18 : Nat))]) ∈ lw_all := lw_g (lw_at lw_m11 132 rfl) rfl
theorem q2681 : (Jvm.Cond.methodLink "HintTeamLaw" (31 : Nat) ({ cls := "HintTeam", name := "isUseless", desc := "(II)Z" } : Jvm.MethodName)) ∈ lw_all := lw_g (lw_at lw_m11 133 rfl) rfl
theorem q2685 : (Jvm.Cond.methodLink "HintTeamLaw" (164 : Nat) ({ cls := "HintTeamLaw", name := "isCritical", desc := "(LHintTeam;II[J)I" } : Jvm.MethodName)) ∈ lw_all := lw_g (lw_at lw_m11 137 rfl) rfl
theorem q2686 : (Jvm.Cond.static ({ cls := "HintTeamLaw", name := "isCritical", desc := "(LHintTeam;II[J)I" } : Jvm.MethodName)) ∈ lw_all := lw_g (lw_at lw_m11 138 rfl) rfl
theorem q2687 : (Jvm.Cond.codeWith ({ cls := "HintTeamLaw", name := "isCritical", desc := "(LHintTeam;II[J)I" } : Jvm.MethodName) method_9_code (5 : Nat) (Option.some Jvm.ClassFile.FieldType.int) [((0 : Nat), (17 : Nat), (20 : Nat), (18 : Nat))]) ∈ lw_all := lw_g (lw_at lw_m11 139 rfl) rfl
theorem q2688 : (Jvm.Cond.methodLink "HintTeamLaw" (35 : Nat) ({ cls := "HintTeam", name := "isCritical", desc := "(II)Z" } : Jvm.MethodName)) ∈ lw_all := lw_g (lw_at lw_m11 140 rfl) rfl
theorem q2693 : (Jvm.Cond.methodLink "HintTeamLaw" (167 : Nat) ({ cls := "HintTeamLaw", name := "colorsOf", desc := "(LHintTeam;II[J)I" } : Jvm.MethodName)) ∈ lw_all := lw_g (lw_at lw_m11 145 rfl) rfl
theorem q2694 : (Jvm.Cond.static ({ cls := "HintTeamLaw", name := "colorsOf", desc := "(LHintTeam;II[J)I" } : Jvm.MethodName)) ∈ lw_all := lw_g (lw_at lw_m11 146 rfl) rfl
theorem q2695 : (Jvm.Cond.codeWith ({ cls := "HintTeamLaw", name := "colorsOf", desc := "(LHintTeam;II[J)I" } : Jvm.MethodName) method_10_code (5 : Nat) (Option.some Jvm.ClassFile.FieldType.int) [((0 : Nat), (10 : Nat), (13 : Nat), (18 : Nat))]) ∈ lw_all := lw_g (lw_at lw_m11 147 rfl) rfl
theorem q2696 : (Jvm.Cond.methodLink "HintTeamLaw" (38 : Nat) ({ cls := "HintTeam", name := "colorsOf", desc := "(II)I" } : Jvm.MethodName)) ∈ lw_all := lw_g (lw_at lw_m11 148 rfl) rfl
theorem q2700 : (Jvm.Cond.methodLink "HintTeamLaw" (170 : Nat) ({ cls := "HintTeamLaw", name := "ranksOf", desc := "(LHintTeam;II[J)I" } : Jvm.MethodName)) ∈ lw_all := lw_g (lw_at lw_m11 152 rfl) rfl
theorem q2701 : (Jvm.Cond.static ({ cls := "HintTeamLaw", name := "ranksOf", desc := "(LHintTeam;II[J)I" } : Jvm.MethodName)) ∈ lw_all := lw_g (lw_at lw_m11 153 rfl) rfl
theorem q2702 : (Jvm.Cond.codeWith ({ cls := "HintTeamLaw", name := "ranksOf", desc := "(LHintTeam;II[J)I" } : Jvm.MethodName) method_11_code (5 : Nat) (Option.some Jvm.ClassFile.FieldType.int) [((0 : Nat), (10 : Nat), (13 : Nat), (18 : Nat))]) ∈ lw_all := lw_g (lw_at lw_m11 154 rfl) rfl
theorem q2703 : (Jvm.Cond.methodLink "HintTeamLaw" (41 : Nat) ({ cls := "HintTeam", name := "ranksOf", desc := "(II)I" } : Jvm.MethodName)) ∈ lw_all := lw_g (lw_at lw_m11 155 rfl) rfl
theorem q2707 : (Jvm.Cond.methodLink "HintTeamLaw" (173 : Nat) ({ cls := "HintTeamLaw", name := "isTouched", desc := "(LHintTeam;II[J)I" } : Jvm.MethodName)) ∈ lw_all := lw_g (lw_at lw_m11 159 rfl) rfl
theorem q2708 : (Jvm.Cond.static ({ cls := "HintTeamLaw", name := "isTouched", desc := "(LHintTeam;II[J)I" } : Jvm.MethodName)) ∈ lw_all := lw_g (lw_at lw_m11 160 rfl) rfl
theorem q2709 : (Jvm.Cond.codeWith ({ cls := "HintTeamLaw", name := "isTouched", desc := "(LHintTeam;II[J)I" } : Jvm.MethodName) method_12_code (5 : Nat) (Option.some Jvm.ClassFile.FieldType.int) [((0 : Nat), (17 : Nat), (20 : Nat), (18 : Nat))]) ∈ lw_all := lw_g (lw_at lw_m11 161 rfl) rfl
theorem q2710 : (Jvm.Cond.methodLink "HintTeamLaw" (44 : Nat) ({ cls := "HintTeam", name := "isTouched", desc := "(II)Z" } : Jvm.MethodName)) ∈ lw_all := lw_g (lw_at lw_m11 162 rfl) rfl
theorem q2714 : (Jvm.Cond.methodLink "HintTeamLaw" (176 : Nat) ({ cls := "HintTeamLaw", name := "thinks", desc := "(LHintTeam;II[J)I" } : Jvm.MethodName)) ∈ lw_all := lw_g (lw_at lw_m11 166 rfl) rfl
theorem q2715 : (Jvm.Cond.static ({ cls := "HintTeamLaw", name := "thinks", desc := "(LHintTeam;II[J)I" } : Jvm.MethodName)) ∈ lw_all := lw_g (lw_at lw_m11 167 rfl) rfl
theorem q2716 : (Jvm.Cond.codeWith ({ cls := "HintTeamLaw", name := "thinks", desc := "(LHintTeam;II[J)I" } : Jvm.MethodName) method_13_code (5 : Nat) (Option.some Jvm.ClassFile.FieldType.int) [((0 : Nat), (10 : Nat), (13 : Nat), (18 : Nat))]) ∈ lw_all := lw_g (lw_at lw_m11 168 rfl) rfl
theorem q2717 : (Jvm.Cond.methodLink "HintTeamLaw" (47 : Nat) ({ cls := "HintTeam", name := "thinks", desc := "(II)I" } : Jvm.MethodName)) ∈ lw_all := lw_g (lw_at lw_m11 169 rfl) rfl
theorem q2731 : (Jvm.Cond.methodLink "HintTeamLaw" (179 : Nat) ({ cls := "HintTeamLaw", name := "thought", desc := "(LHintTeam;III[J)I" } : Jvm.MethodName)) ∈ lw_all := lw_g (lw_at lw_m11 183 rfl) rfl
theorem q2732 : (Jvm.Cond.static ({ cls := "HintTeamLaw", name := "thought", desc := "(LHintTeam;III[J)I" } : Jvm.MethodName)) ∈ lw_all := lw_g (lw_at lw_m11 184 rfl) rfl
theorem q2733 : (Jvm.Cond.codeWith ({ cls := "HintTeamLaw", name := "thought", desc := "(LHintTeam;III[J)I" } : Jvm.MethodName) method_14_code (6 : Nat) (Option.some Jvm.ClassFile.FieldType.int) [((0 : Nat), (12 : Nat), (15 : Nat), (18 : Nat))]) ∈ lw_all := lw_g (lw_at lw_m11 185 rfl) rfl
theorem q2734 : (Jvm.Cond.methodLink "HintTeamLaw" (50 : Nat) ({ cls := "HintTeam", name := "thought", desc := "(III)I" } : Jvm.MethodName)) ∈ lw_all := lw_g (lw_at lw_m11 186 rfl) rfl
theorem q2738 : (Jvm.Cond.methodLink "HintTeamLaw" (182 : Nat) ({ cls := "HintTeamLaw", name := "knows", desc := "(LHintTeam;II[J)I" } : Jvm.MethodName)) ∈ lw_all := lw_g (lw_at lw_m11 190 rfl) rfl
theorem q2739 : (Jvm.Cond.static ({ cls := "HintTeamLaw", name := "knows", desc := "(LHintTeam;II[J)I" } : Jvm.MethodName)) ∈ lw_all := lw_g (lw_at lw_m11 191 rfl) rfl
theorem q2740 : (Jvm.Cond.codeWith ({ cls := "HintTeamLaw", name := "knows", desc := "(LHintTeam;II[J)I" } : Jvm.MethodName) method_15_code (5 : Nat) (Option.some Jvm.ClassFile.FieldType.int) [((0 : Nat), (10 : Nat), (13 : Nat), (18 : Nat))]) ∈ lw_all := lw_g (lw_at lw_m11 192 rfl) rfl
theorem q2741 : (Jvm.Cond.methodLink "HintTeamLaw" (53 : Nat) ({ cls := "HintTeam", name := "knows", desc := "(II)I" } : Jvm.MethodName)) ∈ lw_all := lw_g (lw_at lw_m11 193 rfl) rfl
theorem q2745 : (Jvm.Cond.methodLink "HintTeamLaw" (185 : Nat) ({ cls := "HintTeamLaw", name := "wordsLeft", desc := "(LHintTeam;II[J)I" } : Jvm.MethodName)) ∈ lw_all := lw_g (lw_at lw_m11 197 rfl) rfl
theorem q2746 : (Jvm.Cond.static ({ cls := "HintTeamLaw", name := "wordsLeft", desc := "(LHintTeam;II[J)I" } : Jvm.MethodName)) ∈ lw_all := lw_g (lw_at lw_m11 198 rfl) rfl
theorem q2747 : (Jvm.Cond.codeWith ({ cls := "HintTeamLaw", name := "wordsLeft", desc := "(LHintTeam;II[J)I" } : Jvm.MethodName) method_16_code (5 : Nat) (Option.some Jvm.ClassFile.FieldType.int) [((0 : Nat), (10 : Nat), (13 : Nat), (13 : Nat))]) ∈ lw_all := lw_g (lw_at lw_m11 199 rfl) rfl
theorem q2748 : (Jvm.Cond.methodLink "HintTeamLaw" (56 : Nat) ({ cls := "HintTeam", name := "wordsLeft", desc := "(II)I" } : Jvm.MethodName)) ∈ lw_all := lw_g (lw_at lw_m11 200 rfl) rfl
theorem q2759 : (Jvm.Cond.methodLink "HintTeamLaw" (188 : Nat) ({ cls := "HintTeamLaw", name := "touches", desc := "(LHintTeam;III[J)I" } : Jvm.MethodName)) ∈ lw_all := lw_g (lw_at lw_m11 211 rfl) rfl
theorem q2760 : (Jvm.Cond.static ({ cls := "HintTeamLaw", name := "touches", desc := "(LHintTeam;III[J)I" } : Jvm.MethodName)) ∈ lw_all := lw_g (lw_at lw_m11 212 rfl) rfl
theorem q2761 : (Jvm.Cond.codeWith ({ cls := "HintTeamLaw", name := "touches", desc := "(LHintTeam;III[J)I" } : Jvm.MethodName) method_17_code (6 : Nat) (Option.some Jvm.ClassFile.FieldType.int) [((0 : Nat), (12 : Nat), (15 : Nat), (18 : Nat)), ((0 : Nat), (12 : Nat), (19 : Nat), (13 : Nat))]) ∈ lw_all := lw_g (lw_at lw_m11 213 rfl) rfl
theorem q2762 : (Jvm.Cond.methodLink "HintTeamLaw" (59 : Nat) ({ cls := "HintTeam", name := "touches", desc := "(III)I" } : Jvm.MethodName)) ∈ lw_all := lw_g (lw_at lw_m11 214 rfl) rfl
theorem q2767 : (Jvm.Cond.methodLink "HintTeamLaw" (191 : Nat) ({ cls := "HintTeamLaw", name := "tells", desc := "(LHintTeam;III[J)I" } : Jvm.MethodName)) ∈ lw_all := lw_g (lw_at lw_m11 219 rfl) rfl
theorem q2768 : (Jvm.Cond.static ({ cls := "HintTeamLaw", name := "tells", desc := "(LHintTeam;III[J)I" } : Jvm.MethodName)) ∈ lw_all := lw_g (lw_at lw_m11 220 rfl) rfl
theorem q2769 : (Jvm.Cond.codeWith ({ cls := "HintTeamLaw", name := "tells", desc := "(LHintTeam;III[J)I" } : Jvm.MethodName) method_18_code (6 : Nat) (Option.some Jvm.ClassFile.FieldType.int) [((0 : Nat), (12 : Nat), (15 : Nat), (18 : Nat)), ((0 : Nat), (12 : Nat), (19 : Nat), (13 : Nat))]) ∈ lw_all := lw_g (lw_at lw_m11 221 rfl) rfl
theorem q2770 : (Jvm.Cond.methodLink "HintTeamLaw" (62 : Nat) ({ cls := "HintTeam", name := "tells", desc := "(III)I" } : Jvm.MethodName)) ∈ lw_all := lw_g (lw_at lw_m11 222 rfl) rfl
theorem q2774 : (Jvm.Cond.methodLink "HintTeamLaw" (194 : Nat) ({ cls := "HintTeamLaw", name := "play", desc := "(LHintTeam;I[J)I" } : Jvm.MethodName)) ∈ lw_all := lw_g (lw_at lw_m11 226 rfl) rfl
theorem q2775 : (Jvm.Cond.static ({ cls := "HintTeamLaw", name := "play", desc := "(LHintTeam;I[J)I" } : Jvm.MethodName)) ∈ lw_all := lw_g (lw_at lw_m11 227 rfl) rfl
theorem q2776 : (Jvm.Cond.codeWith ({ cls := "HintTeamLaw", name := "play", desc := "(LHintTeam;I[J)I" } : Jvm.MethodName) method_19_code (4 : Nat) (Option.some Jvm.ClassFile.FieldType.int) [((0 : Nat), (9 : Nat), (12 : Nat), (18 : Nat))]) ∈ lw_all := lw_g (lw_at lw_m11 228 rfl) rfl
theorem q2777 : (Jvm.Cond.methodLink "HintTeamLaw" (65 : Nat) ({ cls := "HintTeam", name := "play", desc := "(I)I" } : Jvm.MethodName)) ∈ lw_all := lw_g (lw_at lw_m11 229 rfl) rfl
theorem q2786 : (Jvm.Cond.methodLink "HintTeamLaw" (197 : Nat) ({ cls := "HintTeamLaw", name := "discard", desc := "(LHintTeam;I[J)I" } : Jvm.MethodName)) ∈ lw_all := lw_g (lw_at lw_m11 238 rfl) rfl
theorem q2787 : (Jvm.Cond.static ({ cls := "HintTeamLaw", name := "discard", desc := "(LHintTeam;I[J)I" } : Jvm.MethodName)) ∈ lw_all := lw_g (lw_at lw_m11 239 rfl) rfl
theorem q2788 : (Jvm.Cond.codeWith ({ cls := "HintTeamLaw", name := "discard", desc := "(LHintTeam;I[J)I" } : Jvm.MethodName) method_20_code (4 : Nat) (Option.some Jvm.ClassFile.FieldType.int) [((0 : Nat), (9 : Nat), (12 : Nat), (18 : Nat))]) ∈ lw_all := lw_g (lw_at lw_m12 0 rfl) rfl
theorem q2789 : (Jvm.Cond.methodLink "HintTeamLaw" (68 : Nat) ({ cls := "HintTeam", name := "discard", desc := "(I)I" } : Jvm.MethodName)) ∈ lw_all := lw_g (lw_at lw_m12 1 rfl) rfl
theorem q2794 : (Jvm.Cond.methodLink "HintTeamLaw" (200 : Nat) ({ cls := "HintTeamLaw", name := "hint", desc := "(LHintTeam;III[J)I" } : Jvm.MethodName)) ∈ lw_all := lw_g (lw_at lw_m12 6 rfl) rfl
theorem q2795 : (Jvm.Cond.static ({ cls := "HintTeamLaw", name := "hint", desc := "(LHintTeam;III[J)I" } : Jvm.MethodName)) ∈ lw_all := lw_g (lw_at lw_m12 7 rfl) rfl
theorem q2796 : (Jvm.Cond.codeWith ({ cls := "HintTeamLaw", name := "hint", desc := "(LHintTeam;III[J)I" } : Jvm.MethodName) method_21_code (6 : Nat) (Option.some Jvm.ClassFile.FieldType.int) [((0 : Nat), (12 : Nat), (15 : Nat), (18 : Nat)), ((0 : Nat), (12 : Nat), (19 : Nat), (13 : Nat))]) ∈ lw_all := lw_g (lw_at lw_m12 8 rfl) rfl
theorem q2797 : (Jvm.Cond.methodLink "HintTeamLaw" (71 : Nat) ({ cls := "HintTeam", name := "hint", desc := "(III)I" } : Jvm.MethodName)) ∈ lw_all := lw_g (lw_at lw_m12 9 rfl) rfl
theorem q2803 : (Jvm.Cond.methodLink "HintTeamLaw" (207 : Nat) ({ cls := "HintTeamLaw", name := "advice", desc := "(LHintTeam;I[J)I" } : Jvm.MethodName)) ∈ lw_all := lw_g (lw_at lw_m12 15 rfl) rfl
theorem q2804 : (Jvm.Cond.static ({ cls := "HintTeamLaw", name := "advice", desc := "(LHintTeam;I[J)I" } : Jvm.MethodName)) ∈ lw_all := lw_g (lw_at lw_m12 16 rfl) rfl
theorem q2805 : (Jvm.Cond.codeWith ({ cls := "HintTeamLaw", name := "advice", desc := "(LHintTeam;I[J)I" } : Jvm.MethodName) method_22_code (4 : Nat) (Option.some Jvm.ClassFile.FieldType.int) [((0 : Nat), (9 : Nat), (12 : Nat), (13 : Nat))]) ∈ lw_all := lw_g (lw_at lw_m12 17 rfl) rfl
theorem q2806 : (Jvm.Cond.methodLink "HintTeamLaw" (74 : Nat) ({ cls := "HintTeam", name := "advice", desc := "(I)I" } : Jvm.MethodName)) ∈ lw_all := lw_g (lw_at lw_m12 18 rfl) rfl
theorem q2833 : (Jvm.Cond.methodLink "HintTeamLaw" (210 : Nat) ({ cls := "HintTeamLaw", name := "follow", desc := "(LHintTeam;I[J)I" } : Jvm.MethodName)) ∈ lw_all := lw_g (lw_at lw_m12 45 rfl) rfl
theorem q2834 : (Jvm.Cond.static ({ cls := "HintTeamLaw", name := "follow", desc := "(LHintTeam;I[J)I" } : Jvm.MethodName)) ∈ lw_all := lw_g (lw_at lw_m12 46 rfl) rfl
theorem q2835 : (Jvm.Cond.codeWith ({ cls := "HintTeamLaw", name := "follow", desc := "(LHintTeam;I[J)I" } : Jvm.MethodName) method_23_code (4 : Nat) (Option.some Jvm.ClassFile.FieldType.int) [((0 : Nat), (9 : Nat), (12 : Nat), (13 : Nat))]) ∈ lw_all := lw_g (lw_at lw_m12 47 rfl) rfl
theorem q2836 : (Jvm.Cond.methodLink "HintTeamLaw" (77 : Nat) ({ cls := "HintTeam", name := "follow", desc := "(I)I" } : Jvm.MethodName)) ∈ lw_all := lw_g (lw_at lw_m12 48 rfl) rfl
theorem q2841 : (Jvm.Cond.methodLink "HintTeamLaw" (233 : Nat) ({ cls := "HintTeamLaw", name := "valueBehind", desc := "(LHintTeam;II[J)I" } : Jvm.MethodName)) ∈ lw_all := lw_g (lw_at lw_m12 53 rfl) rfl
theorem q2842 : (Jvm.Cond.static ({ cls := "HintTeamLaw", name := "valueBehind", desc := "(LHintTeam;II[J)I" } : Jvm.MethodName)) ∈ lw_all := lw_g (lw_at lw_m12 54 rfl) rfl
theorem q2843 : (Jvm.Cond.codeWith ({ cls := "HintTeamLaw", name := "valueBehind", desc := "(LHintTeam;II[J)I" } : Jvm.MethodName) method_24_code (5 : Nat) (Option.some Jvm.ClassFile.FieldType.int) [((0 : Nat), (10 : Nat), (13 : Nat), (13 : Nat))]) ∈ lw_all := lw_g (lw_at lw_m12 55 rfl) rfl
theorem q2844 : (Jvm.Cond.methodLink "HintTeamLaw" (80 : Nat) ({ cls := "HintTeam", name := "valueBehind", desc := "(II)I" } : Jvm.MethodName)) ∈ lw_all := lw_g (lw_at lw_m12 56 rfl) rfl
theorem q2860 : (Jvm.Cond.methodLink "HintTeamLaw" (236 : Nat) ({ cls := "HintTeamLaw", name := "bestMove", desc := "(LHintTeam;I[J)I" } : Jvm.MethodName)) ∈ lw_all := lw_g (lw_at lw_m12 72 rfl) rfl
theorem q2861 : (Jvm.Cond.static ({ cls := "HintTeamLaw", name := "bestMove", desc := "(LHintTeam;I[J)I" } : Jvm.MethodName)) ∈ lw_all := lw_g (lw_at lw_m12 73 rfl) rfl
theorem q2862 : (Jvm.Cond.codeWith ({ cls := "HintTeamLaw", name := "bestMove", desc := "(LHintTeam;I[J)I" } : Jvm.MethodName) method_25_code (4 : Nat) (Option.some Jvm.ClassFile.FieldType.int) [((0 : Nat), (9 : Nat), (12 : Nat), (13 : Nat))]) ∈ lw_all := lw_g (lw_at lw_m12 74 rfl) rfl
theorem q2863 : (Jvm.Cond.methodLink "HintTeamLaw" (83 : Nat) ({ cls := "HintTeam", name := "bestMove", desc := "(I)I" } : Jvm.MethodName)) ∈ lw_all := lw_g (lw_at lw_m12 75 rfl) rfl
theorem q2867 : (Jvm.Cond.methodLink "HintTeamLaw" (239 : Nat) ({ cls := "HintTeamLaw", name := "total", desc := "(LHintTeam;I[J)I" } : Jvm.MethodName)) ∈ lw_all := lw_g (lw_at lw_m12 79 rfl) rfl
theorem q2868 : (Jvm.Cond.static ({ cls := "HintTeamLaw", name := "total", desc := "(LHintTeam;I[J)I" } : Jvm.MethodName)) ∈ lw_all := lw_g (lw_at lw_m12 80 rfl) rfl
theorem q2869 : (Jvm.Cond.codeWith ({ cls := "HintTeamLaw", name := "total", desc := "(LHintTeam;I[J)I" } : Jvm.MethodName) method_26_code (4 : Nat) (Option.some Jvm.ClassFile.FieldType.int) [((0 : Nat), (9 : Nat), (12 : Nat), (13 : Nat))]) ∈ lw_all := lw_g (lw_at lw_m12 81 rfl) rfl
theorem q2870 : (Jvm.Cond.methodLink "HintTeamLaw" (86 : Nat) ({ cls := "HintTeam", name := "total", desc := "(I)I" } : Jvm.MethodName)) ∈ lw_all := lw_g (lw_at lw_m12 82 rfl) rfl
theorem q2875 : (Jvm.Cond.methodLink "HintTeamLaw" (242 : Nat) ({ cls := "HintTeamLaw", name := "logPart", desc := "(LHintTeam;II[J)I" } : Jvm.MethodName)) ∈ lw_all := lw_g (lw_at lw_m12 87 rfl) rfl
theorem q2876 : (Jvm.Cond.static ({ cls := "HintTeamLaw", name := "logPart", desc := "(LHintTeam;II[J)I" } : Jvm.MethodName)) ∈ lw_all := lw_g (lw_at lw_m12 88 rfl) rfl
theorem q2877 : (Jvm.Cond.codeWith ({ cls := "HintTeamLaw", name := "logPart", desc := "(LHintTeam;II[J)I" } : Jvm.MethodName) method_27_code (5 : Nat) (Option.some Jvm.ClassFile.FieldType.int) [((0 : Nat), (10 : Nat), (13 : Nat), (13 : Nat))]) ∈ lw_all := lw_g (lw_at lw_m12 89 rfl) rfl
theorem q2878 : (Jvm.Cond.methodLink "HintTeamLaw" (89 : Nat) ({ cls := "HintTeam", name := "logPart", desc := "(II)I" } : Jvm.MethodName)) ∈ lw_all := lw_g (lw_at lw_m12 90 rfl) rfl
theorem q2883 : (Jvm.Cond.methodLink "HintTeamLaw" (249 : Nat) ({ cls := "HintTeamLaw", name := "writeHand", desc := "(LHintTeam;IZ[J)I" } : Jvm.MethodName)) ∈ lw_all := lw_g (lw_at lw_m12 95 rfl) rfl
theorem q2884 : (Jvm.Cond.static ({ cls := "HintTeamLaw", name := "writeHand", desc := "(LHintTeam;IZ[J)I" } : Jvm.MethodName)) ∈ lw_all := lw_g (lw_at lw_m12 96 rfl) rfl
theorem q2885 : (Jvm.Cond.codeWith ({ cls := "HintTeamLaw", name := "writeHand", desc := "(LHintTeam;IZ[J)I" } : Jvm.MethodName) method_28_code (5 : Nat) (Option.some Jvm.ClassFile.FieldType.int) [((0 : Nat), (10 : Nat), (13 : Nat), (18 : Nat))]) ∈ lw_all := lw_g (lw_at lw_m12 97 rfl) rfl
theorem q2886 : (Jvm.Cond.methodLink "HintTeamLaw" (92 : Nat) ({ cls := "HintTeam", name := "writeHand", desc := "(IZ)I" } : Jvm.MethodName)) ∈ lw_all := lw_g (lw_at lw_m12 98 rfl) rfl
theorem q2970 : (Jvm.Cond.methodLink "HintTeamLaw" (257 : Nat) ({ cls := "HintTeamLaw", name := "saveSnapshot", desc := "(LHintTeam;I[J)I" } : Jvm.MethodName)) ∈ lw_all := lw_g (lw_at lw_m12 182 rfl) rfl
theorem q2971 : (Jvm.Cond.static ({ cls := "HintTeamLaw", name := "saveSnapshot", desc := "(LHintTeam;I[J)I" } : Jvm.MethodName)) ∈ lw_all := lw_g (lw_at lw_m12 183 rfl) rfl
theorem q2972 : (Jvm.Cond.codeWith ({ cls := "HintTeamLaw", name := "saveSnapshot", desc := "(LHintTeam;I[J)I" } : Jvm.MethodName) method_29_code (4 : Nat) (Option.some Jvm.ClassFile.FieldType.int) [((0 : Nat), (9 : Nat), (12 : Nat), (13 : Nat))]) ∈ lw_all := lw_g (lw_at lw_m12 184 rfl) rfl
theorem q2973 : (Jvm.Cond.methodLink "HintTeamLaw" (96 : Nat) ({ cls := "HintTeam", name := "saveSnapshot", desc := "(I)I" } : Jvm.MethodName)) ∈ lw_all := lw_g (lw_at lw_m12 185 rfl) rfl
theorem q2980 : (Jvm.Cond.methodLink "HintTeamLaw" (260 : Nat) ({ cls := "HintTeamLaw", name := "restoreSnapshot", desc := "(LHintTeam;I[J)I" } : Jvm.MethodName)) ∈ lw_all := lw_g (lw_at lw_m12 192 rfl) rfl
theorem q2981 : (Jvm.Cond.static ({ cls := "HintTeamLaw", name := "restoreSnapshot", desc := "(LHintTeam;I[J)I" } : Jvm.MethodName)) ∈ lw_all := lw_g (lw_at lw_m12 193 rfl) rfl
theorem q2982 : (Jvm.Cond.codeWith ({ cls := "HintTeamLaw", name := "restoreSnapshot", desc := "(LHintTeam;I[J)I" } : Jvm.MethodName) method_30_code (4 : Nat) (Option.some Jvm.ClassFile.FieldType.int) [((0 : Nat), (9 : Nat), (12 : Nat), (13 : Nat))]) ∈ lw_all := lw_g (lw_at lw_m12 194 rfl) rfl
theorem q2983 : (Jvm.Cond.methodLink "HintTeamLaw" (99 : Nat) ({ cls := "HintTeam", name := "restoreSnapshot", desc := "(I)I" } : Jvm.MethodName)) ∈ lw_all := lw_g (lw_at lw_m12 195 rfl) rfl
theorem q2987 : (Jvm.Cond.classLink "HintTeamLaw" (103 : Nat) "HintTeamModel") ∈ lw_all := lw_g (lw_at lw_m12 199 rfl) rfl
theorem q2989 : (Jvm.Cond.methodLink "HintTeamLaw" (105 : Nat) ({ cls := "HintTeamModel", name := "<init>", desc := "()V" } : Jvm.MethodName)) ∈ lw_all := lw_g (lw_at lw_m12 201 rfl) rfl
theorem q3088 : (Jvm.Cond.methodLink "HintTeamLaw" (132 : Nat) ({ cls := "HintTeamModel", name := "thrown", desc := "()I" } : Jvm.MethodName)) ∈ lw_all := lw_g (lw_at lw_m13 60 rfl) rfl
theorem q3092 : (Jvm.Cond.methodLink "HintTeamLaw" (112 : Nat) ({ cls := "HintTeamModel", name := "append", desc := "(J)I" } : Jvm.MethodName)) ∈ lw_all := lw_g (lw_at lw_m13 64 rfl) rfl
theorem q3100 : (Jvm.Cond.methodLink "HintTeamLaw" (117 : Nat) ({ cls := "HintTeamModel", name := "load", desc := "()I" } : Jvm.MethodName)) ∈ lw_all := lw_g (lw_at lw_m13 72 rfl) rfl
theorem q3192 : (Jvm.Cond.methodLink "HintTeamLaw" (121 : Nat) ({ cls := "HintTeamModel", name := "loadError", desc := "()I" } : Jvm.MethodName)) ∈ lw_all := lw_g (lw_at lw_m13 164 rfl) rfl
theorem q3196 : (Jvm.Cond.methodLink "HintTeamLaw" (125 : Nat) ({ cls := "HintTeamModel", name := "loadStatement", desc := "()I" } : Jvm.MethodName)) ∈ lw_all := lw_g (lw_at lw_m13 168 rfl) rfl
theorem q3200 : (Jvm.Cond.methodLink "HintTeamLaw" (131 : Nat) ({ cls := "HintTeamModel", name := "count", desc := "(I)I" } : Jvm.MethodName)) ∈ lw_all := lw_g (lw_at lw_m13 172 rfl) rfl
theorem q3212 : (Jvm.Cond.methodLink "HintTeamLaw" (138 : Nat) ({ cls := "HintTeamModel", name := "turnOf", desc := "()I" } : Jvm.MethodName)) ∈ lw_all := lw_g (lw_at lw_m13 184 rfl) rfl
theorem q3216 : (Jvm.Cond.methodLink "HintTeamLaw" (142 : Nat) ({ cls := "HintTeamModel", name := "over", desc := "()I" } : Jvm.MethodName)) ∈ lw_all := lw_g (lw_at lw_m13 188 rfl) rfl
theorem q3220 : (Jvm.Cond.methodLink "HintTeamLaw" (145 : Nat) ({ cls := "HintTeamModel", name := "pile", desc := "(I)I" } : Jvm.MethodName)) ∈ lw_all := lw_g (lw_at lw_m13 192 rfl) rfl
theorem q3224 : (Jvm.Cond.methodLink "HintTeamLaw" (148 : Nat) ({ cls := "HintTeamModel", name := "hand", desc := "(I)I" } : Jvm.MethodName)) ∈ lw_all := lw_g (lw_at lw_m13 196 rfl) rfl
theorem q3232 : (Jvm.Cond.methodLink "HintTeamLaw" (152 : Nat) ({ cls := "HintTeamModel", name := "card", desc := "(II)I" } : Jvm.MethodName)) ∈ lw_all := lw_g (lw_at lw_m13 204 rfl) rfl
theorem q3253 : (Jvm.Cond.methodLink "HintTeamLaw" (156 : Nat) ({ cls := "HintTeamModel", name := "drawn", desc := "(I)I" } : Jvm.MethodName)) ∈ lw_all := lw_g (lw_at lw_m13 225 rfl) rfl
theorem q3257 : (Jvm.Cond.methodLink "HintTeamLaw" (160 : Nat) ({ cls := "HintTeamModel", name := "copies", desc := "(III)I" } : Jvm.MethodName)) ∈ lw_all := lw_g (lw_at lw_m13 229 rfl) rfl
theorem q3273 : (Jvm.Cond.methodLink "HintTeamLaw" (163 : Nat) ({ cls := "HintTeamModel", name := "isUseless", desc := "(II)Z" } : Jvm.MethodName)) ∈ lw_all := lw_g (lw_at lw_m14 5 rfl) rfl
theorem q3285 : (Jvm.Cond.methodLink "HintTeamLaw" (166 : Nat) ({ cls := "HintTeamModel", name := "isCritical", desc := "(II)Z" } : Jvm.MethodName)) ∈ lw_all := lw_g (lw_at lw_m14 17 rfl) rfl
theorem q3293 : (Jvm.Cond.methodLink "HintTeamLaw" (169 : Nat) ({ cls := "HintTeamModel", name := "colorsOf", desc := "(II)I" } : Jvm.MethodName)) ∈ lw_all := lw_g (lw_at lw_m14 25 rfl) rfl
theorem q3297 : (Jvm.Cond.methodLink "HintTeamLaw" (172 : Nat) ({ cls := "HintTeamModel", name := "ranksOf", desc := "(II)I" } : Jvm.MethodName)) ∈ lw_all := lw_g (lw_at lw_m14 29 rfl) rfl
theorem q3301 : (Jvm.Cond.methodLink "HintTeamLaw" (175 : Nat) ({ cls := "HintTeamModel", name := "isTouched", desc := "(II)Z" } : Jvm.MethodName)) ∈ lw_all := lw_g (lw_at lw_m14 33 rfl) rfl
theorem q3305 : (Jvm.Cond.methodLink "HintTeamLaw" (178 : Nat) ({ cls := "HintTeamModel", name := "thinks", desc := "(II)I" } : Jvm.MethodName)) ∈ lw_all := lw_g (lw_at lw_m14 37 rfl) rfl
theorem q3317 : (Jvm.Cond.methodLink "HintTeamLaw" (181 : Nat) ({ cls := "HintTeamModel", name := "thought", desc := "(III)I" } : Jvm.MethodName)) ∈ lw_all := lw_g (lw_at lw_m14 49 rfl) rfl
theorem q3321 : (Jvm.Cond.methodLink "HintTeamLaw" (184 : Nat) ({ cls := "HintTeamModel", name := "knows", desc := "(II)I" } : Jvm.MethodName)) ∈ lw_all := lw_g (lw_at lw_m14 53 rfl) rfl
theorem q3337 : (Jvm.Cond.methodLink "HintTeamLaw" (187 : Nat) ({ cls := "HintTeamModel", name := "wordsLeft", desc := "(II)I" } : Jvm.MethodName)) ∈ lw_all := lw_g (lw_at lw_m14 69 rfl) rfl
theorem q3345 : (Jvm.Cond.methodLink "HintTeamLaw" (190 : Nat) ({ cls := "HintTeamModel", name := "touches", desc := "(III)I" } : Jvm.MethodName)) ∈ lw_all := lw_g (lw_at lw_m14 77 rfl) rfl
theorem q3357 : (Jvm.Cond.methodLink "HintTeamLaw" (193 : Nat) ({ cls := "HintTeamModel", name := "tells", desc := "(III)I" } : Jvm.MethodName)) ∈ lw_all := lw_g (lw_at lw_m14 89 rfl) rfl
theorem q3377 : (Jvm.Cond.methodLink "HintTeamLaw" (248 : Nat) ({ cls := "HintTeamModel", name := "undo", desc := "()I" } : Jvm.MethodName)) ∈ lw_all := lw_g (lw_at lw_m14 109 rfl) rfl
theorem q3381 : (Jvm.Cond.methodLink "HintTeamLaw" (196 : Nat) ({ cls := "HintTeamModel", name := "play", desc := "(I)I" } : Jvm.MethodName)) ∈ lw_all := lw_g (lw_at lw_m14 113 rfl) rfl
theorem q3421 : (Jvm.Cond.methodLink "HintTeamLaw" (199 : Nat) ({ cls := "HintTeamModel", name := "discard", desc := "(I)I" } : Jvm.MethodName)) ∈ lw_all := lw_g (lw_at lw_m14 153 rfl) rfl
theorem q3429 : (Jvm.Cond.methodLink "HintTeamLaw" (202 : Nat) ({ cls := "HintTeamModel", name := "hint", desc := "(III)I" } : Jvm.MethodName)) ∈ lw_all := lw_g (lw_at lw_m14 161 rfl) rfl
theorem q3441 : (Jvm.Cond.methodLink "HintTeamLaw" (206 : Nat) ({ cls := "HintTeamModel", name := "pass", desc := "()I" } : Jvm.MethodName)) ∈ lw_all := lw_g (lw_at lw_m14 173 rfl) rfl
theorem q3449 : (Jvm.Cond.methodLink "HintTeamLaw" (209 : Nat) ({ cls := "HintTeamModel", name := "advice", desc := "(I)I" } : Jvm.MethodName)) ∈ lw_all := lw_g (lw_at lw_m14 181 rfl) rfl
theorem q3469 : (Jvm.Cond.methodLink "HintTeamLaw" (212 : Nat) ({ cls := "HintTeamModel", name := "follow", desc := "(I)I" } : Jvm.MethodName)) ∈ lw_all := lw_g (lw_at lw_m14 201 rfl) rfl
theorem q3477 : (Jvm.Cond.methodLink "HintTeamLaw" (216 : Nat) ({ cls := "HintTeamModel", name := "foreseen", desc := "()I" } : Jvm.MethodName)) ∈ lw_all := lw_g (lw_at lw_m14 209 rfl) rfl
theorem q3481 : (Jvm.Cond.methodLink "HintTeamLaw" (220 : Nat) ({ cls := "HintTeamModel", name := "bound", desc := "()I" } : Jvm.MethodName)) ∈ lw_all := lw_g (lw_at lw_m14 213 rfl) rfl
theorem q3489 : (Jvm.Cond.methodLink "HintTeamLaw" (224 : Nat) ({ cls := "HintTeamModel", name := "pace", desc := "()I" } : Jvm.MethodName)) ∈ lw_all := lw_g (lw_at lw_m14 221 rfl) rfl
theorem q3493 : (Jvm.Cond.methodLink "HintTeamLaw" (228 : Nat) ({ cls := "HintTeamModel", name := "value", desc := "()I" } : Jvm.MethodName)) ∈ lw_all := lw_g (lw_at lw_m14 225 rfl) rfl
theorem q3549 : (Jvm.Cond.methodLink "HintTeamLaw" (232 : Nat) ({ cls := "HintTeamModel", name := "positions", desc := "()I" } : Jvm.MethodName)) ∈ lw_all := lw_g (lw_at lw_m15 41 rfl) rfl
theorem q3553 : (Jvm.Cond.methodLink "HintTeamLaw" (235 : Nat) ({ cls := "HintTeamModel", name := "valueBehind", desc := "(II)I" } : Jvm.MethodName)) ∈ lw_all := lw_g (lw_at lw_m15 45 rfl) rfl
theorem q3561 : (Jvm.Cond.methodLink "HintTeamLaw" (238 : Nat) ({ cls := "HintTeamModel", name := "bestMove", desc := "(I)I" } : Jvm.MethodName)) ∈ lw_all := lw_g (lw_at lw_m15 53 rfl) rfl
theorem q3565 : (Jvm.Cond.methodLink "HintTeamLaw" (241 : Nat) ({ cls := "HintTeamModel", name := "total", desc := "(I)I" } : Jvm.MethodName)) ∈ lw_all := lw_g (lw_at lw_m15 57 rfl) rfl
theorem q3569 : (Jvm.Cond.methodLink "HintTeamLaw" (244 : Nat) ({ cls := "HintTeamModel", name := "logPart", desc := "(II)I" } : Jvm.MethodName)) ∈ lw_all := lw_g (lw_at lw_m15 61 rfl) rfl
theorem q3573 : (Jvm.Cond.methodLink "HintTeamLaw" (252 : Nat) ({ cls := "HintTeamModel", name := "writeHand", desc := "(IZ)I" } : Jvm.MethodName)) ∈ lw_all := lw_g (lw_at lw_m15 65 rfl) rfl
theorem q3584 : (Jvm.Cond.methodLink "HintTeamLaw" (256 : Nat) ({ cls := "HintTeamModel", name := "outputByte", desc := "(I)I" } : Jvm.MethodName)) ∈ lw_all := lw_g (lw_at lw_m15 76 rfl) rfl
theorem q3588 : (Jvm.Cond.methodLink "HintTeamLaw" (259 : Nat) ({ cls := "HintTeamModel", name := "saveSnapshot", desc := "(I)I" } : Jvm.MethodName)) ∈ lw_all := lw_g (lw_at lw_m15 80 rfl) rfl
theorem q3592 : (Jvm.Cond.methodLink "HintTeamLaw" (262 : Nat) ({ cls := "HintTeamModel", name := "restoreSnapshot", desc := "(I)I" } : Jvm.MethodName)) ∈ lw_all := lw_g (lw_at lw_m15 84 rfl) rfl
theorem q3596 : (Jvm.Cond.constantLong "HintTeamLaw" (106 : Nat) (4294967295 : Int64)) ∈ lw_all := lw_g (lw_at lw_m15 88 rfl) rfl
/-! HintTeam -/
def RX1 : String := "HintTeam"
def TX1 : u_T := fun k => match k with
  | 0 => ("HintTeam", "table", "LHintTeam$Table;", false)
  | 1 => ("HintTeam", "past", "Ljava/util/ArrayDeque;", true)
  | 2 => ("HintTeam", "snapshots", "[LHintTeam$Table;", true)
  | 3 => ("HintTeam", "kinds", "Ljava/util/BitSet;", true)
  | 4 => ("HintTeam", "passing", "LHintTeam$Move;", true)
  | 5 => ("HintTeam", "explorer", "LHintTeam$Explorer;", true)
  | 6 => ("HintTeam", "text", "[B", true)
  | 7 => ("HintTeam", "length", "I", false)
  | 8 => ("HintTeam", "error", "I", false)
  | 9 => ("HintTeam", "errorStatement", "I", false)
  | _ => ("HintTeam", "output", "Ljava/lang/StringBuilder;", true)
def tyX1 : Nat → FieldType := fun k => match k with
  | 0 => .object "HintTeam$Table"
  | 1 => .object "java/util/ArrayDeque"
  | 2 => .array (.object "HintTeam$Table")
  | 3 => .object "java/util/BitSet"
  | 4 => .object "HintTeam$Move"
  | 5 => .object "HintTeam$Explorer"
  | 6 => .array .byte
  | 7 => .int
  | 8 => .int
  | 9 => .int
  | _ => .object "java/lang/StringBuilder"
abbrev wsX10 : List Cond := u_ws RX1 TX1 11
theorem nmX1 : ∀ a, a < 11 → ∀ b, b < 11 → a ≠ b → (TX1 a).2.1 ≠ (TX1 b).2.1 := by decide +kernel
theorem tyX1_ok : ∀ k, k < 11 → parseFieldDescriptor (TX1 k).2.2.1 = some (tyX1 k) := by decide +kernel
abbrev cX1_init : ByteArray := prog_1_method_1_code
def yX1_init : MethodName := ⟨RX1, "<init>", "()V"⟩
abbrev cX1_append : ByteArray := prog_1_method_16_code
def yX1_append : MethodName := ⟨RX1, "append", "(J)I"⟩
abbrev cX1_load : ByteArray := prog_1_method_17_code
def yX1_load : MethodName := ⟨RX1, "load", "()I"⟩
abbrev cX1_inRange : ByteArray := prog_1_method_2_code
def yX1_inRange : MethodName := ⟨RX1, "inRange", "(JJJ)Z"⟩
abbrev cX1_loadError : ByteArray := prog_1_method_18_code
def yX1_loadError : MethodName := ⟨RX1, "loadError", "()I"⟩
abbrev cX1_loadStatement : ByteArray := prog_1_method_19_code
def yX1_loadStatement : MethodName := ⟨RX1, "loadStatement", "()I"⟩
abbrev cX1_turnOf : ByteArray := prog_1_method_25_code
def yX1_turnOf : MethodName := ⟨RX1, "turnOf", "()I"⟩
abbrev cX1_isOver : ByteArray := prog_1_method_23_code
def yX1_isOver : MethodName := ⟨RX1, "isOver", "()Z"⟩
abbrev cX1_over : ByteArray := prog_1_method_26_code
def yX1_over : MethodName := ⟨RX1, "over", "()I"⟩
abbrev cX1_drawn : ByteArray := prog_1_method_30_code
def yX1_drawn : MethodName := ⟨RX1, "drawn", "(I)I"⟩
abbrev cX1_pass : ByteArray := prog_1_method_47_code
def yX1_pass : MethodName := ⟨RX1, "pass", "()I"⟩
abbrev cX1_act : ByteArray := prog_1_method_6_code
def yX1_act : MethodName := ⟨RX1, "act", "()V"⟩
abbrev cX1_foreseen : ByteArray := prog_1_method_50_code
def yX1_foreseen : MethodName := ⟨RX1, "foreseen", "()I"⟩
abbrev cX1_advised : ByteArray := prog_1_method_15_code
def yX1_advised : MethodName := ⟨RX1, "advised", "()LHintTeam$Move;"⟩
abbrev cX1_placeKnown : ByteArray := prog_1_method_13_code
def yX1_placeKnown : MethodName := ⟨RX1, "placeKnown", "(I)I"⟩
abbrev cX1_knownOf : ByteArray := prog_1_method_9_code
def yX1_knownOf : MethodName := ⟨RX1, "knownOf", "(ILHintTeam$Held;)I"⟩
abbrev cX1_knownBy : ByteArray := prog_1_method_8_code
def yX1_knownBy : MethodName := ⟨RX1, "knownBy", "(III)I"⟩
abbrev cX1_thoughts : ByteArray := prog_1_method_7_code
def yX1_thoughts : MethodName := ⟨RX1, "thoughts", "(III)Ljava/util/BitSet;"⟩
abbrev cX1_has : ByteArray := prog_1_method_3_code
def yX1_has : MethodName := ⟨RX1, "has", "(JI)Z"⟩
abbrev cX1_ofCard : ByteArray := prog_1_method_11_code
def yX1_ofCard : MethodName := ⟨RX1, "ofCard", "(II)LHintTeam$Move;"⟩
abbrev cX1_bestHint : ByteArray := prog_1_method_12_code
def yX1_bestHint : MethodName := ⟨RX1, "bestHint", "()LHintTeam$Move;"⟩
abbrev cX1_toldBy : ByteArray := prog_1_method_10_code
def yX1_toldBy : MethodName := ⟨RX1, "toldBy", "(III)I"⟩
abbrev cX1_placeUntouched : ByteArray := prog_1_method_14_code
def yX1_placeUntouched : MethodName := ⟨RX1, "placeUntouched", "()I"⟩
abbrev cX1_undo : ByteArray := prog_1_method_51_code
def yX1_undo : MethodName := ⟨RX1, "undo", "()I"⟩
abbrev cX1_bound : ByteArray := prog_1_method_53_code
def yX1_bound : MethodName := ⟨RX1, "bound", "()I"⟩
abbrev cX1_boundNow : ByteArray := prog_1_method_52_code
def yX1_boundNow : MethodName := ⟨RX1, "boundNow", "()I"⟩
abbrev cX1_pace : ByteArray := prog_1_method_54_code
def yX1_pace : MethodName := ⟨RX1, "pace", "()I"⟩
abbrev cX1_value : ByteArray := prog_1_method_56_code
def yX1_value : MethodName := ⟨RX1, "value", "()I"⟩
abbrev cX1_valueNow : ByteArray := prog_1_method_55_code
def yX1_valueNow : MethodName := ⟨RX1, "valueNow", "()I"⟩
abbrev cX1_positions : ByteArray := prog_1_method_57_code
def yX1_positions : MethodName := ⟨RX1, "positions", "()I"⟩
abbrev cX1_outputByte : ByteArray := prog_1_method_65_code
def yX1_outputByte : MethodName := ⟨RX1, "outputByte", "(I)I"⟩
abbrev cX1_count : ByteArray := prog_1_method_24_code
def yX1_count : MethodName := ⟨RX1, "count", "(I)I"⟩
abbrev cX1_pile : ByteArray := prog_1_method_27_code
def yX1_pile : MethodName := ⟨RX1, "pile", "(I)I"⟩
abbrev cX1_requireIndex : ByteArray := prog_1_method_4_code
def yX1_requireIndex : MethodName := ⟨RX1, "requireIndex", "(Z)V"⟩
abbrev cX1_hand : ByteArray := prog_1_method_28_code
def yX1_hand : MethodName := ⟨RX1, "hand", "(I)I"⟩
abbrev cX1_isPlayer : ByteArray := prog_1_method_20_code
def yX1_isPlayer : MethodName := ⟨RX1, "isPlayer", "(I)Z"⟩
abbrev cX1_card : ByteArray := prog_1_method_29_code
def yX1_card : MethodName := ⟨RX1, "card", "(II)I"⟩
abbrev cX1_heldAt : ByteArray := prog_1_method_22_code
def yX1_heldAt : MethodName := ⟨RX1, "heldAt", "(II)LHintTeam$Held;"⟩
abbrev cX1_copies : ByteArray := prog_1_method_31_code
def yX1_copies : MethodName := ⟨RX1, "copies", "(III)I"⟩
abbrev cX1_isKind : ByteArray := prog_1_method_21_code
def yX1_isKind : MethodName := ⟨RX1, "isKind", "(II)Z"⟩
abbrev cX1_requireArgument : ByteArray := prog_1_method_5_code
def yX1_requireArgument : MethodName := ⟨RX1, "requireArgument", "(Z)V"⟩
abbrev cX1_isUseless : ByteArray := prog_1_method_32_code
def yX1_isUseless : MethodName := ⟨RX1, "isUseless", "(II)Z"⟩
abbrev cX1_isCritical : ByteArray := prog_1_method_33_code
def yX1_isCritical : MethodName := ⟨RX1, "isCritical", "(II)Z"⟩
abbrev cX1_colorsOf : ByteArray := prog_1_method_34_code
def yX1_colorsOf : MethodName := ⟨RX1, "colorsOf", "(II)I"⟩
abbrev cX1_ranksOf : ByteArray := prog_1_method_35_code
def yX1_ranksOf : MethodName := ⟨RX1, "ranksOf", "(II)I"⟩
abbrev cX1_isTouched : ByteArray := prog_1_method_36_code
def yX1_isTouched : MethodName := ⟨RX1, "isTouched", "(II)Z"⟩
abbrev cX1_thinks : ByteArray := prog_1_method_37_code
def yX1_thinks : MethodName := ⟨RX1, "thinks", "(II)I"⟩
abbrev cX1_thought : ByteArray := prog_1_method_38_code
def yX1_thought : MethodName := ⟨RX1, "thought", "(III)I"⟩
abbrev cX1_knows : ByteArray := prog_1_method_39_code
def yX1_knows : MethodName := ⟨RX1, "knows", "(II)I"⟩
abbrev cX1_wordsLeft : ByteArray := prog_1_method_40_code
def yX1_wordsLeft : MethodName := ⟨RX1, "wordsLeft", "(II)I"⟩
abbrev cX1_touches : ByteArray := prog_1_method_41_code
def yX1_touches : MethodName := ⟨RX1, "touches", "(III)I"⟩
abbrev cX1_tells : ByteArray := prog_1_method_42_code
def yX1_tells : MethodName := ⟨RX1, "tells", "(III)I"⟩
abbrev cX1_play : ByteArray := prog_1_method_44_code
def yX1_play : MethodName := ⟨RX1, "play", "(I)I"⟩
abbrev cX1_requireOwn : ByteArray := prog_1_method_43_code
def yX1_requireOwn : MethodName := ⟨RX1, "requireOwn", "(I)V"⟩
abbrev cX1_discard : ByteArray := prog_1_method_45_code
def yX1_discard : MethodName := ⟨RX1, "discard", "(I)I"⟩
abbrev cX1_hint : ByteArray := prog_1_method_46_code
def yX1_hint : MethodName := ⟨RX1, "hint", "(III)I"⟩
abbrev cX1_advice : ByteArray := prog_1_method_48_code
def yX1_advice : MethodName := ⟨RX1, "advice", "(I)I"⟩
abbrev cX1_follow : ByteArray := prog_1_method_49_code
def yX1_follow : MethodName := ⟨RX1, "follow", "(I)I"⟩
abbrev cX1_valueBehind : ByteArray := prog_1_method_60_code
def yX1_valueBehind : MethodName := ⟨RX1, "valueBehind", "(II)I"⟩
abbrev cX1_isSensible : ByteArray := prog_1_method_58_code
def yX1_isSensible : MethodName := ⟨RX1, "isSensible", "(II)Z"⟩
abbrev cX1_valueOf : ByteArray := prog_1_method_59_code
def yX1_valueOf : MethodName := ⟨RX1, "valueOf", "(II)I"⟩
abbrev cX1_bestMove : ByteArray := prog_1_method_61_code
def yX1_bestMove : MethodName := ⟨RX1, "bestMove", "(I)I"⟩
abbrev cX1_total : ByteArray := prog_1_method_62_code
def yX1_total : MethodName := ⟨RX1, "total", "(I)I"⟩
abbrev cX1_logPart : ByteArray := prog_1_method_63_code
def yX1_logPart : MethodName := ⟨RX1, "logPart", "(II)I"⟩
abbrev cX1_writeHand : ByteArray := prog_1_method_64_code
def yX1_writeHand : MethodName := ⟨RX1, "writeHand", "(IZ)I"⟩
abbrev cX1_saveSnapshot : ByteArray := prog_1_method_67_code
def yX1_saveSnapshot : MethodName := ⟨RX1, "saveSnapshot", "(I)I"⟩
abbrev cX1_requireSlot : ByteArray := prog_1_method_66_code
def yX1_requireSlot : MethodName := ⟨RX1, "requireSlot", "(I)V"⟩
abbrev cX1_restoreSnapshot : ByteArray := prog_1_method_68_code
def yX1_restoreSnapshot : MethodName := ⟨RX1, "restoreSnapshot", "(I)I"⟩
theorem q149 : (Jvm.Cond.initialized "HintTeam") ∈ lw_all := lw_g (lw_at lw_m1 1 rfl) rfl
theorem q206 : (Jvm.Cond.instantiable "HintTeam" (11 : Nat)) ∈ lw_all := lw_g (lw_at lw_m1 58 rfl) rfl
theorem q208 : (Jvm.Cond.instanceMethod ({ cls := "HintTeam", name := "<init>", desc := "()V" } : Jvm.MethodName)) ∈ lw_all := lw_g (lw_at lw_m1 60 rfl) rfl
theorem q209 : (Jvm.Cond.code ({ cls := "HintTeam", name := "<init>", desc := "()V" } : Jvm.MethodName) prog_1_method_1_code (1 : Nat) (Option.none : Option Jvm.ClassFile.FieldType)) ∈ lw_all := lw_g (lw_at lw_m1 61 rfl) rfl
theorem q210 : (Jvm.Cond.methodLink "HintTeam" (1 : Nat) ({ cls := "java/lang/Object", name := "<init>", desc := "()V" } : Jvm.MethodName)) ∈ lw_all := lw_g (lw_at lw_m1 62 rfl) rfl
theorem q213 : (Jvm.Cond.classLink "HintTeam" (7 : Nat) "HintTeam$Table") ∈ lw_all := lw_g (lw_at lw_m1 65 rfl) rfl
theorem q215 : (Jvm.Cond.classLink "HintTeam" (9 : Nat) "HintTeam$Rules") ∈ lw_all := lw_g (lw_at lw_m1 67 rfl) rfl
theorem q217 : (Jvm.Cond.methodLink "HintTeam" (11 : Nat) ({ cls := "HintTeam$Rules", name := "<init>", desc := "()V" } : Jvm.MethodName)) ∈ lw_all := lw_g (lw_at lw_m1 69 rfl) rfl
theorem q291 : (Jvm.Cond.fieldLinkNest "HintTeam" (101 : Nat) "HintTeam$Rules" "colors" "I" "HintTeam") ∈ lw_tbl := lw_at lw_m1 143 rfl
theorem q296 : (Jvm.Cond.fieldLinkNest "HintTeam" (104 : Nat) "HintTeam$Rules" "ranks" "I" "HintTeam") ∈ lw_tbl := lw_at lw_m1 148 rfl
theorem q302 : (Jvm.Cond.fieldLinkNest "HintTeam" (260 : Nat) "HintTeam$Rules" "players" "I" "HintTeam") ∈ lw_tbl := lw_at lw_m1 154 rfl
theorem q305 : (Jvm.Cond.fieldLinkNest "HintTeam" (278 : Nat) "HintTeam$Rules" "hand" "I" "HintTeam") ∈ lw_tbl := lw_at lw_m1 157 rfl
theorem q320 : (Jvm.Cond.fieldLinkNest "HintTeam" (245 : Nat) "HintTeam$Rules" "deck" "Ljava/util/List;" "HintTeam") ∈ lw_tbl := lw_at lw_m1 172 rfl
theorem q347 : (Jvm.Cond.methodLink "HintTeam" (12 : Nat) ({ cls := "HintTeam$Table", name := "<init>", desc := "(LHintTeam$Rules;)V" } : Jvm.MethodName)) ∈ lw_all := lw_g (lw_at lw_m1 199 rfl) rfl
theorem q707 : (Jvm.Cond.fieldLinkNest "HintTeam" (97 : Nat) "HintTeam$Table" "rules" "LHintTeam$Rules;" "HintTeam") ∈ lw_tbl := lw_at lw_m3 79 rfl
theorem q710 : (Jvm.Cond.fieldLinkNest "HintTeam" (145 : Nat) "HintTeam$Table" "hands" "Ljava/util/List;" "HintTeam") ∈ lw_tbl := lw_at lw_m3 82 rfl
theorem q712 : (Jvm.Cond.fieldLinkNest "HintTeam" (436 : Nat) "HintTeam$Table" "log" "Ljava/util/LinkedList;" "HintTeam") ∈ lw_tbl := lw_at lw_m3 84 rfl
theorem q715 : (Jvm.Cond.fieldLinkNest "HintTeam" (301 : Nat) "HintTeam$Table" "piles" "[I" "HintTeam") ∈ lw_tbl := lw_at lw_m3 87 rfl
theorem q717 : (Jvm.Cond.fieldLinkNest "HintTeam" (433 : Nat) "HintTeam$Table" "totals" "[I" "HintTeam") ∈ lw_tbl := lw_at lw_m3 89 rfl
theorem q719 : (Jvm.Cond.fieldLinkNest "HintTeam" (332 : Nat) "HintTeam$Table" "heap" "[[I" "HintTeam") ∈ lw_tbl := lw_at lw_m3 91 rfl
theorem q721 : (Jvm.Cond.fieldLinkNest "HintTeam" (345 : Nat) "HintTeam$Table" "words" "[[I" "HintTeam") ∈ lw_tbl := lw_at lw_m3 93 rfl
theorem q724 : (Jvm.Cond.fieldLinkNest "HintTeam" (281 : Nat) "HintTeam$Table" "next" "I" "HintTeam") ∈ lw_tbl := lw_at lw_m3 96 rfl
theorem q727 : (Jvm.Cond.fieldLinkNest "HintTeam" (283 : Nat) "HintTeam$Table" "tokens" "I" "HintTeam") ∈ lw_tbl := lw_at lw_m3 99 rfl
theorem q729 : (Jvm.Cond.fieldLinkNest "HintTeam" (286 : Nat) "HintTeam$Table" "lives" "I" "HintTeam") ∈ lw_tbl := lw_at lw_m3 101 rfl
theorem q733 : (Jvm.Cond.fieldLinkNest "HintTeam" (204 : Nat) "HintTeam$Table" "turn" "I" "HintTeam") ∈ lw_tbl := lw_at lw_m3 105 rfl
theorem q735 : (Jvm.Cond.fieldLinkNest "HintTeam" (292 : Nat) "HintTeam$Table" "taken" "I" "HintTeam") ∈ lw_tbl := lw_at lw_m3 107 rfl
theorem q738 : (Jvm.Cond.fieldLinkNest "HintTeam" (295 : Nat) "HintTeam$Table" "left" "I" "HintTeam") ∈ lw_tbl := lw_at lw_m3 110 rfl
theorem q766 : (Jvm.Cond.classLink "HintTeam" (21 : Nat) "java/util/ArrayDeque") ∈ lw_all := lw_g (lw_at lw_m3 138 rfl) rfl
theorem q768 : (Jvm.Cond.methodLink "HintTeam" (23 : Nat) ({ cls := "java/util/ArrayDeque", name := "<init>", desc := "(I)V" } : Jvm.MethodName)) ∈ lw_all := lw_g (lw_at lw_m3 140 rfl) rfl
theorem q785 : (Jvm.Cond.classLink "HintTeam" (34 : Nat) "java/util/BitSet") ∈ lw_all := lw_g (lw_at lw_m3 157 rfl) rfl
theorem q787 : (Jvm.Cond.methodLink "HintTeam" (36 : Nat) ({ cls := "java/util/BitSet", name := "<init>", desc := "(I)V" } : Jvm.MethodName)) ∈ lw_all := lw_g (lw_at lw_m3 159 rfl) rfl
theorem q809 : (Jvm.Cond.classLink "HintTeam" (41 : Nat) "HintTeam$2") ∈ lw_all := lw_g (lw_at lw_m3 181 rfl) rfl
theorem q811 : (Jvm.Cond.methodLink "HintTeam" (43 : Nat) ({ cls := "HintTeam$2", name := "<init>", desc := "(LHintTeam;)V" } : Jvm.MethodName)) ∈ lw_all := lw_g (lw_at lw_m3 183 rfl) rfl
theorem q825 : (Jvm.Cond.classLink "HintTeam" (50 : Nat) "HintTeam$Explorer") ∈ lw_all := lw_g (lw_at lw_m3 197 rfl) rfl
theorem q827 : (Jvm.Cond.methodLinkNest "HintTeam" (52 : Nat) ({ cls := "HintTeam$Explorer", name := "<init>", desc := "(LHintTeam;)V" } : Jvm.MethodName) "HintTeam") ∈ lw_tbl := lw_at lw_m3 199 rfl
theorem q855 : (Jvm.Cond.classLink "HintTeam" (65 : Nat) "java/lang/StringBuilder") ∈ lw_all := lw_g (lw_at lw_m3 227 rfl) rfl
theorem q856 : (Jvm.Cond.methodLink "HintTeam" (67 : Nat) ({ cls := "java/lang/StringBuilder", name := "<init>", desc := "()V" } : Jvm.MethodName)) ∈ lw_all := lw_g (lw_at lw_m3 228 rfl) rfl
theorem q857 : (Jvm.Cond.fieldLink "HintTeam" (15 : Nat) "HintTeam" "table" "LHintTeam$Table;") ∈ lw_all := lw_g (lw_at lw_m3 229 rfl) rfl
theorem q863 : (Jvm.Cond.fieldLink "HintTeam" (26 : Nat) "HintTeam" "past" "Ljava/util/ArrayDeque;") ∈ lw_all := lw_g (lw_at lw_m3 235 rfl) rfl
theorem q864 : (Jvm.Cond.fieldLink "HintTeam" (30 : Nat) "HintTeam" "snapshots" "[LHintTeam$Table;") ∈ lw_all := lw_g (lw_at lw_m3 236 rfl) rfl
theorem q865 : (Jvm.Cond.fieldLink "HintTeam" (37 : Nat) "HintTeam" "kinds" "Ljava/util/BitSet;") ∈ lw_all := lw_g (lw_at lw_m3 237 rfl) rfl
theorem q866 : (Jvm.Cond.fieldLink "HintTeam" (46 : Nat) "HintTeam" "passing" "LHintTeam$Move;") ∈ lw_all := lw_g (lw_at lw_m3 238 rfl) rfl
theorem q867 : (Jvm.Cond.fieldLink "HintTeam" (53 : Nat) "HintTeam" "explorer" "LHintTeam$Explorer;") ∈ lw_all := lw_g (lw_at lw_m3 239 rfl) rfl
theorem q868 : (Jvm.Cond.fieldLink "HintTeam" (57 : Nat) "HintTeam" "text" "[B") ∈ lw_all := lw_g (lw_at lw_m4 0 rfl) rfl
theorem q871 : (Jvm.Cond.fieldLink "HintTeam" (232 : Nat) "HintTeam" "length" "I") ∈ lw_all := lw_g (lw_at lw_m4 3 rfl) rfl
theorem q872 : (Jvm.Cond.fieldLink "HintTeam" (235 : Nat) "HintTeam" "error" "I") ∈ lw_all := lw_g (lw_at lw_m4 4 rfl) rfl
theorem q873 : (Jvm.Cond.fieldLink "HintTeam" (61 : Nat) "HintTeam" "errorStatement" "I") ∈ lw_all := lw_g (lw_at lw_m4 5 rfl) rfl
theorem q874 : (Jvm.Cond.fieldLink "HintTeam" (68 : Nat) "HintTeam" "output" "Ljava/lang/StringBuilder;") ∈ lw_all := lw_g (lw_at lw_m4 6 rfl) rfl
theorem q875 : (Jvm.Cond.lays "HintTeam" "HintTeam" "table" "LHintTeam$Table;") ∈ lw_all := lw_g (lw_at lw_m4 7 rfl) rfl
theorem q876 : (Jvm.Cond.soleField "HintTeam" "table") ∈ lw_all := lw_g (lw_at lw_m4 8 rfl) rfl
theorem q877 : (Jvm.Cond.laysFinal "HintTeam" "HintTeam" "past" "Ljava/util/ArrayDeque;") ∈ lw_all := lw_g (lw_at lw_m4 9 rfl) rfl
theorem q878 : (Jvm.Cond.soleField "HintTeam" "past") ∈ lw_all := lw_g (lw_at lw_m4 10 rfl) rfl
theorem q879 : (Jvm.Cond.laysFinal "HintTeam" "HintTeam" "snapshots" "[LHintTeam$Table;") ∈ lw_all := lw_g (lw_at lw_m4 11 rfl) rfl
theorem q880 : (Jvm.Cond.soleField "HintTeam" "snapshots") ∈ lw_all := lw_g (lw_at lw_m4 12 rfl) rfl
theorem q881 : (Jvm.Cond.laysFinal "HintTeam" "HintTeam" "kinds" "Ljava/util/BitSet;") ∈ lw_all := lw_g (lw_at lw_m4 13 rfl) rfl
theorem q882 : (Jvm.Cond.soleField "HintTeam" "kinds") ∈ lw_all := lw_g (lw_at lw_m4 14 rfl) rfl
theorem q883 : (Jvm.Cond.laysFinal "HintTeam" "HintTeam" "passing" "LHintTeam$Move;") ∈ lw_all := lw_g (lw_at lw_m4 15 rfl) rfl
theorem q884 : (Jvm.Cond.soleField "HintTeam" "passing") ∈ lw_all := lw_g (lw_at lw_m4 16 rfl) rfl
theorem q885 : (Jvm.Cond.laysFinal "HintTeam" "HintTeam" "explorer" "LHintTeam$Explorer;") ∈ lw_all := lw_g (lw_at lw_m4 17 rfl) rfl
theorem q886 : (Jvm.Cond.soleField "HintTeam" "explorer") ∈ lw_all := lw_g (lw_at lw_m4 18 rfl) rfl
theorem q887 : (Jvm.Cond.laysFinal "HintTeam" "HintTeam" "text" "[B") ∈ lw_all := lw_g (lw_at lw_m4 19 rfl) rfl
theorem q888 : (Jvm.Cond.soleField "HintTeam" "text") ∈ lw_all := lw_g (lw_at lw_m4 20 rfl) rfl
theorem q889 : (Jvm.Cond.lays "HintTeam" "HintTeam" "length" "I") ∈ lw_all := lw_g (lw_at lw_m4 21 rfl) rfl
theorem q890 : (Jvm.Cond.soleField "HintTeam" "length") ∈ lw_all := lw_g (lw_at lw_m4 22 rfl) rfl
theorem q891 : (Jvm.Cond.lays "HintTeam" "HintTeam" "error" "I") ∈ lw_all := lw_g (lw_at lw_m4 23 rfl) rfl
theorem q892 : (Jvm.Cond.soleField "HintTeam" "error") ∈ lw_all := lw_g (lw_at lw_m4 24 rfl) rfl
theorem q893 : (Jvm.Cond.lays "HintTeam" "HintTeam" "errorStatement" "I") ∈ lw_all := lw_g (lw_at lw_m4 25 rfl) rfl
theorem q894 : (Jvm.Cond.soleField "HintTeam" "errorStatement") ∈ lw_all := lw_g (lw_at lw_m4 26 rfl) rfl
theorem q895 : (Jvm.Cond.laysFinal "HintTeam" "HintTeam" "output" "Ljava/lang/StringBuilder;") ∈ lw_all := lw_g (lw_at lw_m4 27 rfl) rfl
theorem q896 : (Jvm.Cond.soleField "HintTeam" "output") ∈ lw_all := lw_g (lw_at lw_m4 28 rfl) rfl
theorem q897 : (Jvm.Cond.superclass "HintTeam" "java/lang/Object") ∈ lw_all := lw_g (lw_at lw_m4 29 rfl) rfl
theorem q899 : (Jvm.Cond.instanceMethod ({ cls := "HintTeam", name := "append", desc := "(J)I" } : Jvm.MethodName)) ∈ lw_all := lw_g (lw_at lw_m4 31 rfl) rfl
theorem q900 : (Jvm.Cond.selects "HintTeam" ({ cls := "HintTeam", name := "append", desc := "(J)I" } : Jvm.MethodName) ({ cls := "HintTeam", name := "append", desc := "(J)I" } : Jvm.MethodName)) ∈ lw_all := lw_g (lw_at lw_m4 32 rfl) rfl
theorem q901 : (Jvm.Cond.code ({ cls := "HintTeam", name := "append", desc := "(J)I" } : Jvm.MethodName) prog_1_method_16_code (6 : Nat) (Option.some Jvm.ClassFile.FieldType.int)) ∈ lw_all := lw_g (lw_at lw_m4 33 rfl) rfl
theorem q902 : (Jvm.Cond.constantLong "HintTeam" (230 : Nat) (255 : Int64)) ∈ lw_all := lw_g (lw_at lw_m4 34 rfl) rfl
theorem q904 : (Jvm.Cond.instanceMethod ({ cls := "HintTeam", name := "load", desc := "()I" } : Jvm.MethodName)) ∈ lw_all := lw_g (lw_at lw_m4 36 rfl) rfl
theorem q905 : (Jvm.Cond.selects "HintTeam" ({ cls := "HintTeam", name := "load", desc := "()I" } : Jvm.MethodName) ({ cls := "HintTeam", name := "load", desc := "()I" } : Jvm.MethodName)) ∈ lw_all := lw_g (lw_at lw_m4 37 rfl) rfl
theorem q906 : (Jvm.Cond.codeWith ({ cls := "HintTeam", name := "load", desc := "()I" } : Jvm.MethodName) prog_1_method_17_code (5 : Nat) (Option.some Jvm.ClassFile.FieldType.int) [((19 : Nat), (50 : Nat), (57 : Nat), (249 : Nat)), ((19 : Nat), (50 : Nat), (89 : Nat), (0 : Nat)), ((57 : Nat), (82 : Nat), (89 : Nat), (0 : Nat)), ((89 : Nat), (91 : Nat), (89 : Nat), (0 : Nat))]) ∈ lw_all := lw_g (lw_at lw_m4 38 rfl) rfl
theorem q907 : (Jvm.Cond.classLink "HintTeam" (249 : Nat) "HintTeam$Fault") ∈ lw_all := lw_g (lw_at lw_m4 39 rfl) rfl
theorem q908 : (Jvm.Cond.classLink "HintTeam" (238 : Nat) "HintTeam$Parser") ∈ lw_all := lw_g (lw_at lw_m4 40 rfl) rfl
theorem q910 : (Jvm.Cond.methodLinkNest "HintTeam" (240 : Nat) ({ cls := "HintTeam$Parser", name := "<init>", desc := "(LHintTeam;)V" } : Jvm.MethodName) "HintTeam") ∈ lw_tbl := lw_at lw_m4 42 rfl
theorem q920 : (Jvm.Cond.fieldLinkNest "HintTeam" (254 : Nat) "HintTeam$Parser" "statement" "I" "HintTeam") ∈ lw_tbl := lw_at lw_m4 52 rfl
theorem q936 : (Jvm.Cond.methodLink "HintTeam" (241 : Nat) ({ cls := "HintTeam$Parser", name := "parse", desc := "()LHintTeam$Table;" } : Jvm.MethodName)) ∈ lw_all := lw_g (lw_at lw_m4 68 rfl) rfl
theorem q955 : (Jvm.Cond.static ({ cls := "HintTeam", name := "inRange", desc := "(JJJ)Z" } : Jvm.MethodName)) ∈ lw_all := lw_g (lw_at lw_m4 87 rfl) rfl
theorem q956 : (Jvm.Cond.code ({ cls := "HintTeam", name := "inRange", desc := "(JJJ)Z" } : Jvm.MethodName) prog_1_method_2_code (6 : Nat) (Option.some Jvm.ClassFile.FieldType.boolean)) ∈ lw_all := lw_g (lw_at lw_m4 88 rfl) rfl
theorem q980 : (Jvm.Cond.fieldLinkNest "HintTeam" (251 : Nat) "HintTeam$Fault" "kind" "I" "HintTeam") ∈ lw_tbl := lw_at lw_m4 112 rfl
theorem q982 : (Jvm.Cond.fieldLinkNest "HintTeam" (257 : Nat) "HintTeam$Fault" "position" "I" "HintTeam") ∈ lw_tbl := lw_at lw_m4 114 rfl
theorem q1193 : (Jvm.Cond.selects "HintTeam" ({ cls := "java/lang/Object", name := "getClass", desc := "()Ljava/lang/Class;" } : Jvm.MethodName) ({ cls := "java/lang/Object", name := "getClass", desc := "()Ljava/lang/Class;" } : Jvm.MethodName)) ∈ lw_all := lw_g (lw_at lw_m5 85 rfl) rfl
theorem q1574 : (Jvm.Cond.fieldLinkNest "HintTeam" (188 : Nat) "HintTeam$Hint" "player" "I" "HintTeam") ∈ lw_tbl := lw_at lw_m6 226 rfl
theorem q1576 : (Jvm.Cond.fieldLinkNest "HintTeam" (191 : Nat) "HintTeam$Hint" "word" "I" "HintTeam") ∈ lw_tbl := lw_at lw_m6 228 rfl
theorem q1578 : (Jvm.Cond.fieldLinkNest "HintTeam" (194 : Nat) "HintTeam$Hint" "value" "I" "HintTeam") ∈ lw_tbl := lw_at lw_m6 230 rfl
theorem q2046 : (Jvm.Cond.fieldLinkNest "HintTeam" (309 : Nat) "HintTeam$Held" "card" "LHintTeam$Card;" "HintTeam") ∈ lw_tbl := lw_at lw_m8 218 rfl
theorem q2048 : (Jvm.Cond.fieldLinkNest "HintTeam" (137 : Nat) "HintTeam$Held" "colors" "I" "HintTeam") ∈ lw_tbl := lw_at lw_m8 220 rfl
theorem q2050 : (Jvm.Cond.fieldLinkNest "HintTeam" (140 : Nat) "HintTeam$Held" "ranks" "I" "HintTeam") ∈ lw_tbl := lw_at lw_m8 222 rfl
theorem q2052 : (Jvm.Cond.fieldLinkNest "HintTeam" (207 : Nat) "HintTeam$Held" "isTouched" "Z" "HintTeam") ∈ lw_tbl := lw_at lw_m8 224 rfl
theorem q2066 : (Jvm.Cond.methodLink "HintTeam" (244 : Nat) ({ cls := "java/util/ArrayDeque", name := "clear", desc := "()V" } : Jvm.MethodName)) ∈ lw_all := lw_g (lw_at lw_m8 238 rfl) rfl
theorem q2073 : (Jvm.Cond.interfaceEntry "HintTeam" (248 : Nat)) ∈ lw_tbl := lw_at lw_m9 5 rfl
theorem q2074 : (Jvm.Cond.methodLink "HintTeam" (248 : Nat) ({ cls := "java/util/List", name := "size", desc := "()I" } : Jvm.MethodName)) ∈ lw_all := lw_g (lw_at lw_m9 6 rfl) rfl
theorem q2076 : (Jvm.Cond.instanceMethod ({ cls := "HintTeam", name := "loadError", desc := "()I" } : Jvm.MethodName)) ∈ lw_all := lw_g (lw_at lw_m9 8 rfl) rfl
theorem q2077 : (Jvm.Cond.selects "HintTeam" ({ cls := "HintTeam", name := "loadError", desc := "()I" } : Jvm.MethodName) ({ cls := "HintTeam", name := "loadError", desc := "()I" } : Jvm.MethodName)) ∈ lw_all := lw_g (lw_at lw_m9 9 rfl) rfl
theorem q2078 : (Jvm.Cond.code ({ cls := "HintTeam", name := "loadError", desc := "()I" } : Jvm.MethodName) prog_1_method_18_code (1 : Nat) (Option.some Jvm.ClassFile.FieldType.int)) ∈ lw_all := lw_g (lw_at lw_m9 10 rfl) rfl
theorem q2080 : (Jvm.Cond.instanceMethod ({ cls := "HintTeam", name := "loadStatement", desc := "()I" } : Jvm.MethodName)) ∈ lw_all := lw_g (lw_at lw_m9 12 rfl) rfl
theorem q2081 : (Jvm.Cond.selects "HintTeam" ({ cls := "HintTeam", name := "loadStatement", desc := "()I" } : Jvm.MethodName) ({ cls := "HintTeam", name := "loadStatement", desc := "()I" } : Jvm.MethodName)) ∈ lw_all := lw_g (lw_at lw_m9 13 rfl) rfl
theorem q2082 : (Jvm.Cond.code ({ cls := "HintTeam", name := "loadStatement", desc := "()I" } : Jvm.MethodName) prog_1_method_19_code (1 : Nat) (Option.some Jvm.ClassFile.FieldType.int)) ∈ lw_all := lw_g (lw_at lw_m9 14 rfl) rfl
theorem q2084 : (Jvm.Cond.instanceMethod ({ cls := "HintTeam", name := "turnOf", desc := "()I" } : Jvm.MethodName)) ∈ lw_all := lw_g (lw_at lw_m9 16 rfl) rfl
theorem q2085 : (Jvm.Cond.selects "HintTeam" ({ cls := "HintTeam", name := "turnOf", desc := "()I" } : Jvm.MethodName) ({ cls := "HintTeam", name := "turnOf", desc := "()I" } : Jvm.MethodName)) ∈ lw_all := lw_g (lw_at lw_m9 17 rfl) rfl
theorem q2086 : (Jvm.Cond.code ({ cls := "HintTeam", name := "turnOf", desc := "()I" } : Jvm.MethodName) prog_1_method_25_code (1 : Nat) (Option.some Jvm.ClassFile.FieldType.int)) ∈ lw_all := lw_g (lw_at lw_m9 18 rfl) rfl
theorem q2087 : (Jvm.Cond.methodLink "HintTeam" (298 : Nat) ({ cls := "HintTeam", name := "isOver", desc := "()Z" } : Jvm.MethodName)) ∈ lw_all := lw_g (lw_at lw_m9 19 rfl) rfl
theorem q2088 : (Jvm.Cond.privateMethod ({ cls := "HintTeam", name := "isOver", desc := "()Z" } : Jvm.MethodName)) ∈ lw_tbl := lw_at lw_m9 20 rfl
theorem q2089 : (Jvm.Cond.instanceMethod ({ cls := "HintTeam", name := "isOver", desc := "()Z" } : Jvm.MethodName)) ∈ lw_all := lw_g (lw_at lw_m9 21 rfl) rfl
theorem q2090 : (Jvm.Cond.code ({ cls := "HintTeam", name := "isOver", desc := "()Z" } : Jvm.MethodName) prog_1_method_23_code (1 : Nat) (Option.some Jvm.ClassFile.FieldType.boolean)) ∈ lw_all := lw_g (lw_at lw_m9 22 rfl) rfl
theorem q2091 : (Jvm.Cond.methodLink "HintTeam" (275 : Nat) ({ cls := "HintTeam$Table", name := "over", desc := "()I" } : Jvm.MethodName)) ∈ lw_all := lw_g (lw_at lw_m9 23 rfl) rfl
theorem q2100 : (Jvm.Cond.instanceMethod ({ cls := "HintTeam", name := "over", desc := "()I" } : Jvm.MethodName)) ∈ lw_all := lw_g (lw_at lw_m9 32 rfl) rfl
theorem q2101 : (Jvm.Cond.selects "HintTeam" ({ cls := "HintTeam", name := "over", desc := "()I" } : Jvm.MethodName) ({ cls := "HintTeam", name := "over", desc := "()I" } : Jvm.MethodName)) ∈ lw_all := lw_g (lw_at lw_m9 33 rfl) rfl
theorem q2102 : (Jvm.Cond.code ({ cls := "HintTeam", name := "over", desc := "()I" } : Jvm.MethodName) prog_1_method_26_code (1 : Nat) (Option.some Jvm.ClassFile.FieldType.int)) ∈ lw_all := lw_g (lw_at lw_m9 34 rfl) rfl
theorem q2104 : (Jvm.Cond.instanceMethod ({ cls := "HintTeam", name := "drawn", desc := "(I)I" } : Jvm.MethodName)) ∈ lw_all := lw_g (lw_at lw_m9 36 rfl) rfl
theorem q2105 : (Jvm.Cond.selects "HintTeam" ({ cls := "HintTeam", name := "drawn", desc := "(I)I" } : Jvm.MethodName) ({ cls := "HintTeam", name := "drawn", desc := "(I)I" } : Jvm.MethodName)) ∈ lw_all := lw_g (lw_at lw_m9 37 rfl) rfl
theorem q2106 : (Jvm.Cond.code ({ cls := "HintTeam", name := "drawn", desc := "(I)I" } : Jvm.MethodName) prog_1_method_30_code (2 : Nat) (Option.some Jvm.ClassFile.FieldType.int)) ∈ lw_all := lw_g (lw_at lw_m9 38 rfl) rfl
theorem q2107 : (Jvm.Cond.methodLink "HintTeam" (263 : Nat) ({ cls := "HintTeam", name := "inRange", desc := "(JJJ)Z" } : Jvm.MethodName)) ∈ lw_all := lw_g (lw_at lw_m9 39 rfl) rfl
theorem q2108 : (Jvm.Cond.interfaceEntry "HintTeam" (149 : Nat)) ∈ lw_tbl := lw_at lw_m9 40 rfl
theorem q2109 : (Jvm.Cond.methodLink "HintTeam" (149 : Nat) ({ cls := "java/util/List", name := "get", desc := "(I)Ljava/lang/Object;" } : Jvm.MethodName)) ∈ lw_all := lw_g (lw_at lw_m9 41 rfl) rfl
theorem q2110 : (Jvm.Cond.classLink "HintTeam" (314 : Nat) "HintTeam$Card") ∈ lw_all := lw_g (lw_at lw_m9 42 rfl) rfl
theorem q2111 : (Jvm.Cond.methodLink "HintTeam" (313 : Nat) ({ cls := "HintTeam$Card", name := "told", desc := "()I" } : Jvm.MethodName)) ∈ lw_all := lw_g (lw_at lw_m9 43 rfl) rfl
theorem q2113 : (Jvm.Cond.instanceMethod ({ cls := "HintTeam", name := "pass", desc := "()I" } : Jvm.MethodName)) ∈ lw_all := lw_g (lw_at lw_m9 45 rfl) rfl
theorem q2114 : (Jvm.Cond.selects "HintTeam" ({ cls := "HintTeam", name := "pass", desc := "()I" } : Jvm.MethodName) ({ cls := "HintTeam", name := "pass", desc := "()I" } : Jvm.MethodName)) ∈ lw_all := lw_g (lw_at lw_m9 46 rfl) rfl
theorem q2115 : (Jvm.Cond.code ({ cls := "HintTeam", name := "pass", desc := "()I" } : Jvm.MethodName) prog_1_method_47_code (1 : Nat) (Option.some Jvm.ClassFile.FieldType.int)) ∈ lw_all := lw_g (lw_at lw_m9 47 rfl) rfl
theorem q2116 : (Jvm.Cond.methodLink "HintTeam" (200 : Nat) ({ cls := "HintTeam$Table", name := "own", desc := "()Ljava/util/LinkedList;" } : Jvm.MethodName)) ∈ lw_all := lw_g (lw_at lw_m9 48 rfl) rfl
theorem q2120 : (Jvm.Cond.methodLink "HintTeam" (229 : Nat) ({ cls := "java/util/LinkedList", name := "isEmpty", desc := "()Z" } : Jvm.MethodName)) ∈ lw_all := lw_g (lw_at lw_m9 52 rfl) rfl
theorem q2132 : (Jvm.Cond.methodLink "HintTeam" (354 : Nat) ({ cls := "HintTeam", name := "act", desc := "()V" } : Jvm.MethodName)) ∈ lw_all := lw_g (lw_at lw_m9 64 rfl) rfl
theorem q2133 : (Jvm.Cond.privateMethod ({ cls := "HintTeam", name := "act", desc := "()V" } : Jvm.MethodName)) ∈ lw_tbl := lw_at lw_m9 65 rfl
theorem q2134 : (Jvm.Cond.instanceMethod ({ cls := "HintTeam", name := "act", desc := "()V" } : Jvm.MethodName)) ∈ lw_all := lw_g (lw_at lw_m9 66 rfl) rfl
theorem q2135 : (Jvm.Cond.code ({ cls := "HintTeam", name := "act", desc := "()V" } : Jvm.MethodName) prog_1_method_6_code (2 : Nat) (Option.none : Option Jvm.ClassFile.FieldType)) ∈ lw_all := lw_g (lw_at lw_m9 67 rfl) rfl
theorem q2136 : (Jvm.Cond.methodLink "HintTeam" (78 : Nat) ({ cls := "java/util/ArrayDeque", name := "size", desc := "()I" } : Jvm.MethodName)) ∈ lw_all := lw_g (lw_at lw_m9 68 rfl) rfl
theorem q2137 : (Jvm.Cond.methodLink "HintTeam" (82 : Nat) ({ cls := "java/util/ArrayDeque", name := "removeFirst", desc := "()Ljava/lang/Object;" } : Jvm.MethodName)) ∈ lw_all := lw_g (lw_at lw_m9 69 rfl) rfl
theorem q2151 : (Jvm.Cond.methodLink "HintTeam" (86 : Nat) ({ cls := "HintTeam$Table", name := "copy", desc := "()LHintTeam$Table;" } : Jvm.MethodName)) ∈ lw_all := lw_g (lw_at lw_m9 83 rfl) rfl
theorem q2173 : (Jvm.Cond.methodLink "HintTeam" (90 : Nat) ({ cls := "java/util/ArrayDeque", name := "addLast", desc := "(Ljava/lang/Object;)V" } : Jvm.MethodName)) ∈ lw_all := lw_g (lw_at lw_m9 105 rfl) rfl
theorem q2188 : (Jvm.Cond.methodLink "HintTeam" (369 : Nat) ({ cls := "HintTeam$Table", name := "pass", desc := "()V" } : Jvm.MethodName)) ∈ lw_all := lw_g (lw_at lw_m9 120 rfl) rfl
theorem q2204 : (Jvm.Cond.methodLink "HintTeam" (372 : Nat) ({ cls := "HintTeam", name := "turnOf", desc := "()I" } : Jvm.MethodName)) ∈ lw_all := lw_g (lw_at lw_m9 136 rfl) rfl
theorem q2206 : (Jvm.Cond.instanceMethod ({ cls := "HintTeam", name := "foreseen", desc := "()I" } : Jvm.MethodName)) ∈ lw_all := lw_g (lw_at lw_m9 138 rfl) rfl
theorem q2207 : (Jvm.Cond.selects "HintTeam" ({ cls := "HintTeam", name := "foreseen", desc := "()I" } : Jvm.MethodName) ({ cls := "HintTeam", name := "foreseen", desc := "()I" } : Jvm.MethodName)) ∈ lw_all := lw_g (lw_at lw_m9 139 rfl) rfl
theorem q2208 : (Jvm.Cond.codeWith ({ cls := "HintTeam", name := "foreseen", desc := "()I" } : Jvm.MethodName) prog_1_method_50_code (4 : Nat) (Option.some Jvm.ClassFile.FieldType.int) [((5 : Nat), (50 : Nat), (57 : Nat), (0 : Nat))]) ∈ lw_all := lw_g (lw_at lw_m9 140 rfl) rfl
theorem q2209 : (Jvm.Cond.methodLink "HintTeam" (375 : Nat) ({ cls := "HintTeam", name := "advised", desc := "()LHintTeam$Move;" } : Jvm.MethodName)) ∈ lw_all := lw_g (lw_at lw_m9 141 rfl) rfl
theorem q2210 : (Jvm.Cond.privateMethod ({ cls := "HintTeam", name := "advised", desc := "()LHintTeam$Move;" } : Jvm.MethodName)) ∈ lw_tbl := lw_at lw_m9 142 rfl
theorem q2211 : (Jvm.Cond.instanceMethod ({ cls := "HintTeam", name := "advised", desc := "()LHintTeam$Move;" } : Jvm.MethodName)) ∈ lw_all := lw_g (lw_at lw_m9 143 rfl) rfl
theorem q2212 : (Jvm.Cond.code ({ cls := "HintTeam", name := "advised", desc := "()LHintTeam$Move;" } : Jvm.MethodName) prog_1_method_15_code (4 : Nat) (Option.some (Jvm.ClassFile.FieldType.object "HintTeam$Move"))) ∈ lw_all := lw_g (lw_at lw_m9 144 rfl) rfl
theorem q2213 : (Jvm.Cond.methodLink "HintTeam" (211 : Nat) ({ cls := "HintTeam", name := "placeKnown", desc := "(I)I" } : Jvm.MethodName)) ∈ lw_all := lw_g (lw_at lw_m9 145 rfl) rfl
theorem q2214 : (Jvm.Cond.privateMethod ({ cls := "HintTeam", name := "placeKnown", desc := "(I)I" } : Jvm.MethodName)) ∈ lw_tbl := lw_at lw_m9 146 rfl
theorem q2215 : (Jvm.Cond.instanceMethod ({ cls := "HintTeam", name := "placeKnown", desc := "(I)I" } : Jvm.MethodName)) ∈ lw_all := lw_g (lw_at lw_m9 147 rfl) rfl
theorem q2216 : (Jvm.Cond.code ({ cls := "HintTeam", name := "placeKnown", desc := "(I)I" } : Jvm.MethodName) prog_1_method_13_code (3 : Nat) (Option.some Jvm.ClassFile.FieldType.int)) ∈ lw_all := lw_g (lw_at lw_m9 148 rfl) rfl
theorem q2217 : (Jvm.Cond.methodLink "HintTeam" (157 : Nat) ({ cls := "java/util/LinkedList", name := "size", desc := "()I" } : Jvm.MethodName)) ∈ lw_all := lw_g (lw_at lw_m9 149 rfl) rfl
theorem q2218 : (Jvm.Cond.methodLink "HintTeam" (158 : Nat) ({ cls := "java/util/LinkedList", name := "get", desc := "(I)Ljava/lang/Object;" } : Jvm.MethodName)) ∈ lw_all := lw_g (lw_at lw_m9 150 rfl) rfl
theorem q2219 : (Jvm.Cond.classLink "HintTeam" (138 : Nat) "HintTeam$Held") ∈ lw_all := lw_g (lw_at lw_m9 151 rfl) rfl
theorem q2220 : (Jvm.Cond.methodLink "HintTeam" (159 : Nat) ({ cls := "HintTeam", name := "knownOf", desc := "(ILHintTeam$Held;)I" } : Jvm.MethodName)) ∈ lw_all := lw_g (lw_at lw_m9 152 rfl) rfl
theorem q2221 : (Jvm.Cond.privateMethod ({ cls := "HintTeam", name := "knownOf", desc := "(ILHintTeam$Held;)I" } : Jvm.MethodName)) ∈ lw_tbl := lw_at lw_m9 153 rfl
theorem q2222 : (Jvm.Cond.instanceMethod ({ cls := "HintTeam", name := "knownOf", desc := "(ILHintTeam$Held;)I" } : Jvm.MethodName)) ∈ lw_all := lw_g (lw_at lw_m9 154 rfl) rfl
theorem q2223 : (Jvm.Cond.code ({ cls := "HintTeam", name := "knownOf", desc := "(ILHintTeam$Held;)I" } : Jvm.MethodName) prog_1_method_9_code (3 : Nat) (Option.some Jvm.ClassFile.FieldType.int)) ∈ lw_all := lw_g (lw_at lw_m9 155 rfl) rfl
theorem q2224 : (Jvm.Cond.methodLink "HintTeam" (141 : Nat) ({ cls := "HintTeam", name := "knownBy", desc := "(III)I" } : Jvm.MethodName)) ∈ lw_all := lw_g (lw_at lw_m9 156 rfl) rfl
theorem q2225 : (Jvm.Cond.privateMethod ({ cls := "HintTeam", name := "knownBy", desc := "(III)I" } : Jvm.MethodName)) ∈ lw_tbl := lw_at lw_m9 157 rfl
theorem q2226 : (Jvm.Cond.instanceMethod ({ cls := "HintTeam", name := "knownBy", desc := "(III)I" } : Jvm.MethodName)) ∈ lw_all := lw_g (lw_at lw_m9 158 rfl) rfl
theorem q2227 : (Jvm.Cond.code ({ cls := "HintTeam", name := "knownBy", desc := "(III)I" } : Jvm.MethodName) prog_1_method_8_code (8 : Nat) (Option.some Jvm.ClassFile.FieldType.int)) ∈ lw_all := lw_g (lw_at lw_m9 159 rfl) rfl
theorem q2228 : (Jvm.Cond.methodLink "HintTeam" (118 : Nat) ({ cls := "HintTeam", name := "thoughts", desc := "(III)Ljava/util/BitSet;" } : Jvm.MethodName)) ∈ lw_all := lw_g (lw_at lw_m9 160 rfl) rfl
theorem q2229 : (Jvm.Cond.privateMethod ({ cls := "HintTeam", name := "thoughts", desc := "(III)Ljava/util/BitSet;" } : Jvm.MethodName)) ∈ lw_tbl := lw_at lw_m9 161 rfl
theorem q2230 : (Jvm.Cond.instanceMethod ({ cls := "HintTeam", name := "thoughts", desc := "(III)Ljava/util/BitSet;" } : Jvm.MethodName)) ∈ lw_all := lw_g (lw_at lw_m9 162 rfl) rfl
theorem q2231 : (Jvm.Cond.code ({ cls := "HintTeam", name := "thoughts", desc := "(III)Ljava/util/BitSet;" } : Jvm.MethodName) prog_1_method_7_code (6 : Nat) (Option.some (Jvm.ClassFile.FieldType.object "java/util/BitSet"))) ∈ lw_all := lw_g (lw_at lw_m9 163 rfl) rfl
theorem q2232 : (Jvm.Cond.methodLink "HintTeam" (94 : Nat) ({ cls := "java/util/BitSet", name := "clear", desc := "()V" } : Jvm.MethodName)) ∈ lw_all := lw_g (lw_at lw_m9 164 rfl) rfl
theorem q2236 : (Jvm.Cond.methodLink "HintTeam" (107 : Nat) ({ cls := "HintTeam", name := "has", desc := "(JI)Z" } : Jvm.MethodName)) ∈ lw_all := lw_g (lw_at lw_m9 168 rfl) rfl
theorem q2237 : (Jvm.Cond.static ({ cls := "HintTeam", name := "has", desc := "(JI)Z" } : Jvm.MethodName)) ∈ lw_all := lw_g (lw_at lw_m9 169 rfl) rfl
theorem q2238 : (Jvm.Cond.code ({ cls := "HintTeam", name := "has", desc := "(JI)Z" } : Jvm.MethodName) prog_1_method_3_code (3 : Nat) (Option.some Jvm.ClassFile.FieldType.boolean)) ∈ lw_all := lw_g (lw_at lw_m9 170 rfl) rfl
theorem q2239 : (Jvm.Cond.methodLink "HintTeam" (111 : Nat) ({ cls := "HintTeam$Table", name := "canBe", desc := "(III)Z" } : Jvm.MethodName)) ∈ lw_all := lw_g (lw_at lw_m9 171 rfl) rfl
theorem q2253 : (Jvm.Cond.methodLink "HintTeam" (115 : Nat) ({ cls := "java/util/BitSet", name := "set", desc := "(I)V" } : Jvm.MethodName)) ∈ lw_all := lw_g (lw_at lw_m9 185 rfl) rfl
theorem q2288 : (Jvm.Cond.methodLink "HintTeam" (122 : Nat) ({ cls := "java/util/BitSet", name := "isEmpty", desc := "()Z" } : Jvm.MethodName)) ∈ lw_all := lw_g (lw_at lw_m9 220 rfl) rfl
theorem q2292 : (Jvm.Cond.methodLink "HintTeam" (126 : Nat) ({ cls := "java/util/BitSet", name := "nextSetBit", desc := "(I)I" } : Jvm.MethodName)) ∈ lw_all := lw_g (lw_at lw_m9 224 rfl) rfl
theorem q2299 : (Jvm.Cond.methodLink "HintTeam" (130 : Nat) ({ cls := "HintTeam$Table", name := "canPlay", desc := "(II)Z" } : Jvm.MethodName)) ∈ lw_all := lw_g (lw_at lw_m9 231 rfl) rfl
theorem q2303 : (Jvm.Cond.methodLink "HintTeam" (134 : Nat) ({ cls := "HintTeam$Table", name := "isUseless", desc := "(II)Z" } : Jvm.MethodName)) ∈ lw_all := lw_g (lw_at lw_m9 235 rfl) rfl
theorem q2315 : (Jvm.Cond.methodLink "HintTeam" (214 : Nat) ({ cls := "HintTeam", name := "ofCard", desc := "(II)LHintTeam$Move;" } : Jvm.MethodName)) ∈ lw_all := lw_g (lw_at lw_m10 7 rfl) rfl
theorem q2316 : (Jvm.Cond.privateMethod ({ cls := "HintTeam", name := "ofCard", desc := "(II)LHintTeam$Move;" } : Jvm.MethodName)) ∈ lw_tbl := lw_at lw_m10 8 rfl
theorem q2317 : (Jvm.Cond.instanceMethod ({ cls := "HintTeam", name := "ofCard", desc := "(II)LHintTeam$Move;" } : Jvm.MethodName)) ∈ lw_all := lw_g (lw_at lw_m10 9 rfl) rfl
theorem q2318 : (Jvm.Cond.code ({ cls := "HintTeam", name := "ofCard", desc := "(II)LHintTeam$Move;" } : Jvm.MethodName) prog_1_method_11_code (3 : Nat) (Option.some (Jvm.ClassFile.FieldType.object "HintTeam$Move"))) ∈ lw_all := lw_g (lw_at lw_m10 10 rfl) rfl
theorem q2319 : (Jvm.Cond.classLink "HintTeam" (170 : Nat) "HintTeam$1") ∈ lw_all := lw_g (lw_at lw_m10 11 rfl) rfl
theorem q2321 : (Jvm.Cond.methodLink "HintTeam" (172 : Nat) ({ cls := "HintTeam$1", name := "<init>", desc := "(LHintTeam;II)V" } : Jvm.MethodName)) ∈ lw_all := lw_g (lw_at lw_m10 13 rfl) rfl
theorem q2336 : (Jvm.Cond.methodLink "HintTeam" (218 : Nat) ({ cls := "HintTeam", name := "bestHint", desc := "()LHintTeam$Move;" } : Jvm.MethodName)) ∈ lw_all := lw_g (lw_at lw_m10 28 rfl) rfl
theorem q2337 : (Jvm.Cond.privateMethod ({ cls := "HintTeam", name := "bestHint", desc := "()LHintTeam$Move;" } : Jvm.MethodName)) ∈ lw_tbl := lw_at lw_m10 29 rfl
theorem q2338 : (Jvm.Cond.instanceMethod ({ cls := "HintTeam", name := "bestHint", desc := "()LHintTeam$Move;" } : Jvm.MethodName)) ∈ lw_all := lw_g (lw_at lw_m10 30 rfl) rfl
theorem q2339 : (Jvm.Cond.code ({ cls := "HintTeam", name := "bestHint", desc := "()LHintTeam$Move;" } : Jvm.MethodName) prog_1_method_12_code (6 : Nat) (Option.some (Jvm.ClassFile.FieldType.object "HintTeam$Move"))) ∈ lw_all := lw_g (lw_at lw_m10 31 rfl) rfl
theorem q2340 : (Jvm.Cond.classLink "HintTeam" (175 : Nat) "HintTeam$Hints") ∈ lw_all := lw_g (lw_at lw_m10 32 rfl) rfl
theorem q2341 : (Jvm.Cond.methodLink "HintTeam" (177 : Nat) ({ cls := "HintTeam$Hints", name := "<init>", desc := "(LHintTeam;)V" } : Jvm.MethodName)) ∈ lw_all := lw_g (lw_at lw_m10 33 rfl) rfl
theorem q2358 : (Jvm.Cond.interfaceEntry "HintTeam" (178 : Nat)) ∈ lw_tbl := lw_at lw_m10 50 rfl
theorem q2359 : (Jvm.Cond.methodLink "HintTeam" (178 : Nat) ({ cls := "java/util/Iterator", name := "hasNext", desc := "()Z" } : Jvm.MethodName)) ∈ lw_all := lw_g (lw_at lw_m10 51 rfl) rfl
theorem q2360 : (Jvm.Cond.interfaceEntry "HintTeam" (183 : Nat)) ∈ lw_tbl := lw_at lw_m10 52 rfl
theorem q2361 : (Jvm.Cond.methodLink "HintTeam" (183 : Nat) ({ cls := "java/util/Iterator", name := "next", desc := "()Ljava/lang/Object;" } : Jvm.MethodName)) ∈ lw_all := lw_g (lw_at lw_m10 53 rfl) rfl
theorem q2362 : (Jvm.Cond.classLink "HintTeam" (186 : Nat) "HintTeam$Hint") ∈ lw_all := lw_g (lw_at lw_m10 54 rfl) rfl
theorem q2363 : (Jvm.Cond.methodLink "HintTeam" (197 : Nat) ({ cls := "HintTeam", name := "toldBy", desc := "(III)I" } : Jvm.MethodName)) ∈ lw_all := lw_g (lw_at lw_m10 55 rfl) rfl
theorem q2364 : (Jvm.Cond.privateMethod ({ cls := "HintTeam", name := "toldBy", desc := "(III)I" } : Jvm.MethodName)) ∈ lw_tbl := lw_at lw_m10 56 rfl
theorem q2365 : (Jvm.Cond.instanceMethod ({ cls := "HintTeam", name := "toldBy", desc := "(III)I" } : Jvm.MethodName)) ∈ lw_all := lw_g (lw_at lw_m10 57 rfl) rfl
theorem q2366 : (Jvm.Cond.code ({ cls := "HintTeam", name := "toldBy", desc := "(III)I" } : Jvm.MethodName) prog_1_method_10_code (7 : Nat) (Option.some Jvm.ClassFile.FieldType.int)) ∈ lw_all := lw_g (lw_at lw_m10 58 rfl) rfl
theorem q2367 : (Jvm.Cond.classLink "HintTeam" (155 : Nat) "java/util/LinkedList") ∈ lw_all := lw_g (lw_at lw_m10 59 rfl) rfl
theorem q2368 : (Jvm.Cond.methodLink "HintTeam" (163 : Nat) ({ cls := "HintTeam$Held", name := "colorsBy", desc := "(II)I" } : Jvm.MethodName)) ∈ lw_all := lw_g (lw_at lw_m10 60 rfl) rfl
theorem q2372 : (Jvm.Cond.methodLink "HintTeam" (167 : Nat) ({ cls := "HintTeam$Held", name := "ranksBy", desc := "(II)I" } : Jvm.MethodName)) ∈ lw_all := lw_g (lw_at lw_m10 64 rfl) rfl
theorem q2376 : (Jvm.Cond.methodLink "HintTeam" (222 : Nat) ({ cls := "HintTeam", name := "placeUntouched", desc := "()I" } : Jvm.MethodName)) ∈ lw_all := lw_g (lw_at lw_m10 68 rfl) rfl
theorem q2377 : (Jvm.Cond.privateMethod ({ cls := "HintTeam", name := "placeUntouched", desc := "()I" } : Jvm.MethodName)) ∈ lw_tbl := lw_at lw_m10 69 rfl
theorem q2378 : (Jvm.Cond.instanceMethod ({ cls := "HintTeam", name := "placeUntouched", desc := "()I" } : Jvm.MethodName)) ∈ lw_all := lw_g (lw_at lw_m10 70 rfl) rfl
theorem q2379 : (Jvm.Cond.code ({ cls := "HintTeam", name := "placeUntouched", desc := "()I" } : Jvm.MethodName) prog_1_method_14_code (2 : Nat) (Option.some Jvm.ClassFile.FieldType.int)) ∈ lw_all := lw_g (lw_at lw_m10 71 rfl) rfl
theorem q2380 : (Jvm.Cond.methodLink "HintTeam" (225 : Nat) ({ cls := "HintTeam$Hints", name := "hasNext", desc := "()Z" } : Jvm.MethodName)) ∈ lw_all := lw_g (lw_at lw_m10 72 rfl) rfl
theorem q2381 : (Jvm.Cond.methodLink "HintTeam" (226 : Nat) ({ cls := "HintTeam$Hints", name := "next", desc := "()LHintTeam$Hint;" } : Jvm.MethodName)) ∈ lw_all := lw_g (lw_at lw_m10 73 rfl) rfl
theorem q2382 : (Jvm.Cond.methodLink "HintTeam" (387 : Nat) ({ cls := "HintTeam$Move", name := "run", desc := "()V" } : Jvm.MethodName)) ∈ lw_all := lw_g (lw_at lw_m10 74 rfl) rfl
theorem q2444 : (Jvm.Cond.methodLink "HintTeam" (289 : Nat) ({ cls := "HintTeam$Table", name := "score", desc := "()I" } : Jvm.MethodName)) ∈ lw_all := lw_g (lw_at lw_m10 136 rfl) rfl
theorem q2449 : (Jvm.Cond.instanceMethod ({ cls := "HintTeam", name := "undo", desc := "()I" } : Jvm.MethodName)) ∈ lw_all := lw_g (lw_at lw_m10 141 rfl) rfl
theorem q2450 : (Jvm.Cond.selects "HintTeam" ({ cls := "HintTeam", name := "undo", desc := "()I" } : Jvm.MethodName) ({ cls := "HintTeam", name := "undo", desc := "()I" } : Jvm.MethodName)) ∈ lw_all := lw_g (lw_at lw_m10 142 rfl) rfl
theorem q2451 : (Jvm.Cond.code ({ cls := "HintTeam", name := "undo", desc := "()I" } : Jvm.MethodName) prog_1_method_51_code (1 : Nat) (Option.some Jvm.ClassFile.FieldType.int)) ∈ lw_all := lw_g (lw_at lw_m10 143 rfl) rfl
theorem q2452 : (Jvm.Cond.methodLink "HintTeam" (390 : Nat) ({ cls := "java/util/ArrayDeque", name := "isEmpty", desc := "()Z" } : Jvm.MethodName)) ∈ lw_all := lw_g (lw_at lw_m10 144 rfl) rfl
theorem q2456 : (Jvm.Cond.methodLink "HintTeam" (391 : Nat) ({ cls := "java/util/ArrayDeque", name := "removeLast", desc := "()Ljava/lang/Object;" } : Jvm.MethodName)) ∈ lw_all := lw_g (lw_at lw_m10 148 rfl) rfl
theorem q2468 : (Jvm.Cond.instanceMethod ({ cls := "HintTeam", name := "bound", desc := "()I" } : Jvm.MethodName)) ∈ lw_all := lw_g (lw_at lw_m10 160 rfl) rfl
theorem q2469 : (Jvm.Cond.selects "HintTeam" ({ cls := "HintTeam", name := "bound", desc := "()I" } : Jvm.MethodName) ({ cls := "HintTeam", name := "bound", desc := "()I" } : Jvm.MethodName)) ∈ lw_all := lw_g (lw_at lw_m10 161 rfl) rfl
theorem q2470 : (Jvm.Cond.code ({ cls := "HintTeam", name := "bound", desc := "()I" } : Jvm.MethodName) prog_1_method_53_code (1 : Nat) (Option.some Jvm.ClassFile.FieldType.int)) ∈ lw_all := lw_g (lw_at lw_m10 162 rfl) rfl
theorem q2471 : (Jvm.Cond.methodLink "HintTeam" (397 : Nat) ({ cls := "HintTeam", name := "boundNow", desc := "()I" } : Jvm.MethodName)) ∈ lw_all := lw_g (lw_at lw_m10 163 rfl) rfl
theorem q2472 : (Jvm.Cond.privateMethod ({ cls := "HintTeam", name := "boundNow", desc := "()I" } : Jvm.MethodName)) ∈ lw_tbl := lw_at lw_m10 164 rfl
theorem q2473 : (Jvm.Cond.instanceMethod ({ cls := "HintTeam", name := "boundNow", desc := "()I" } : Jvm.MethodName)) ∈ lw_all := lw_g (lw_at lw_m10 165 rfl) rfl
theorem q2474 : (Jvm.Cond.code ({ cls := "HintTeam", name := "boundNow", desc := "()I" } : Jvm.MethodName) prog_1_method_52_code (3 : Nat) (Option.some Jvm.ClassFile.FieldType.int)) ∈ lw_all := lw_g (lw_at lw_m10 166 rfl) rfl
theorem q2475 : (Jvm.Cond.methodLink "HintTeam" (394 : Nat) ({ cls := "HintTeam$Table", name := "reach", desc := "(I)I" } : Jvm.MethodName)) ∈ lw_all := lw_g (lw_at lw_m10 167 rfl) rfl
theorem q2477 : (Jvm.Cond.instanceMethod ({ cls := "HintTeam", name := "pace", desc := "()I" } : Jvm.MethodName)) ∈ lw_all := lw_g (lw_at lw_m10 169 rfl) rfl
theorem q2478 : (Jvm.Cond.selects "HintTeam" ({ cls := "HintTeam", name := "pace", desc := "()I" } : Jvm.MethodName) ({ cls := "HintTeam", name := "pace", desc := "()I" } : Jvm.MethodName)) ∈ lw_all := lw_g (lw_at lw_m10 170 rfl) rfl
theorem q2479 : (Jvm.Cond.code ({ cls := "HintTeam", name := "pace", desc := "()I" } : Jvm.MethodName) prog_1_method_54_code (1 : Nat) (Option.some Jvm.ClassFile.FieldType.int)) ∈ lw_all := lw_g (lw_at lw_m10 171 rfl) rfl
theorem q2481 : (Jvm.Cond.instanceMethod ({ cls := "HintTeam", name := "value", desc := "()I" } : Jvm.MethodName)) ∈ lw_all := lw_g (lw_at lw_m10 173 rfl) rfl
theorem q2482 : (Jvm.Cond.selects "HintTeam" ({ cls := "HintTeam", name := "value", desc := "()I" } : Jvm.MethodName) ({ cls := "HintTeam", name := "value", desc := "()I" } : Jvm.MethodName)) ∈ lw_all := lw_g (lw_at lw_m10 174 rfl) rfl
theorem q2483 : (Jvm.Cond.code ({ cls := "HintTeam", name := "value", desc := "()I" } : Jvm.MethodName) prog_1_method_56_code (1 : Nat) (Option.some Jvm.ClassFile.FieldType.int)) ∈ lw_all := lw_g (lw_at lw_m10 175 rfl) rfl
theorem q2484 : (Jvm.Cond.methodLink "HintTeam" (406 : Nat) ({ cls := "HintTeam", name := "valueNow", desc := "()I" } : Jvm.MethodName)) ∈ lw_all := lw_g (lw_at lw_m10 176 rfl) rfl
theorem q2485 : (Jvm.Cond.privateMethod ({ cls := "HintTeam", name := "valueNow", desc := "()I" } : Jvm.MethodName)) ∈ lw_tbl := lw_at lw_m10 177 rfl
theorem q2486 : (Jvm.Cond.instanceMethod ({ cls := "HintTeam", name := "valueNow", desc := "()I" } : Jvm.MethodName)) ∈ lw_all := lw_g (lw_at lw_m10 178 rfl) rfl
theorem q2487 : (Jvm.Cond.code ({ cls := "HintTeam", name := "valueNow", desc := "()I" } : Jvm.MethodName) prog_1_method_55_code (1 : Nat) (Option.some Jvm.ClassFile.FieldType.int)) ∈ lw_all := lw_g (lw_at lw_m10 179 rfl) rfl
theorem q2488 : (Jvm.Cond.methodLink "HintTeam" (400 : Nat) ({ cls := "HintTeam$Explorer", name := "told", desc := "()J" } : Jvm.MethodName)) ∈ lw_all := lw_g (lw_at lw_m10 180 rfl) rfl
theorem q2504 : (Jvm.Cond.methodLink "HintTeam" (403 : Nat) ({ cls := "HintTeam$Explorer", name := "value", desc := "(J)I" } : Jvm.MethodName)) ∈ lw_all := lw_g (lw_at lw_m10 196 rfl) rfl
theorem q2576 : (Jvm.Cond.instanceMethod ({ cls := "HintTeam", name := "positions", desc := "()I" } : Jvm.MethodName)) ∈ lw_all := lw_g (lw_at lw_m11 28 rfl) rfl
theorem q2577 : (Jvm.Cond.selects "HintTeam" ({ cls := "HintTeam", name := "positions", desc := "()I" } : Jvm.MethodName) ({ cls := "HintTeam", name := "positions", desc := "()I" } : Jvm.MethodName)) ∈ lw_all := lw_g (lw_at lw_m11 29 rfl) rfl
theorem q2578 : (Jvm.Cond.code ({ cls := "HintTeam", name := "positions", desc := "()I" } : Jvm.MethodName) prog_1_method_57_code (1 : Nat) (Option.some Jvm.ClassFile.FieldType.int)) ∈ lw_all := lw_g (lw_at lw_m11 30 rfl) rfl
theorem q2579 : (Jvm.Cond.methodLink "HintTeam" (409 : Nat) ({ cls := "HintTeam$Explorer", name := "from", desc := "(J)I" } : Jvm.MethodName)) ∈ lw_all := lw_g (lw_at lw_m11 31 rfl) rfl
theorem q2581 : (Jvm.Cond.instanceMethod ({ cls := "HintTeam", name := "outputByte", desc := "(I)I" } : Jvm.MethodName)) ∈ lw_all := lw_g (lw_at lw_m11 33 rfl) rfl
theorem q2582 : (Jvm.Cond.selects "HintTeam" ({ cls := "HintTeam", name := "outputByte", desc := "(I)I" } : Jvm.MethodName) ({ cls := "HintTeam", name := "outputByte", desc := "(I)I" } : Jvm.MethodName)) ∈ lw_all := lw_g (lw_at lw_m11 34 rfl) rfl
theorem q2583 : (Jvm.Cond.code ({ cls := "HintTeam", name := "outputByte", desc := "(I)I" } : Jvm.MethodName) prog_1_method_65_code (2 : Nat) (Option.some Jvm.ClassFile.FieldType.int)) ∈ lw_all := lw_g (lw_at lw_m11 35 rfl) rfl
theorem q2584 : (Jvm.Cond.methodLink "HintTeam" (448 : Nat) ({ cls := "java/lang/StringBuilder", name := "length", desc := "()I" } : Jvm.MethodName)) ∈ lw_all := lw_g (lw_at lw_m11 36 rfl) rfl
theorem q2585 : (Jvm.Cond.methodLink "HintTeam" (461 : Nat) ({ cls := "java/lang/StringBuilder", name := "charAt", desc := "(I)C" } : Jvm.MethodName)) ∈ lw_all := lw_g (lw_at lw_m11 37 rfl) rfl
theorem q2600 : (Jvm.Cond.instanceMethod ({ cls := "HintTeam", name := "count", desc := "(I)I" } : Jvm.MethodName)) ∈ lw_all := lw_g (lw_at lw_m11 52 rfl) rfl
theorem q2601 : (Jvm.Cond.selects "HintTeam" ({ cls := "HintTeam", name := "count", desc := "(I)I" } : Jvm.MethodName) ({ cls := "HintTeam", name := "count", desc := "(I)I" } : Jvm.MethodName)) ∈ lw_all := lw_g (lw_at lw_m11 53 rfl) rfl
theorem q2602 : (Jvm.Cond.code ({ cls := "HintTeam", name := "count", desc := "(I)I" } : Jvm.MethodName) prog_1_method_24_code (2 : Nat) (Option.some Jvm.ClassFile.FieldType.int)) ∈ lw_all := lw_g (lw_at lw_m11 54 rfl) rfl
theorem q2603 : (Jvm.Cond.classLink "HintTeam" (75 : Nat) "java/lang/IllegalArgumentException") ∈ lw_all := lw_g (lw_at lw_m11 55 rfl) rfl
theorem q2604 : (Jvm.Cond.methodLink "HintTeam" (77 : Nat) ({ cls := "java/lang/IllegalArgumentException", name := "<init>", desc := "()V" } : Jvm.MethodName)) ∈ lw_all := lw_g (lw_at lw_m11 56 rfl) rfl
theorem q2628 : (Jvm.Cond.instanceMethod ({ cls := "HintTeam", name := "pile", desc := "(I)I" } : Jvm.MethodName)) ∈ lw_all := lw_g (lw_at lw_m11 80 rfl) rfl
theorem q2629 : (Jvm.Cond.selects "HintTeam" ({ cls := "HintTeam", name := "pile", desc := "(I)I" } : Jvm.MethodName) ({ cls := "HintTeam", name := "pile", desc := "(I)I" } : Jvm.MethodName)) ∈ lw_all := lw_g (lw_at lw_m11 81 rfl) rfl
theorem q2630 : (Jvm.Cond.code ({ cls := "HintTeam", name := "pile", desc := "(I)I" } : Jvm.MethodName) prog_1_method_27_code (2 : Nat) (Option.some Jvm.ClassFile.FieldType.int)) ∈ lw_all := lw_g (lw_at lw_m11 82 rfl) rfl
theorem q2631 : (Jvm.Cond.methodLink "HintTeam" (271 : Nat) ({ cls := "HintTeam", name := "requireIndex", desc := "(Z)V" } : Jvm.MethodName)) ∈ lw_all := lw_g (lw_at lw_m11 83 rfl) rfl
theorem q2632 : (Jvm.Cond.static ({ cls := "HintTeam", name := "requireIndex", desc := "(Z)V" } : Jvm.MethodName)) ∈ lw_all := lw_g (lw_at lw_m11 84 rfl) rfl
theorem q2633 : (Jvm.Cond.code ({ cls := "HintTeam", name := "requireIndex", desc := "(Z)V" } : Jvm.MethodName) prog_1_method_4_code (1 : Nat) (Option.none : Option Jvm.ClassFile.FieldType)) ∈ lw_all := lw_g (lw_at lw_m11 85 rfl) rfl
theorem q2634 : (Jvm.Cond.classLink "HintTeam" (72 : Nat) "java/lang/IndexOutOfBoundsException") ∈ lw_all := lw_g (lw_at lw_m11 86 rfl) rfl
theorem q2635 : (Jvm.Cond.methodLink "HintTeam" (74 : Nat) ({ cls := "java/lang/IndexOutOfBoundsException", name := "<init>", desc := "()V" } : Jvm.MethodName)) ∈ lw_all := lw_g (lw_at lw_m11 87 rfl) rfl
theorem q2643 : (Jvm.Cond.instanceMethod ({ cls := "HintTeam", name := "hand", desc := "(I)I" } : Jvm.MethodName)) ∈ lw_all := lw_g (lw_at lw_m11 95 rfl) rfl
theorem q2644 : (Jvm.Cond.selects "HintTeam" ({ cls := "HintTeam", name := "hand", desc := "(I)I" } : Jvm.MethodName) ({ cls := "HintTeam", name := "hand", desc := "(I)I" } : Jvm.MethodName)) ∈ lw_all := lw_g (lw_at lw_m11 96 rfl) rfl
theorem q2645 : (Jvm.Cond.code ({ cls := "HintTeam", name := "hand", desc := "(I)I" } : Jvm.MethodName) prog_1_method_28_code (2 : Nat) (Option.some Jvm.ClassFile.FieldType.int)) ∈ lw_all := lw_g (lw_at lw_m11 97 rfl) rfl
theorem q2646 : (Jvm.Cond.methodLink "HintTeam" (267 : Nat) ({ cls := "HintTeam", name := "isPlayer", desc := "(I)Z" } : Jvm.MethodName)) ∈ lw_all := lw_g (lw_at lw_m11 98 rfl) rfl
theorem q2647 : (Jvm.Cond.privateMethod ({ cls := "HintTeam", name := "isPlayer", desc := "(I)Z" } : Jvm.MethodName)) ∈ lw_tbl := lw_at lw_m11 99 rfl
theorem q2648 : (Jvm.Cond.instanceMethod ({ cls := "HintTeam", name := "isPlayer", desc := "(I)Z" } : Jvm.MethodName)) ∈ lw_all := lw_g (lw_at lw_m11 100 rfl) rfl
theorem q2649 : (Jvm.Cond.code ({ cls := "HintTeam", name := "isPlayer", desc := "(I)Z" } : Jvm.MethodName) prog_1_method_20_code (2 : Nat) (Option.some Jvm.ClassFile.FieldType.boolean)) ∈ lw_all := lw_g (lw_at lw_m11 101 rfl) rfl
theorem q2654 : (Jvm.Cond.instanceMethod ({ cls := "HintTeam", name := "card", desc := "(II)I" } : Jvm.MethodName)) ∈ lw_all := lw_g (lw_at lw_m11 106 rfl) rfl
theorem q2655 : (Jvm.Cond.selects "HintTeam" ({ cls := "HintTeam", name := "card", desc := "(II)I" } : Jvm.MethodName) ({ cls := "HintTeam", name := "card", desc := "(II)I" } : Jvm.MethodName)) ∈ lw_all := lw_g (lw_at lw_m11 107 rfl) rfl
theorem q2656 : (Jvm.Cond.code ({ cls := "HintTeam", name := "card", desc := "(II)I" } : Jvm.MethodName) prog_1_method_29_code (3 : Nat) (Option.some Jvm.ClassFile.FieldType.int)) ∈ lw_all := lw_g (lw_at lw_m11 108 rfl) rfl
theorem q2657 : (Jvm.Cond.methodLink "HintTeam" (305 : Nat) ({ cls := "HintTeam", name := "heldAt", desc := "(II)LHintTeam$Held;" } : Jvm.MethodName)) ∈ lw_all := lw_g (lw_at lw_m11 109 rfl) rfl
theorem q2658 : (Jvm.Cond.privateMethod ({ cls := "HintTeam", name := "heldAt", desc := "(II)LHintTeam$Held;" } : Jvm.MethodName)) ∈ lw_tbl := lw_at lw_m11 110 rfl
theorem q2659 : (Jvm.Cond.instanceMethod ({ cls := "HintTeam", name := "heldAt", desc := "(II)LHintTeam$Held;" } : Jvm.MethodName)) ∈ lw_all := lw_g (lw_at lw_m11 111 rfl) rfl
theorem q2660 : (Jvm.Cond.code ({ cls := "HintTeam", name := "heldAt", desc := "(II)LHintTeam$Held;" } : Jvm.MethodName) prog_1_method_22_code (3 : Nat) (Option.some (Jvm.ClassFile.FieldType.object "HintTeam$Held"))) ∈ lw_all := lw_g (lw_at lw_m11 112 rfl) rfl
theorem q2665 : (Jvm.Cond.instanceMethod ({ cls := "HintTeam", name := "copies", desc := "(III)I" } : Jvm.MethodName)) ∈ lw_all := lw_g (lw_at lw_m11 117 rfl) rfl
theorem q2666 : (Jvm.Cond.selects "HintTeam" ({ cls := "HintTeam", name := "copies", desc := "(III)I" } : Jvm.MethodName) ({ cls := "HintTeam", name := "copies", desc := "(III)I" } : Jvm.MethodName)) ∈ lw_all := lw_g (lw_at lw_m11 118 rfl) rfl
theorem q2667 : (Jvm.Cond.code ({ cls := "HintTeam", name := "copies", desc := "(III)I" } : Jvm.MethodName) prog_1_method_31_code (6 : Nat) (Option.some Jvm.ClassFile.FieldType.int)) ∈ lw_all := lw_g (lw_at lw_m11 119 rfl) rfl
theorem q2668 : (Jvm.Cond.methodLink "HintTeam" (318 : Nat) ({ cls := "HintTeam", name := "isKind", desc := "(II)Z" } : Jvm.MethodName)) ∈ lw_all := lw_g (lw_at lw_m11 120 rfl) rfl
theorem q2669 : (Jvm.Cond.privateMethod ({ cls := "HintTeam", name := "isKind", desc := "(II)Z" } : Jvm.MethodName)) ∈ lw_tbl := lw_at lw_m11 121 rfl
theorem q2670 : (Jvm.Cond.instanceMethod ({ cls := "HintTeam", name := "isKind", desc := "(II)Z" } : Jvm.MethodName)) ∈ lw_all := lw_g (lw_at lw_m11 122 rfl) rfl
theorem q2671 : (Jvm.Cond.code ({ cls := "HintTeam", name := "isKind", desc := "(II)Z" } : Jvm.MethodName) prog_1_method_21_code (3 : Nat) (Option.some Jvm.ClassFile.FieldType.boolean)) ∈ lw_all := lw_g (lw_at lw_m11 123 rfl) rfl
theorem q2672 : (Jvm.Cond.constantLong "HintTeam" (321 : Nat) (3 : Int64)) ∈ lw_all := lw_g (lw_at lw_m11 124 rfl) rfl
theorem q2673 : (Jvm.Cond.methodLink "HintTeam" (323 : Nat) ({ cls := "HintTeam", name := "requireArgument", desc := "(Z)V" } : Jvm.MethodName)) ∈ lw_all := lw_g (lw_at lw_m11 125 rfl) rfl
theorem q2674 : (Jvm.Cond.static ({ cls := "HintTeam", name := "requireArgument", desc := "(Z)V" } : Jvm.MethodName)) ∈ lw_all := lw_g (lw_at lw_m11 126 rfl) rfl
theorem q2675 : (Jvm.Cond.code ({ cls := "HintTeam", name := "requireArgument", desc := "(Z)V" } : Jvm.MethodName) prog_1_method_5_code (1 : Nat) (Option.none : Option Jvm.ClassFile.FieldType)) ∈ lw_all := lw_g (lw_at lw_m11 127 rfl) rfl
theorem q2676 : (Jvm.Cond.methodLink "HintTeam" (326 : Nat) ({ cls := "HintTeam$Rules", name := "copiesOf", desc := "(II)I" } : Jvm.MethodName)) ∈ lw_all := lw_g (lw_at lw_m11 128 rfl) rfl
theorem q2677 : (Jvm.Cond.methodLink "HintTeam" (329 : Nat) ({ cls := "HintTeam$Table", name := "inHands", desc := "(III)I" } : Jvm.MethodName)) ∈ lw_all := lw_g (lw_at lw_m11 129 rfl) rfl
theorem q2682 : (Jvm.Cond.instanceMethod ({ cls := "HintTeam", name := "isUseless", desc := "(II)Z" } : Jvm.MethodName)) ∈ lw_all := lw_g (lw_at lw_m11 134 rfl) rfl
theorem q2683 : (Jvm.Cond.selects "HintTeam" ({ cls := "HintTeam", name := "isUseless", desc := "(II)Z" } : Jvm.MethodName) ({ cls := "HintTeam", name := "isUseless", desc := "(II)Z" } : Jvm.MethodName)) ∈ lw_all := lw_g (lw_at lw_m11 135 rfl) rfl
theorem q2684 : (Jvm.Cond.code ({ cls := "HintTeam", name := "isUseless", desc := "(II)Z" } : Jvm.MethodName) prog_1_method_32_code (3 : Nat) (Option.some Jvm.ClassFile.FieldType.boolean)) ∈ lw_all := lw_g (lw_at lw_m11 136 rfl) rfl
theorem q2689 : (Jvm.Cond.instanceMethod ({ cls := "HintTeam", name := "isCritical", desc := "(II)Z" } : Jvm.MethodName)) ∈ lw_all := lw_g (lw_at lw_m11 141 rfl) rfl
theorem q2690 : (Jvm.Cond.selects "HintTeam" ({ cls := "HintTeam", name := "isCritical", desc := "(II)Z" } : Jvm.MethodName) ({ cls := "HintTeam", name := "isCritical", desc := "(II)Z" } : Jvm.MethodName)) ∈ lw_all := lw_g (lw_at lw_m11 142 rfl) rfl
theorem q2691 : (Jvm.Cond.code ({ cls := "HintTeam", name := "isCritical", desc := "(II)Z" } : Jvm.MethodName) prog_1_method_33_code (3 : Nat) (Option.some Jvm.ClassFile.FieldType.boolean)) ∈ lw_all := lw_g (lw_at lw_m11 143 rfl) rfl
theorem q2692 : (Jvm.Cond.methodLink "HintTeam" (336 : Nat) ({ cls := "HintTeam$Table", name := "isCritical", desc := "(II)Z" } : Jvm.MethodName)) ∈ lw_all := lw_g (lw_at lw_m11 144 rfl) rfl
theorem q2697 : (Jvm.Cond.instanceMethod ({ cls := "HintTeam", name := "colorsOf", desc := "(II)I" } : Jvm.MethodName)) ∈ lw_all := lw_g (lw_at lw_m11 149 rfl) rfl
theorem q2698 : (Jvm.Cond.selects "HintTeam" ({ cls := "HintTeam", name := "colorsOf", desc := "(II)I" } : Jvm.MethodName) ({ cls := "HintTeam", name := "colorsOf", desc := "(II)I" } : Jvm.MethodName)) ∈ lw_all := lw_g (lw_at lw_m11 150 rfl) rfl
theorem q2699 : (Jvm.Cond.code ({ cls := "HintTeam", name := "colorsOf", desc := "(II)I" } : Jvm.MethodName) prog_1_method_34_code (3 : Nat) (Option.some Jvm.ClassFile.FieldType.int)) ∈ lw_all := lw_g (lw_at lw_m11 151 rfl) rfl
theorem q2704 : (Jvm.Cond.instanceMethod ({ cls := "HintTeam", name := "ranksOf", desc := "(II)I" } : Jvm.MethodName)) ∈ lw_all := lw_g (lw_at lw_m11 156 rfl) rfl
theorem q2705 : (Jvm.Cond.selects "HintTeam" ({ cls := "HintTeam", name := "ranksOf", desc := "(II)I" } : Jvm.MethodName) ({ cls := "HintTeam", name := "ranksOf", desc := "(II)I" } : Jvm.MethodName)) ∈ lw_all := lw_g (lw_at lw_m11 157 rfl) rfl
theorem q2706 : (Jvm.Cond.code ({ cls := "HintTeam", name := "ranksOf", desc := "(II)I" } : Jvm.MethodName) prog_1_method_35_code (3 : Nat) (Option.some Jvm.ClassFile.FieldType.int)) ∈ lw_all := lw_g (lw_at lw_m11 158 rfl) rfl
theorem q2711 : (Jvm.Cond.instanceMethod ({ cls := "HintTeam", name := "isTouched", desc := "(II)Z" } : Jvm.MethodName)) ∈ lw_all := lw_g (lw_at lw_m11 163 rfl) rfl
theorem q2712 : (Jvm.Cond.selects "HintTeam" ({ cls := "HintTeam", name := "isTouched", desc := "(II)Z" } : Jvm.MethodName) ({ cls := "HintTeam", name := "isTouched", desc := "(II)Z" } : Jvm.MethodName)) ∈ lw_all := lw_g (lw_at lw_m11 164 rfl) rfl
theorem q2713 : (Jvm.Cond.code ({ cls := "HintTeam", name := "isTouched", desc := "(II)Z" } : Jvm.MethodName) prog_1_method_36_code (3 : Nat) (Option.some Jvm.ClassFile.FieldType.boolean)) ∈ lw_all := lw_g (lw_at lw_m11 165 rfl) rfl
theorem q2718 : (Jvm.Cond.instanceMethod ({ cls := "HintTeam", name := "thinks", desc := "(II)I" } : Jvm.MethodName)) ∈ lw_all := lw_g (lw_at lw_m11 170 rfl) rfl
theorem q2719 : (Jvm.Cond.selects "HintTeam" ({ cls := "HintTeam", name := "thinks", desc := "(II)I" } : Jvm.MethodName) ({ cls := "HintTeam", name := "thinks", desc := "(II)I" } : Jvm.MethodName)) ∈ lw_all := lw_g (lw_at lw_m11 171 rfl) rfl
theorem q2720 : (Jvm.Cond.code ({ cls := "HintTeam", name := "thinks", desc := "(II)I" } : Jvm.MethodName) prog_1_method_37_code (4 : Nat) (Option.some Jvm.ClassFile.FieldType.int)) ∈ lw_all := lw_g (lw_at lw_m11 172 rfl) rfl
theorem q2721 : (Jvm.Cond.methodLink "HintTeam" (339 : Nat) ({ cls := "java/util/BitSet", name := "cardinality", desc := "()I" } : Jvm.MethodName)) ∈ lw_all := lw_g (lw_at lw_m11 173 rfl) rfl
theorem q2735 : (Jvm.Cond.instanceMethod ({ cls := "HintTeam", name := "thought", desc := "(III)I" } : Jvm.MethodName)) ∈ lw_all := lw_g (lw_at lw_m11 187 rfl) rfl
theorem q2736 : (Jvm.Cond.selects "HintTeam" ({ cls := "HintTeam", name := "thought", desc := "(III)I" } : Jvm.MethodName) ({ cls := "HintTeam", name := "thought", desc := "(III)I" } : Jvm.MethodName)) ∈ lw_all := lw_g (lw_at lw_m11 188 rfl) rfl
theorem q2737 : (Jvm.Cond.code ({ cls := "HintTeam", name := "thought", desc := "(III)I" } : Jvm.MethodName) prog_1_method_38_code (8 : Nat) (Option.some Jvm.ClassFile.FieldType.int)) ∈ lw_all := lw_g (lw_at lw_m11 189 rfl) rfl
theorem q2742 : (Jvm.Cond.instanceMethod ({ cls := "HintTeam", name := "knows", desc := "(II)I" } : Jvm.MethodName)) ∈ lw_all := lw_g (lw_at lw_m11 194 rfl) rfl
theorem q2743 : (Jvm.Cond.selects "HintTeam" ({ cls := "HintTeam", name := "knows", desc := "(II)I" } : Jvm.MethodName) ({ cls := "HintTeam", name := "knows", desc := "(II)I" } : Jvm.MethodName)) ∈ lw_all := lw_g (lw_at lw_m11 195 rfl) rfl
theorem q2744 : (Jvm.Cond.code ({ cls := "HintTeam", name := "knows", desc := "(II)I" } : Jvm.MethodName) prog_1_method_39_code (3 : Nat) (Option.some Jvm.ClassFile.FieldType.int)) ∈ lw_all := lw_g (lw_at lw_m11 196 rfl) rfl
theorem q2749 : (Jvm.Cond.instanceMethod ({ cls := "HintTeam", name := "wordsLeft", desc := "(II)I" } : Jvm.MethodName)) ∈ lw_all := lw_g (lw_at lw_m11 201 rfl) rfl
theorem q2750 : (Jvm.Cond.selects "HintTeam" ({ cls := "HintTeam", name := "wordsLeft", desc := "(II)I" } : Jvm.MethodName) ({ cls := "HintTeam", name := "wordsLeft", desc := "(II)I" } : Jvm.MethodName)) ∈ lw_all := lw_g (lw_at lw_m11 202 rfl) rfl
theorem q2751 : (Jvm.Cond.code ({ cls := "HintTeam", name := "wordsLeft", desc := "(II)I" } : Jvm.MethodName) prog_1_method_40_code (3 : Nat) (Option.some Jvm.ClassFile.FieldType.int)) ∈ lw_all := lw_g (lw_at lw_m11 203 rfl) rfl
theorem q2752 : (Jvm.Cond.methodLink "HintTeam" (342 : Nat) ({ cls := "HintTeam$Rules", name := "isWord", desc := "(II)Z" } : Jvm.MethodName)) ∈ lw_all := lw_g (lw_at lw_m11 204 rfl) rfl
theorem q2763 : (Jvm.Cond.instanceMethod ({ cls := "HintTeam", name := "touches", desc := "(III)I" } : Jvm.MethodName)) ∈ lw_all := lw_g (lw_at lw_m11 215 rfl) rfl
theorem q2764 : (Jvm.Cond.selects "HintTeam" ({ cls := "HintTeam", name := "touches", desc := "(III)I" } : Jvm.MethodName) ({ cls := "HintTeam", name := "touches", desc := "(III)I" } : Jvm.MethodName)) ∈ lw_all := lw_g (lw_at lw_m11 216 rfl) rfl
theorem q2765 : (Jvm.Cond.code ({ cls := "HintTeam", name := "touches", desc := "(III)I" } : Jvm.MethodName) prog_1_method_41_code (4 : Nat) (Option.some Jvm.ClassFile.FieldType.int)) ∈ lw_all := lw_g (lw_at lw_m11 217 rfl) rfl
theorem q2766 : (Jvm.Cond.methodLink "HintTeam" (348 : Nat) ({ cls := "HintTeam$Table", name := "touches", desc := "(III)I" } : Jvm.MethodName)) ∈ lw_all := lw_g (lw_at lw_m11 218 rfl) rfl
theorem q2771 : (Jvm.Cond.instanceMethod ({ cls := "HintTeam", name := "tells", desc := "(III)I" } : Jvm.MethodName)) ∈ lw_all := lw_g (lw_at lw_m11 223 rfl) rfl
theorem q2772 : (Jvm.Cond.selects "HintTeam" ({ cls := "HintTeam", name := "tells", desc := "(III)I" } : Jvm.MethodName) ({ cls := "HintTeam", name := "tells", desc := "(III)I" } : Jvm.MethodName)) ∈ lw_all := lw_g (lw_at lw_m11 224 rfl) rfl
theorem q2773 : (Jvm.Cond.code ({ cls := "HintTeam", name := "tells", desc := "(III)I" } : Jvm.MethodName) prog_1_method_42_code (4 : Nat) (Option.some Jvm.ClassFile.FieldType.int)) ∈ lw_all := lw_g (lw_at lw_m11 225 rfl) rfl
theorem q2778 : (Jvm.Cond.instanceMethod ({ cls := "HintTeam", name := "play", desc := "(I)I" } : Jvm.MethodName)) ∈ lw_all := lw_g (lw_at lw_m11 230 rfl) rfl
theorem q2779 : (Jvm.Cond.selects "HintTeam" ({ cls := "HintTeam", name := "play", desc := "(I)I" } : Jvm.MethodName) ({ cls := "HintTeam", name := "play", desc := "(I)I" } : Jvm.MethodName)) ∈ lw_all := lw_g (lw_at lw_m11 231 rfl) rfl
theorem q2780 : (Jvm.Cond.code ({ cls := "HintTeam", name := "play", desc := "(I)I" } : Jvm.MethodName) prog_1_method_44_code (2 : Nat) (Option.some Jvm.ClassFile.FieldType.int)) ∈ lw_all := lw_g (lw_at lw_m11 232 rfl) rfl
theorem q2781 : (Jvm.Cond.methodLink "HintTeam" (351 : Nat) ({ cls := "HintTeam", name := "requireOwn", desc := "(I)V" } : Jvm.MethodName)) ∈ lw_all := lw_g (lw_at lw_m11 233 rfl) rfl
theorem q2782 : (Jvm.Cond.privateMethod ({ cls := "HintTeam", name := "requireOwn", desc := "(I)V" } : Jvm.MethodName)) ∈ lw_tbl := lw_at lw_m11 234 rfl
theorem q2783 : (Jvm.Cond.instanceMethod ({ cls := "HintTeam", name := "requireOwn", desc := "(I)V" } : Jvm.MethodName)) ∈ lw_all := lw_g (lw_at lw_m11 235 rfl) rfl
theorem q2784 : (Jvm.Cond.code ({ cls := "HintTeam", name := "requireOwn", desc := "(I)V" } : Jvm.MethodName) prog_1_method_43_code (2 : Nat) (Option.none : Option Jvm.ClassFile.FieldType)) ∈ lw_all := lw_g (lw_at lw_m11 236 rfl) rfl
theorem q2785 : (Jvm.Cond.methodLink "HintTeam" (357 : Nat) ({ cls := "HintTeam$Table", name := "play", desc := "(I)V" } : Jvm.MethodName)) ∈ lw_all := lw_g (lw_at lw_m11 237 rfl) rfl
theorem q2790 : (Jvm.Cond.instanceMethod ({ cls := "HintTeam", name := "discard", desc := "(I)I" } : Jvm.MethodName)) ∈ lw_all := lw_g (lw_at lw_m12 2 rfl) rfl
theorem q2791 : (Jvm.Cond.selects "HintTeam" ({ cls := "HintTeam", name := "discard", desc := "(I)I" } : Jvm.MethodName) ({ cls := "HintTeam", name := "discard", desc := "(I)I" } : Jvm.MethodName)) ∈ lw_all := lw_g (lw_at lw_m12 3 rfl) rfl
theorem q2792 : (Jvm.Cond.code ({ cls := "HintTeam", name := "discard", desc := "(I)I" } : Jvm.MethodName) prog_1_method_45_code (2 : Nat) (Option.some Jvm.ClassFile.FieldType.int)) ∈ lw_all := lw_g (lw_at lw_m12 4 rfl) rfl
theorem q2793 : (Jvm.Cond.methodLink "HintTeam" (360 : Nat) ({ cls := "HintTeam$Table", name := "discard", desc := "(I)V" } : Jvm.MethodName)) ∈ lw_all := lw_g (lw_at lw_m12 5 rfl) rfl
theorem q2798 : (Jvm.Cond.instanceMethod ({ cls := "HintTeam", name := "hint", desc := "(III)I" } : Jvm.MethodName)) ∈ lw_all := lw_g (lw_at lw_m12 10 rfl) rfl
theorem q2799 : (Jvm.Cond.selects "HintTeam" ({ cls := "HintTeam", name := "hint", desc := "(III)I" } : Jvm.MethodName) ({ cls := "HintTeam", name := "hint", desc := "(III)I" } : Jvm.MethodName)) ∈ lw_all := lw_g (lw_at lw_m12 11 rfl) rfl
theorem q2800 : (Jvm.Cond.code ({ cls := "HintTeam", name := "hint", desc := "(III)I" } : Jvm.MethodName) prog_1_method_46_code (4 : Nat) (Option.some Jvm.ClassFile.FieldType.int)) ∈ lw_all := lw_g (lw_at lw_m12 12 rfl) rfl
theorem q2801 : (Jvm.Cond.methodLink "HintTeam" (363 : Nat) ({ cls := "HintTeam$Table", name := "canHint", desc := "(III)Z" } : Jvm.MethodName)) ∈ lw_all := lw_g (lw_at lw_m12 13 rfl) rfl
theorem q2802 : (Jvm.Cond.methodLink "HintTeam" (366 : Nat) ({ cls := "HintTeam$Table", name := "hint", desc := "(III)I" } : Jvm.MethodName)) ∈ lw_all := lw_g (lw_at lw_m12 14 rfl) rfl
theorem q2807 : (Jvm.Cond.instanceMethod ({ cls := "HintTeam", name := "advice", desc := "(I)I" } : Jvm.MethodName)) ∈ lw_all := lw_g (lw_at lw_m12 19 rfl) rfl
theorem q2808 : (Jvm.Cond.selects "HintTeam" ({ cls := "HintTeam", name := "advice", desc := "(I)I" } : Jvm.MethodName) ({ cls := "HintTeam", name := "advice", desc := "(I)I" } : Jvm.MethodName)) ∈ lw_all := lw_g (lw_at lw_m12 20 rfl) rfl
theorem q2809 : (Jvm.Cond.code ({ cls := "HintTeam", name := "advice", desc := "(I)I" } : Jvm.MethodName) prog_1_method_48_code (3 : Nat) (Option.some Jvm.ClassFile.FieldType.int)) ∈ lw_all := lw_g (lw_at lw_m12 21 rfl) rfl
theorem q2810 : (Jvm.Cond.methodLink "HintTeam" (378 : Nat) ({ cls := "HintTeam$Move", name := "kind", desc := "()I" } : Jvm.MethodName)) ∈ lw_all := lw_g (lw_at lw_m12 22 rfl) rfl
theorem q2822 : (Jvm.Cond.methodLink "HintTeam" (382 : Nat) ({ cls := "HintTeam$Move", name := "part", desc := "(I)I" } : Jvm.MethodName)) ∈ lw_all := lw_g (lw_at lw_m12 34 rfl) rfl
theorem q2837 : (Jvm.Cond.instanceMethod ({ cls := "HintTeam", name := "follow", desc := "(I)I" } : Jvm.MethodName)) ∈ lw_all := lw_g (lw_at lw_m12 49 rfl) rfl
theorem q2838 : (Jvm.Cond.selects "HintTeam" ({ cls := "HintTeam", name := "follow", desc := "(I)I" } : Jvm.MethodName) ({ cls := "HintTeam", name := "follow", desc := "(I)I" } : Jvm.MethodName)) ∈ lw_all := lw_g (lw_at lw_m12 50 rfl) rfl
theorem q2839 : (Jvm.Cond.code ({ cls := "HintTeam", name := "follow", desc := "(I)I" } : Jvm.MethodName) prog_1_method_49_code (3 : Nat) (Option.some Jvm.ClassFile.FieldType.int)) ∈ lw_all := lw_g (lw_at lw_m12 51 rfl) rfl
theorem q2840 : (Jvm.Cond.constantLong "HintTeam" (385 : Nat) (100 : Int64)) ∈ lw_all := lw_g (lw_at lw_m12 52 rfl) rfl
theorem q2845 : (Jvm.Cond.instanceMethod ({ cls := "HintTeam", name := "valueBehind", desc := "(II)I" } : Jvm.MethodName)) ∈ lw_all := lw_g (lw_at lw_m12 57 rfl) rfl
theorem q2846 : (Jvm.Cond.selects "HintTeam" ({ cls := "HintTeam", name := "valueBehind", desc := "(II)I" } : Jvm.MethodName) ({ cls := "HintTeam", name := "valueBehind", desc := "(II)I" } : Jvm.MethodName)) ∈ lw_all := lw_g (lw_at lw_m12 58 rfl) rfl
theorem q2847 : (Jvm.Cond.code ({ cls := "HintTeam", name := "valueBehind", desc := "(II)I" } : Jvm.MethodName) prog_1_method_60_code (3 : Nat) (Option.some Jvm.ClassFile.FieldType.int)) ∈ lw_all := lw_g (lw_at lw_m12 59 rfl) rfl
theorem q2848 : (Jvm.Cond.methodLink "HintTeam" (425 : Nat) ({ cls := "HintTeam", name := "isSensible", desc := "(II)Z" } : Jvm.MethodName)) ∈ lw_all := lw_g (lw_at lw_m12 60 rfl) rfl
theorem q2849 : (Jvm.Cond.privateMethod ({ cls := "HintTeam", name := "isSensible", desc := "(II)Z" } : Jvm.MethodName)) ∈ lw_tbl := lw_at lw_m12 61 rfl
theorem q2850 : (Jvm.Cond.instanceMethod ({ cls := "HintTeam", name := "isSensible", desc := "(II)Z" } : Jvm.MethodName)) ∈ lw_all := lw_g (lw_at lw_m12 62 rfl) rfl
theorem q2851 : (Jvm.Cond.code ({ cls := "HintTeam", name := "isSensible", desc := "(II)Z" } : Jvm.MethodName) prog_1_method_58_code (5 : Nat) (Option.some Jvm.ClassFile.FieldType.boolean)) ∈ lw_all := lw_g (lw_at lw_m12 63 rfl) rfl
theorem q2852 : (Jvm.Cond.methodLink "HintTeam" (412 : Nat) ({ cls := "HintTeam$Card", name := "color", desc := "()I" } : Jvm.MethodName)) ∈ lw_all := lw_g (lw_at lw_m12 64 rfl) rfl
theorem q2853 : (Jvm.Cond.methodLink "HintTeam" (415 : Nat) ({ cls := "HintTeam$Card", name := "rank", desc := "()I" } : Jvm.MethodName)) ∈ lw_all := lw_g (lw_at lw_m12 65 rfl) rfl
theorem q2854 : (Jvm.Cond.methodLink "HintTeam" (428 : Nat) ({ cls := "HintTeam", name := "valueOf", desc := "(II)I" } : Jvm.MethodName)) ∈ lw_all := lw_g (lw_at lw_m12 66 rfl) rfl
theorem q2855 : (Jvm.Cond.privateMethod ({ cls := "HintTeam", name := "valueOf", desc := "(II)I" } : Jvm.MethodName)) ∈ lw_tbl := lw_at lw_m12 67 rfl
theorem q2856 : (Jvm.Cond.instanceMethod ({ cls := "HintTeam", name := "valueOf", desc := "(II)I" } : Jvm.MethodName)) ∈ lw_all := lw_g (lw_at lw_m12 68 rfl) rfl
theorem q2857 : (Jvm.Cond.code ({ cls := "HintTeam", name := "valueOf", desc := "(II)I" } : Jvm.MethodName) prog_1_method_59_code (4 : Nat) (Option.some Jvm.ClassFile.FieldType.int)) ∈ lw_all := lw_g (lw_at lw_m12 69 rfl) rfl
theorem q2858 : (Jvm.Cond.methodLink "HintTeam" (418 : Nat) ({ cls := "HintTeam$Card", name := "id", desc := "()I" } : Jvm.MethodName)) ∈ lw_all := lw_g (lw_at lw_m12 70 rfl) rfl
theorem q2859 : (Jvm.Cond.methodLink "HintTeam" (421 : Nat) ({ cls := "HintTeam$Explorer", name := "behind", desc := "(JII)J" } : Jvm.MethodName)) ∈ lw_all := lw_g (lw_at lw_m12 71 rfl) rfl
theorem q2864 : (Jvm.Cond.instanceMethod ({ cls := "HintTeam", name := "bestMove", desc := "(I)I" } : Jvm.MethodName)) ∈ lw_all := lw_g (lw_at lw_m12 76 rfl) rfl
theorem q2865 : (Jvm.Cond.selects "HintTeam" ({ cls := "HintTeam", name := "bestMove", desc := "(I)I" } : Jvm.MethodName) ({ cls := "HintTeam", name := "bestMove", desc := "(I)I" } : Jvm.MethodName)) ∈ lw_all := lw_g (lw_at lw_m12 77 rfl) rfl
theorem q2866 : (Jvm.Cond.code ({ cls := "HintTeam", name := "bestMove", desc := "(I)I" } : Jvm.MethodName) prog_1_method_61_code (5 : Nat) (Option.some Jvm.ClassFile.FieldType.int)) ∈ lw_all := lw_g (lw_at lw_m12 78 rfl) rfl
theorem q2871 : (Jvm.Cond.instanceMethod ({ cls := "HintTeam", name := "total", desc := "(I)I" } : Jvm.MethodName)) ∈ lw_all := lw_g (lw_at lw_m12 83 rfl) rfl
theorem q2872 : (Jvm.Cond.selects "HintTeam" ({ cls := "HintTeam", name := "total", desc := "(I)I" } : Jvm.MethodName) ({ cls := "HintTeam", name := "total", desc := "(I)I" } : Jvm.MethodName)) ∈ lw_all := lw_g (lw_at lw_m12 84 rfl) rfl
theorem q2873 : (Jvm.Cond.code ({ cls := "HintTeam", name := "total", desc := "(I)I" } : Jvm.MethodName) prog_1_method_62_code (2 : Nat) (Option.some Jvm.ClassFile.FieldType.int)) ∈ lw_all := lw_g (lw_at lw_m12 85 rfl) rfl
theorem q2874 : (Jvm.Cond.constantLong "HintTeam" (431 : Nat) (6 : Int64)) ∈ lw_all := lw_g (lw_at lw_m12 86 rfl) rfl
theorem q2879 : (Jvm.Cond.instanceMethod ({ cls := "HintTeam", name := "logPart", desc := "(II)I" } : Jvm.MethodName)) ∈ lw_all := lw_g (lw_at lw_m12 91 rfl) rfl
theorem q2880 : (Jvm.Cond.selects "HintTeam" ({ cls := "HintTeam", name := "logPart", desc := "(II)I" } : Jvm.MethodName) ({ cls := "HintTeam", name := "logPart", desc := "(II)I" } : Jvm.MethodName)) ∈ lw_all := lw_g (lw_at lw_m12 92 rfl) rfl
theorem q2881 : (Jvm.Cond.code ({ cls := "HintTeam", name := "logPart", desc := "(II)I" } : Jvm.MethodName) prog_1_method_63_code (3 : Nat) (Option.some Jvm.ClassFile.FieldType.int)) ∈ lw_all := lw_g (lw_at lw_m12 93 rfl) rfl
theorem q2882 : (Jvm.Cond.classLink "HintTeam" (440 : Nat) "[I") ∈ lw_all := lw_g (lw_at lw_m12 94 rfl) rfl
theorem q2887 : (Jvm.Cond.instanceMethod ({ cls := "HintTeam", name := "writeHand", desc := "(IZ)I" } : Jvm.MethodName)) ∈ lw_all := lw_g (lw_at lw_m12 99 rfl) rfl
theorem q2888 : (Jvm.Cond.selects "HintTeam" ({ cls := "HintTeam", name := "writeHand", desc := "(IZ)I" } : Jvm.MethodName) ({ cls := "HintTeam", name := "writeHand", desc := "(IZ)I" } : Jvm.MethodName)) ∈ lw_all := lw_g (lw_at lw_m12 100 rfl) rfl
theorem q2889 : (Jvm.Cond.code ({ cls := "HintTeam", name := "writeHand", desc := "(IZ)I" } : Jvm.MethodName) prog_1_method_64_code (5 : Nat) (Option.some Jvm.ClassFile.FieldType.int)) ∈ lw_all := lw_g (lw_at lw_m12 101 rfl) rfl
theorem q2890 : (Jvm.Cond.methodLink "HintTeam" (441 : Nat) ({ cls := "java/lang/StringBuilder", name := "setLength", desc := "(I)V" } : Jvm.MethodName)) ∈ lw_all := lw_g (lw_at lw_m12 102 rfl) rfl
theorem q2942 : (Jvm.Cond.methodLink "HintTeam" (444 : Nat) ({ cls := "java/util/LinkedList", name := "iterator", desc := "()Ljava/util/Iterator;" } : Jvm.MethodName)) ∈ lw_all := lw_g (lw_at lw_m12 154 rfl) rfl
theorem q2943 : (Jvm.Cond.methodLink "HintTeam" (450 : Nat) ({ cls := "java/lang/StringBuilder", name := "append", desc := "(C)Ljava/lang/StringBuilder;" } : Jvm.MethodName)) ∈ lw_all := lw_g (lw_at lw_m12 155 rfl) rfl
theorem q2944 : (Jvm.Cond.methodLink "HintTeam" (454 : Nat) ({ cls := "HintTeam$Held", name := "written", desc := "(Z)Ljava/lang/String;" } : Jvm.MethodName)) ∈ lw_all := lw_g (lw_at lw_m12 156 rfl) rfl
theorem q2969 : (Jvm.Cond.methodLink "HintTeam" (458 : Nat) ({ cls := "java/lang/StringBuilder", name := "append", desc := "(Ljava/lang/String;)Ljava/lang/StringBuilder;" } : Jvm.MethodName)) ∈ lw_all := lw_g (lw_at lw_m12 181 rfl) rfl
theorem q2974 : (Jvm.Cond.instanceMethod ({ cls := "HintTeam", name := "saveSnapshot", desc := "(I)I" } : Jvm.MethodName)) ∈ lw_all := lw_g (lw_at lw_m12 186 rfl) rfl
theorem q2975 : (Jvm.Cond.selects "HintTeam" ({ cls := "HintTeam", name := "saveSnapshot", desc := "(I)I" } : Jvm.MethodName) ({ cls := "HintTeam", name := "saveSnapshot", desc := "(I)I" } : Jvm.MethodName)) ∈ lw_all := lw_g (lw_at lw_m12 187 rfl) rfl
theorem q2976 : (Jvm.Cond.code ({ cls := "HintTeam", name := "saveSnapshot", desc := "(I)I" } : Jvm.MethodName) prog_1_method_67_code (2 : Nat) (Option.some Jvm.ClassFile.FieldType.int)) ∈ lw_all := lw_g (lw_at lw_m12 188 rfl) rfl
theorem q2977 : (Jvm.Cond.methodLink "HintTeam" (465 : Nat) ({ cls := "HintTeam", name := "requireSlot", desc := "(I)V" } : Jvm.MethodName)) ∈ lw_all := lw_g (lw_at lw_m12 189 rfl) rfl
theorem q2978 : (Jvm.Cond.static ({ cls := "HintTeam", name := "requireSlot", desc := "(I)V" } : Jvm.MethodName)) ∈ lw_all := lw_g (lw_at lw_m12 190 rfl) rfl
theorem q2979 : (Jvm.Cond.code ({ cls := "HintTeam", name := "requireSlot", desc := "(I)V" } : Jvm.MethodName) prog_1_method_66_code (1 : Nat) (Option.none : Option Jvm.ClassFile.FieldType)) ∈ lw_all := lw_g (lw_at lw_m12 191 rfl) rfl
theorem q2984 : (Jvm.Cond.instanceMethod ({ cls := "HintTeam", name := "restoreSnapshot", desc := "(I)I" } : Jvm.MethodName)) ∈ lw_all := lw_g (lw_at lw_m12 196 rfl) rfl
theorem q2985 : (Jvm.Cond.selects "HintTeam" ({ cls := "HintTeam", name := "restoreSnapshot", desc := "(I)I" } : Jvm.MethodName) ({ cls := "HintTeam", name := "restoreSnapshot", desc := "(I)I" } : Jvm.MethodName)) ∈ lw_all := lw_g (lw_at lw_m12 197 rfl) rfl
theorem q2986 : (Jvm.Cond.code ({ cls := "HintTeam", name := "restoreSnapshot", desc := "(I)I" } : Jvm.MethodName) prog_1_method_68_code (2 : Nat) (Option.some Jvm.ClassFile.FieldType.int)) ∈ lw_all := lw_g (lw_at lw_m12 198 rfl) rfl
theorem q3625 : (Jvm.Cond.castable "HintTeam" "java/lang/Object") ∈ lw_tbl := lw_at lw_m15 117 rfl
theorem in_X1 : ∀ w ∈ wsX10, w ∈ lw_all := lw_in wsX10 [875, 877, 879, 881, 883, 885, 887, 889, 891, 893, 895] (by decide +kernel) (by decide +kernel)
/-! HintTeam$Table -/
def RX2 : String := "HintTeam$Table"
def TX2 : u_T := fun k => match k with
  | 0 => ("HintTeam$Table", "rules", "LHintTeam$Rules;", true)
  | 1 => ("HintTeam$Table", "hands", "Ljava/util/List;", true)
  | 2 => ("HintTeam$Table", "log", "Ljava/util/LinkedList;", true)
  | 3 => ("HintTeam$Table", "piles", "[I", true)
  | 4 => ("HintTeam$Table", "totals", "[I", true)
  | 5 => ("HintTeam$Table", "heap", "[[I", true)
  | 6 => ("HintTeam$Table", "words", "[[I", true)
  | 7 => ("HintTeam$Table", "next", "I", false)
  | 8 => ("HintTeam$Table", "tokens", "I", false)
  | 9 => ("HintTeam$Table", "lives", "I", false)
  | 10 => ("HintTeam$Table", "turn", "I", false)
  | 11 => ("HintTeam$Table", "taken", "I", false)
  | _ => ("HintTeam$Table", "left", "I", false)
def tyX2 : Nat → FieldType := fun k => match k with
  | 0 => .object "HintTeam$Rules"
  | 1 => .object "java/util/List"
  | 2 => .object "java/util/LinkedList"
  | 3 => .array .int
  | 4 => .array .int
  | 5 => .array (.array .int)
  | 6 => .array (.array .int)
  | 7 => .int
  | 8 => .int
  | 9 => .int
  | 10 => .int
  | 11 => .int
  | _ => .int
abbrev wsX20 : List Cond := u_ws RX2 TX2 13
set_option maxRecDepth 100000 in
theorem nmX2 : ∀ a, a < 13 → ∀ b, b < 13 → a ≠ b → (TX2 a).2.1 ≠ (TX2 b).2.1 := by decide +kernel
set_option maxRecDepth 100000 in
theorem tyX2_ok : ∀ k, k < 13 → parseFieldDescriptor (TX2 k).2.2.1 = some (tyX2 k) := by decide +kernel
abbrev cX2_init : ByteArray := prog_13_method_1_code
def yX2_init : MethodName := ⟨RX2, "<init>", "(LHintTeam$Rules;)V"⟩
abbrev cX2_canHint : ByteArray := prog_13_method_22_code
def yX2_canHint : MethodName := ⟨RX2, "canHint", "(III)Z"⟩
abbrev cX2_touches : ByteArray := prog_13_method_21_code
def yX2_touches : MethodName := ⟨RX2, "touches", "(III)I"⟩
abbrev cX2_begins : ByteArray := prog_13_method_3_code
def yX2_begins : MethodName := ⟨RX2, "begins", "()V"⟩
abbrev cX2_draws : ByteArray := prog_13_method_4_code
def yX2_draws : MethodName := ⟨RX2, "draws", "(I)V"⟩
abbrev cX2_over : ByteArray := prog_13_method_8_code
def yX2_over : MethodName := ⟨RX2, "over", "()I"⟩
abbrev cX2_areWhole : ByteArray := prog_13_method_7_code
def yX2_areWhole : MethodName := ⟨RX2, "areWhole", "()Z"⟩
abbrev cX2_own : ByteArray := prog_13_method_5_code
def yX2_own : MethodName := ⟨RX2, "own", "()Ljava/util/LinkedList;"⟩
abbrev cX2_copy : ByteArray := prog_13_method_2_code
def yX2_copy : MethodName := ⟨RX2, "copy", "()LHintTeam$Table;"⟩
abbrev cX2_pass : ByteArray := prog_13_method_24_code
def yX2_pass : MethodName := ⟨RX2, "pass", "()V"⟩
abbrev cX2_ends : ByteArray := prog_13_method_18_code
def yX2_ends : MethodName := ⟨RX2, "ends", "(IIIZ)V"⟩
abbrev cX2_canBe : ByteArray := prog_13_method_15_code
def yX2_canBe : MethodName := ⟨RX2, "canBe", "(III)Z"⟩
abbrev cX2_inHands : ByteArray := prog_13_method_14_code
def yX2_inHands : MethodName := ⟨RX2, "inHands", "(III)I"⟩
abbrev cX2_canPlay : ByteArray := prog_13_method_9_code
def yX2_canPlay : MethodName := ⟨RX2, "canPlay", "(II)Z"⟩
abbrev cX2_isUseless : ByteArray := prog_13_method_12_code
def yX2_isUseless : MethodName := ⟨RX2, "isUseless", "(II)Z"⟩
abbrev cX2_reach : ByteArray := prog_13_method_11_code
def yX2_reach : MethodName := ⟨RX2, "reach", "(I)I"⟩
abbrev cX2_isGone : ByteArray := prog_13_method_10_code
def yX2_isGone : MethodName := ⟨RX2, "isGone", "(II)Z"⟩
abbrev cX2_play : ByteArray := prog_13_method_19_code
def yX2_play : MethodName := ⟨RX2, "play", "(I)V"⟩
abbrev cX2_comesBack : ByteArray := prog_13_method_16_code
def yX2_comesBack : MethodName := ⟨RX2, "comesBack", "()V"⟩
abbrev cX2_goes : ByteArray := prog_13_method_17_code
def yX2_goes : MethodName := ⟨RX2, "goes", "(LHintTeam$Card;)V"⟩
abbrev cX2_isCritical : ByteArray := prog_13_method_13_code
def yX2_isCritical : MethodName := ⟨RX2, "isCritical", "(II)Z"⟩
abbrev cX2_discard : ByteArray := prog_13_method_20_code
def yX2_discard : MethodName := ⟨RX2, "discard", "(I)V"⟩
abbrev cX2_hint : ByteArray := prog_13_method_23_code
def yX2_hint : MethodName := ⟨RX2, "hint", "(III)I"⟩
abbrev cX2_score : ByteArray := prog_13_method_6_code
def yX2_score : MethodName := ⟨RX2, "score", "()I"⟩
theorem q150 : (Jvm.Cond.initialized "HintTeam$Table") ∈ lw_all := lw_g (lw_at lw_m1 2 rfl) rfl
theorem q214 : (Jvm.Cond.instantiable "HintTeam$Table" (13 : Nat)) ∈ lw_all := lw_g (lw_at lw_m1 66 rfl) rfl
theorem q288 : (Jvm.Cond.fieldLinkNest "HintTeam$Table" (139 : Nat) "HintTeam$Rules" "colors" "I" "HintTeam") ∈ lw_tbl := lw_at lw_m1 140 rfl
theorem q293 : (Jvm.Cond.fieldLinkNest "HintTeam$Table" (142 : Nat) "HintTeam$Rules" "ranks" "I" "HintTeam") ∈ lw_tbl := lw_at lw_m1 145 rfl
theorem q298 : (Jvm.Cond.fieldLinkNest "HintTeam$Table" (56 : Nat) "HintTeam$Rules" "players" "I" "HintTeam") ∈ lw_tbl := lw_at lw_m1 150 rfl
theorem q303 : (Jvm.Cond.fieldLinkNest "HintTeam$Table" (128 : Nat) "HintTeam$Rules" "hand" "I" "HintTeam") ∈ lw_tbl := lw_at lw_m1 155 rfl
theorem q309 : (Jvm.Cond.fieldLinkNest "HintTeam$Table" (182 : Nat) "HintTeam$Rules" "most" "I" "HintTeam") ∈ lw_tbl := lw_at lw_m1 161 rfl
theorem q311 : (Jvm.Cond.fieldLinkNest "HintTeam$Table" (124 : Nat) "HintTeam$Rules" "start" "I" "HintTeam") ∈ lw_tbl := lw_at lw_m1 163 rfl
theorem q314 : (Jvm.Cond.fieldLinkNest "HintTeam$Table" (127 : Nat) "HintTeam$Rules" "lives" "I" "HintTeam") ∈ lw_tbl := lw_at lw_m1 166 rfl
theorem q317 : (Jvm.Cond.fieldLinkNest "HintTeam$Table" (134 : Nat) "HintTeam$Rules" "deck" "Ljava/util/List;" "HintTeam") ∈ lw_tbl := lw_at lw_m1 169 rfl
theorem q323 : (Jvm.Cond.fieldLinkNest "HintTeam$Table" (47 : Nat) "HintTeam$Rules" "times" "[[I" "HintTeam") ∈ lw_tbl := lw_at lw_m1 175 rfl
theorem q348 : (Jvm.Cond.instanceMethod ({ cls := "HintTeam$Table", name := "<init>", desc := "(LHintTeam$Rules;)V" } : Jvm.MethodName)) ∈ lw_all := lw_g (lw_at lw_m1 200 rfl) rfl
theorem q349 : (Jvm.Cond.code ({ cls := "HintTeam$Table", name := "<init>", desc := "(LHintTeam$Rules;)V" } : Jvm.MethodName) prog_13_method_1_code (2 : Nat) (Option.none : Option Jvm.ClassFile.FieldType)) ∈ lw_all := lw_g (lw_at lw_m1 201 rfl) rfl
theorem q350 : (Jvm.Cond.methodLink "HintTeam$Table" (3 : Nat) ({ cls := "java/lang/Object", name := "<init>", desc := "()V" } : Jvm.MethodName)) ∈ lw_all := lw_g (lw_at lw_m1 202 rfl) rfl
theorem q351 : (Jvm.Cond.classLink "HintTeam$Table" (9 : Nat) "java/util/ArrayList") ∈ lw_all := lw_g (lw_at lw_m1 203 rfl) rfl
theorem q352 : (Jvm.Cond.methodLink "HintTeam$Table" (11 : Nat) ({ cls := "java/util/ArrayList", name := "<init>", desc := "(I)V" } : Jvm.MethodName)) ∈ lw_all := lw_g (lw_at lw_m1 204 rfl) rfl
theorem q677 : (Jvm.Cond.classLink "HintTeam$Table" (20 : Nat) "java/util/LinkedList") ∈ lw_all := lw_g (lw_at lw_m3 49 rfl) rfl
theorem q679 : (Jvm.Cond.methodLink "HintTeam$Table" (22 : Nat) ({ cls := "java/util/LinkedList", name := "<init>", desc := "()V" } : Jvm.MethodName)) ∈ lw_all := lw_g (lw_at lw_m3 51 rfl) rfl
theorem q698 : (Jvm.Cond.classLink "HintTeam$Table" (34 : Nat) "[[I") ∈ lw_all := lw_g (lw_at lw_m3 70 rfl) rfl
theorem q699 : (Jvm.Cond.classLink "HintTeam$Table" (39 : Nat) "[I") ∈ lw_all := lw_g (lw_at lw_m3 71 rfl) rfl
theorem q700 : (Jvm.Cond.methodLink "HintTeam$Table" (52 : Nat) ({ cls := "[I", name := "clone", desc := "()Ljava/lang/Object;" } : Jvm.MethodName)) ∈ lw_all := lw_g (lw_at lw_m3 72 rfl) rfl
theorem q704 : (Jvm.Cond.fieldLink "HintTeam$Table" (43 : Nat) "HintTeam$Table" "rules" "LHintTeam$Rules;") ∈ lw_all := lw_g (lw_at lw_m3 76 rfl) rfl
theorem q708 : (Jvm.Cond.fieldLink "HintTeam$Table" (14 : Nat) "HintTeam$Table" "hands" "Ljava/util/List;") ∈ lw_all := lw_g (lw_at lw_m3 80 rfl) rfl
theorem q711 : (Jvm.Cond.fieldLink "HintTeam$Table" (23 : Nat) "HintTeam$Table" "log" "Ljava/util/LinkedList;") ∈ lw_all := lw_g (lw_at lw_m3 83 rfl) rfl
theorem q713 : (Jvm.Cond.fieldLink "HintTeam$Table" (27 : Nat) "HintTeam$Table" "piles" "[I") ∈ lw_all := lw_g (lw_at lw_m3 85 rfl) rfl
theorem q716 : (Jvm.Cond.fieldLink "HintTeam$Table" (31 : Nat) "HintTeam$Table" "totals" "[I") ∈ lw_all := lw_g (lw_at lw_m3 88 rfl) rfl
theorem q718 : (Jvm.Cond.fieldLink "HintTeam$Table" (36 : Nat) "HintTeam$Table" "heap" "[[I") ∈ lw_all := lw_g (lw_at lw_m3 90 rfl) rfl
theorem q720 : (Jvm.Cond.fieldLink "HintTeam$Table" (40 : Nat) "HintTeam$Table" "words" "[[I") ∈ lw_all := lw_g (lw_at lw_m3 92 rfl) rfl
theorem q722 : (Jvm.Cond.fieldLink "HintTeam$Table" (110 : Nat) "HintTeam$Table" "next" "I") ∈ lw_all := lw_g (lw_at lw_m3 94 rfl) rfl
theorem q725 : (Jvm.Cond.fieldLink "HintTeam$Table" (112 : Nat) "HintTeam$Table" "tokens" "I") ∈ lw_all := lw_g (lw_at lw_m3 97 rfl) rfl
theorem q728 : (Jvm.Cond.fieldLink "HintTeam$Table" (115 : Nat) "HintTeam$Table" "lives" "I") ∈ lw_all := lw_g (lw_at lw_m3 100 rfl) rfl
theorem q731 : (Jvm.Cond.fieldLink "HintTeam$Table" (118 : Nat) "HintTeam$Table" "turn" "I") ∈ lw_all := lw_g (lw_at lw_m3 103 rfl) rfl
theorem q734 : (Jvm.Cond.fieldLink "HintTeam$Table" (121 : Nat) "HintTeam$Table" "taken" "I") ∈ lw_all := lw_g (lw_at lw_m3 106 rfl) rfl
theorem q736 : (Jvm.Cond.fieldLink "HintTeam$Table" (60 : Nat) "HintTeam$Table" "left" "I") ∈ lw_all := lw_g (lw_at lw_m3 108 rfl) rfl
theorem q739 : (Jvm.Cond.laysFinal "HintTeam$Table" "HintTeam$Table" "rules" "LHintTeam$Rules;") ∈ lw_all := lw_g (lw_at lw_m3 111 rfl) rfl
theorem q740 : (Jvm.Cond.soleField "HintTeam$Table" "rules") ∈ lw_all := lw_g (lw_at lw_m3 112 rfl) rfl
theorem q741 : (Jvm.Cond.laysFinal "HintTeam$Table" "HintTeam$Table" "hands" "Ljava/util/List;") ∈ lw_all := lw_g (lw_at lw_m3 113 rfl) rfl
theorem q742 : (Jvm.Cond.soleField "HintTeam$Table" "hands") ∈ lw_all := lw_g (lw_at lw_m3 114 rfl) rfl
theorem q743 : (Jvm.Cond.laysFinal "HintTeam$Table" "HintTeam$Table" "log" "Ljava/util/LinkedList;") ∈ lw_all := lw_g (lw_at lw_m3 115 rfl) rfl
theorem q744 : (Jvm.Cond.soleField "HintTeam$Table" "log") ∈ lw_all := lw_g (lw_at lw_m3 116 rfl) rfl
theorem q745 : (Jvm.Cond.laysFinal "HintTeam$Table" "HintTeam$Table" "piles" "[I") ∈ lw_all := lw_g (lw_at lw_m3 117 rfl) rfl
theorem q746 : (Jvm.Cond.soleField "HintTeam$Table" "piles") ∈ lw_all := lw_g (lw_at lw_m3 118 rfl) rfl
theorem q747 : (Jvm.Cond.laysFinal "HintTeam$Table" "HintTeam$Table" "totals" "[I") ∈ lw_all := lw_g (lw_at lw_m3 119 rfl) rfl
theorem q748 : (Jvm.Cond.soleField "HintTeam$Table" "totals") ∈ lw_all := lw_g (lw_at lw_m3 120 rfl) rfl
theorem q749 : (Jvm.Cond.laysFinal "HintTeam$Table" "HintTeam$Table" "heap" "[[I") ∈ lw_all := lw_g (lw_at lw_m3 121 rfl) rfl
theorem q750 : (Jvm.Cond.soleField "HintTeam$Table" "heap") ∈ lw_all := lw_g (lw_at lw_m3 122 rfl) rfl
theorem q751 : (Jvm.Cond.laysFinal "HintTeam$Table" "HintTeam$Table" "words" "[[I") ∈ lw_all := lw_g (lw_at lw_m3 123 rfl) rfl
theorem q752 : (Jvm.Cond.soleField "HintTeam$Table" "words") ∈ lw_all := lw_g (lw_at lw_m3 124 rfl) rfl
theorem q753 : (Jvm.Cond.lays "HintTeam$Table" "HintTeam$Table" "next" "I") ∈ lw_all := lw_g (lw_at lw_m3 125 rfl) rfl
theorem q754 : (Jvm.Cond.soleField "HintTeam$Table" "next") ∈ lw_all := lw_g (lw_at lw_m3 126 rfl) rfl
theorem q755 : (Jvm.Cond.lays "HintTeam$Table" "HintTeam$Table" "tokens" "I") ∈ lw_all := lw_g (lw_at lw_m3 127 rfl) rfl
theorem q756 : (Jvm.Cond.soleField "HintTeam$Table" "tokens") ∈ lw_all := lw_g (lw_at lw_m3 128 rfl) rfl
theorem q757 : (Jvm.Cond.lays "HintTeam$Table" "HintTeam$Table" "lives" "I") ∈ lw_all := lw_g (lw_at lw_m3 129 rfl) rfl
theorem q758 : (Jvm.Cond.soleField "HintTeam$Table" "lives") ∈ lw_all := lw_g (lw_at lw_m3 130 rfl) rfl
theorem q759 : (Jvm.Cond.lays "HintTeam$Table" "HintTeam$Table" "turn" "I") ∈ lw_all := lw_g (lw_at lw_m3 131 rfl) rfl
theorem q760 : (Jvm.Cond.soleField "HintTeam$Table" "turn") ∈ lw_all := lw_g (lw_at lw_m3 132 rfl) rfl
theorem q761 : (Jvm.Cond.lays "HintTeam$Table" "HintTeam$Table" "taken" "I") ∈ lw_all := lw_g (lw_at lw_m3 133 rfl) rfl
theorem q762 : (Jvm.Cond.soleField "HintTeam$Table" "taken") ∈ lw_all := lw_g (lw_at lw_m3 134 rfl) rfl
theorem q763 : (Jvm.Cond.lays "HintTeam$Table" "HintTeam$Table" "left" "I") ∈ lw_all := lw_g (lw_at lw_m3 135 rfl) rfl
theorem q764 : (Jvm.Cond.soleField "HintTeam$Table" "left") ∈ lw_all := lw_g (lw_at lw_m3 136 rfl) rfl
theorem q765 : (Jvm.Cond.superclass "HintTeam$Table" "java/lang/Object") ∈ lw_all := lw_g (lw_at lw_m3 137 rfl) rfl
theorem q1204 : (Jvm.Cond.selects "HintTeam$Table" ({ cls := "java/lang/Object", name := "getClass", desc := "()Ljava/lang/Class;" } : Jvm.MethodName) ({ cls := "java/lang/Object", name := "getClass", desc := "()Ljava/lang/Class;" } : Jvm.MethodName)) ∈ lw_all := lw_g (lw_at lw_m5 96 rfl) rfl
theorem q1597 : (Jvm.Cond.instanceMethod ({ cls := "HintTeam$Table", name := "canHint", desc := "(III)Z" } : Jvm.MethodName)) ∈ lw_all := lw_g (lw_at lw_m7 9 rfl) rfl
theorem q1598 : (Jvm.Cond.selects "HintTeam$Table" ({ cls := "HintTeam$Table", name := "canHint", desc := "(III)Z" } : Jvm.MethodName) ({ cls := "HintTeam$Table", name := "canHint", desc := "(III)Z" } : Jvm.MethodName)) ∈ lw_all := lw_g (lw_at lw_m7 10 rfl) rfl
theorem q1599 : (Jvm.Cond.code ({ cls := "HintTeam$Table", name := "canHint", desc := "(III)Z" } : Jvm.MethodName) prog_13_method_22_code (4 : Nat) (Option.some Jvm.ClassFile.FieldType.boolean)) ∈ lw_all := lw_g (lw_at lw_m7 11 rfl) rfl
theorem q1600 : (Jvm.Cond.methodLink "HintTeam$Table" (218 : Nat) ({ cls := "HintTeam$Table", name := "touches", desc := "(III)I" } : Jvm.MethodName)) ∈ lw_all := lw_g (lw_at lw_m7 12 rfl) rfl
theorem q1601 : (Jvm.Cond.instanceMethod ({ cls := "HintTeam$Table", name := "touches", desc := "(III)I" } : Jvm.MethodName)) ∈ lw_all := lw_g (lw_at lw_m7 13 rfl) rfl
theorem q1602 : (Jvm.Cond.selects "HintTeam$Table" ({ cls := "HintTeam$Table", name := "touches", desc := "(III)I" } : Jvm.MethodName) ({ cls := "HintTeam$Table", name := "touches", desc := "(III)I" } : Jvm.MethodName)) ∈ lw_all := lw_g (lw_at lw_m7 14 rfl) rfl
theorem q1603 : (Jvm.Cond.code ({ cls := "HintTeam$Table", name := "touches", desc := "(III)I" } : Jvm.MethodName) prog_13_method_21_code (6 : Nat) (Option.some Jvm.ClassFile.FieldType.int)) ∈ lw_all := lw_g (lw_at lw_m7 15 rfl) rfl
theorem q1604 : (Jvm.Cond.interfaceEntry "HintTeam$Table" (76 : Nat)) ∈ lw_tbl := lw_at lw_m7 16 rfl
theorem q1605 : (Jvm.Cond.methodLink "HintTeam$Table" (76 : Nat) ({ cls := "java/util/List", name := "get", desc := "(I)Ljava/lang/Object;" } : Jvm.MethodName)) ∈ lw_all := lw_g (lw_at lw_m7 17 rfl) rfl
theorem q1606 : (Jvm.Cond.methodLink "HintTeam$Table" (166 : Nat) ({ cls := "java/util/LinkedList", name := "size", desc := "()I" } : Jvm.MethodName)) ∈ lw_all := lw_g (lw_at lw_m7 18 rfl) rfl
theorem q1607 : (Jvm.Cond.methodLink "HintTeam$Table" (167 : Nat) ({ cls := "java/util/LinkedList", name := "get", desc := "(I)Ljava/lang/Object;" } : Jvm.MethodName)) ∈ lw_all := lw_g (lw_at lw_m7 19 rfl) rfl
theorem q1608 : (Jvm.Cond.classLink "HintTeam$Table" (93 : Nat) "HintTeam$Held") ∈ lw_all := lw_g (lw_at lw_m7 20 rfl) rfl
theorem q1609 : (Jvm.Cond.methodLink "HintTeam$Table" (215 : Nat) ({ cls := "HintTeam$Held", name := "isOf", desc := "(II)Z" } : Jvm.MethodName)) ∈ lw_all := lw_g (lw_at lw_m7 21 rfl) rfl
theorem q2026 : (Jvm.Cond.instanceMethod ({ cls := "HintTeam$Table", name := "begins", desc := "()V" } : Jvm.MethodName)) ∈ lw_all := lw_g (lw_at lw_m8 198 rfl) rfl
theorem q2027 : (Jvm.Cond.selects "HintTeam$Table" ({ cls := "HintTeam$Table", name := "begins", desc := "()V" } : Jvm.MethodName) ({ cls := "HintTeam$Table", name := "begins", desc := "()V" } : Jvm.MethodName)) ∈ lw_all := lw_g (lw_at lw_m8 199 rfl) rfl
theorem q2028 : (Jvm.Cond.code ({ cls := "HintTeam$Table", name := "begins", desc := "()V" } : Jvm.MethodName) prog_13_method_3_code (3 : Nat) (Option.none : Option Jvm.ClassFile.FieldType)) ∈ lw_all := lw_g (lw_at lw_m8 200 rfl) rfl
theorem q2029 : (Jvm.Cond.interfaceEntry "HintTeam$Table" (72 : Nat)) ∈ lw_tbl := lw_at lw_m8 201 rfl
theorem q2030 : (Jvm.Cond.methodLink "HintTeam$Table" (72 : Nat) ({ cls := "java/util/List", name := "add", desc := "(Ljava/lang/Object;)Z" } : Jvm.MethodName)) ∈ lw_all := lw_g (lw_at lw_m8 202 rfl) rfl
theorem q2031 : (Jvm.Cond.methodLink "HintTeam$Table" (131 : Nat) ({ cls := "HintTeam$Table", name := "draws", desc := "(I)V" } : Jvm.MethodName)) ∈ lw_all := lw_g (lw_at lw_m8 203 rfl) rfl
theorem q2032 : (Jvm.Cond.privateMethod ({ cls := "HintTeam$Table", name := "draws", desc := "(I)V" } : Jvm.MethodName)) ∈ lw_tbl := lw_at lw_m8 204 rfl
theorem q2033 : (Jvm.Cond.instanceMethod ({ cls := "HintTeam$Table", name := "draws", desc := "(I)V" } : Jvm.MethodName)) ∈ lw_all := lw_g (lw_at lw_m8 205 rfl) rfl
theorem q2034 : (Jvm.Cond.code ({ cls := "HintTeam$Table", name := "draws", desc := "(I)V" } : Jvm.MethodName) prog_13_method_4_code (2 : Nat) (Option.none : Option Jvm.ClassFile.FieldType)) ∈ lw_all := lw_g (lw_at lw_m8 206 rfl) rfl
theorem q2035 : (Jvm.Cond.interfaceEntry "HintTeam$Table" (66 : Nat)) ∈ lw_tbl := lw_at lw_m8 207 rfl
theorem q2036 : (Jvm.Cond.methodLink "HintTeam$Table" (66 : Nat) ({ cls := "java/util/List", name := "size", desc := "()I" } : Jvm.MethodName)) ∈ lw_all := lw_g (lw_at lw_m8 208 rfl) rfl
theorem q2038 : (Jvm.Cond.classLink "HintTeam$Table" (137 : Nat) "HintTeam$Card") ∈ lw_all := lw_g (lw_at lw_m8 210 rfl) rfl
theorem q2039 : (Jvm.Cond.methodLink "HintTeam$Table" (145 : Nat) ({ cls := "HintTeam$Held", name := "<init>", desc := "(LHintTeam$Card;II)V" } : Jvm.MethodName)) ∈ lw_all := lw_g (lw_at lw_m8 211 rfl) rfl
theorem q2045 : (Jvm.Cond.fieldLinkNest "HintTeam$Table" (168 : Nat) "HintTeam$Held" "card" "LHintTeam$Card;" "HintTeam") ∈ lw_tbl := lw_at lw_m8 217 rfl
theorem q2062 : (Jvm.Cond.methodLink "HintTeam$Table" (100 : Nat) ({ cls := "java/util/LinkedList", name := "addLast", desc := "(Ljava/lang/Object;)V" } : Jvm.MethodName)) ∈ lw_all := lw_g (lw_at lw_m8 234 rfl) rfl
theorem q2092 : (Jvm.Cond.instanceMethod ({ cls := "HintTeam$Table", name := "over", desc := "()I" } : Jvm.MethodName)) ∈ lw_all := lw_g (lw_at lw_m9 24 rfl) rfl
theorem q2093 : (Jvm.Cond.selects "HintTeam$Table" ({ cls := "HintTeam$Table", name := "over", desc := "()I" } : Jvm.MethodName) ({ cls := "HintTeam$Table", name := "over", desc := "()I" } : Jvm.MethodName)) ∈ lw_all := lw_g (lw_at lw_m9 25 rfl) rfl
theorem q2094 : (Jvm.Cond.code ({ cls := "HintTeam$Table", name := "over", desc := "()I" } : Jvm.MethodName) prog_13_method_8_code (1 : Nat) (Option.some Jvm.ClassFile.FieldType.int)) ∈ lw_all := lw_g (lw_at lw_m9 26 rfl) rfl
theorem q2095 : (Jvm.Cond.methodLink "HintTeam$Table" (148 : Nat) ({ cls := "HintTeam$Table", name := "areWhole", desc := "()Z" } : Jvm.MethodName)) ∈ lw_all := lw_g (lw_at lw_m9 27 rfl) rfl
theorem q2096 : (Jvm.Cond.privateMethod ({ cls := "HintTeam$Table", name := "areWhole", desc := "()Z" } : Jvm.MethodName)) ∈ lw_tbl := lw_at lw_m9 28 rfl
theorem q2097 : (Jvm.Cond.instanceMethod ({ cls := "HintTeam$Table", name := "areWhole", desc := "()Z" } : Jvm.MethodName)) ∈ lw_all := lw_g (lw_at lw_m9 29 rfl) rfl
theorem q2098 : (Jvm.Cond.code ({ cls := "HintTeam$Table", name := "areWhole", desc := "()Z" } : Jvm.MethodName) prog_13_method_7_code (2 : Nat) (Option.some Jvm.ClassFile.FieldType.boolean)) ∈ lw_all := lw_g (lw_at lw_m9 30 rfl) rfl
theorem q2117 : (Jvm.Cond.instanceMethod ({ cls := "HintTeam$Table", name := "own", desc := "()Ljava/util/LinkedList;" } : Jvm.MethodName)) ∈ lw_all := lw_g (lw_at lw_m9 49 rfl) rfl
theorem q2118 : (Jvm.Cond.selects "HintTeam$Table" ({ cls := "HintTeam$Table", name := "own", desc := "()Ljava/util/LinkedList;" } : Jvm.MethodName) ({ cls := "HintTeam$Table", name := "own", desc := "()Ljava/util/LinkedList;" } : Jvm.MethodName)) ∈ lw_all := lw_g (lw_at lw_m9 50 rfl) rfl
theorem q2119 : (Jvm.Cond.code ({ cls := "HintTeam$Table", name := "own", desc := "()Ljava/util/LinkedList;" } : Jvm.MethodName) prog_13_method_5_code (1 : Nat) (Option.some (Jvm.ClassFile.FieldType.object "java/util/LinkedList"))) ∈ lw_all := lw_g (lw_at lw_m9 51 rfl) rfl
theorem q2152 : (Jvm.Cond.instanceMethod ({ cls := "HintTeam$Table", name := "copy", desc := "()LHintTeam$Table;" } : Jvm.MethodName)) ∈ lw_all := lw_g (lw_at lw_m9 84 rfl) rfl
theorem q2153 : (Jvm.Cond.selects "HintTeam$Table" ({ cls := "HintTeam$Table", name := "copy", desc := "()LHintTeam$Table;" } : Jvm.MethodName) ({ cls := "HintTeam$Table", name := "copy", desc := "()LHintTeam$Table;" } : Jvm.MethodName)) ∈ lw_all := lw_g (lw_at lw_m9 85 rfl) rfl
theorem q2154 : (Jvm.Cond.code ({ cls := "HintTeam$Table", name := "copy", desc := "()LHintTeam$Table;" } : Jvm.MethodName) prog_13_method_2_code (5 : Nat) (Option.some (Jvm.ClassFile.FieldType.object "HintTeam$Table"))) ∈ lw_all := lw_g (lw_at lw_m9 86 rfl) rfl
theorem q2155 : (Jvm.Cond.classLink "HintTeam$Table" (15 : Nat) "HintTeam$Table") ∈ lw_all := lw_g (lw_at lw_m9 87 rfl) rfl
theorem q2156 : (Jvm.Cond.methodLink "HintTeam$Table" (63 : Nat) ({ cls := "HintTeam$Table", name := "<init>", desc := "(LHintTeam$Rules;)V" } : Jvm.MethodName)) ∈ lw_all := lw_g (lw_at lw_m9 88 rfl) rfl
theorem q2157 : (Jvm.Cond.methodLink "HintTeam$Table" (80 : Nat) ({ cls := "java/util/LinkedList", name := "iterator", desc := "()Ljava/util/Iterator;" } : Jvm.MethodName)) ∈ lw_all := lw_g (lw_at lw_m9 89 rfl) rfl
theorem q2161 : (Jvm.Cond.interfaceEntry "HintTeam$Table" (84 : Nat)) ∈ lw_tbl := lw_at lw_m9 93 rfl
theorem q2162 : (Jvm.Cond.methodLink "HintTeam$Table" (84 : Nat) ({ cls := "java/util/Iterator", name := "hasNext", desc := "()Z" } : Jvm.MethodName)) ∈ lw_all := lw_g (lw_at lw_m9 94 rfl) rfl
theorem q2163 : (Jvm.Cond.interfaceEntry "HintTeam$Table" (90 : Nat)) ∈ lw_tbl := lw_at lw_m9 95 rfl
theorem q2164 : (Jvm.Cond.methodLink "HintTeam$Table" (90 : Nat) ({ cls := "java/util/Iterator", name := "next", desc := "()Ljava/lang/Object;" } : Jvm.MethodName)) ∈ lw_all := lw_g (lw_at lw_m9 96 rfl) rfl
theorem q2165 : (Jvm.Cond.methodLink "HintTeam$Table" (95 : Nat) ({ cls := "HintTeam$Held", name := "copy", desc := "()LHintTeam$Held;" } : Jvm.MethodName)) ∈ lw_all := lw_g (lw_at lw_m9 97 rfl) rfl
theorem q2171 : (Jvm.Cond.methodLink "HintTeam$Table" (99 : Nat) ({ cls := "java/util/LinkedList", name := "add", desc := "(Ljava/lang/Object;)Z" } : Jvm.MethodName)) ∈ lw_all := lw_g (lw_at lw_m9 103 rfl) rfl
theorem q2172 : (Jvm.Cond.methodLink "HintTeam$Table" (104 : Nat) ({ cls := "java/lang/System", name := "arraycopy", desc := "(Ljava/lang/Object;ILjava/lang/Object;II)V" } : Jvm.MethodName)) ∈ lw_all := lw_g (lw_at lw_m9 104 rfl) rfl
theorem q2189 : (Jvm.Cond.instanceMethod ({ cls := "HintTeam$Table", name := "pass", desc := "()V" } : Jvm.MethodName)) ∈ lw_all := lw_g (lw_at lw_m9 121 rfl) rfl
theorem q2190 : (Jvm.Cond.selects "HintTeam$Table" ({ cls := "HintTeam$Table", name := "pass", desc := "()V" } : Jvm.MethodName) ({ cls := "HintTeam$Table", name := "pass", desc := "()V" } : Jvm.MethodName)) ∈ lw_all := lw_g (lw_at lw_m9 122 rfl) rfl
theorem q2191 : (Jvm.Cond.code ({ cls := "HintTeam$Table", name := "pass", desc := "()V" } : Jvm.MethodName) prog_13_method_24_code (1 : Nat) (Option.none : Option Jvm.ClassFile.FieldType)) ∈ lw_all := lw_g (lw_at lw_m9 123 rfl) rfl
theorem q2192 : (Jvm.Cond.methodLink "HintTeam$Table" (211 : Nat) ({ cls := "HintTeam$Table", name := "ends", desc := "(IIIZ)V" } : Jvm.MethodName)) ∈ lw_all := lw_g (lw_at lw_m9 124 rfl) rfl
theorem q2193 : (Jvm.Cond.privateMethod ({ cls := "HintTeam$Table", name := "ends", desc := "(IIIZ)V" } : Jvm.MethodName)) ∈ lw_tbl := lw_at lw_m9 125 rfl
theorem q2194 : (Jvm.Cond.instanceMethod ({ cls := "HintTeam$Table", name := "ends", desc := "(IIIZ)V" } : Jvm.MethodName)) ∈ lw_all := lw_g (lw_at lw_m9 126 rfl) rfl
theorem q2195 : (Jvm.Cond.code ({ cls := "HintTeam$Table", name := "ends", desc := "(IIIZ)V" } : Jvm.MethodName) prog_13_method_18_code (6 : Nat) (Option.none : Option Jvm.ClassFile.FieldType)) ∈ lw_all := lw_g (lw_at lw_m9 127 rfl) rfl
theorem q2196 : (Jvm.Cond.methodLink "HintTeam$Table" (188 : Nat) ({ cls := "java/util/LinkedList", name := "removeFirst", desc := "()Ljava/lang/Object;" } : Jvm.MethodName)) ∈ lw_all := lw_g (lw_at lw_m9 128 rfl) rfl
theorem q2240 : (Jvm.Cond.instanceMethod ({ cls := "HintTeam$Table", name := "canBe", desc := "(III)Z" } : Jvm.MethodName)) ∈ lw_all := lw_g (lw_at lw_m9 172 rfl) rfl
theorem q2241 : (Jvm.Cond.selects "HintTeam$Table" ({ cls := "HintTeam$Table", name := "canBe", desc := "(III)Z" } : Jvm.MethodName) ({ cls := "HintTeam$Table", name := "canBe", desc := "(III)Z" } : Jvm.MethodName)) ∈ lw_all := lw_g (lw_at lw_m9 173 rfl) rfl
theorem q2242 : (Jvm.Cond.code ({ cls := "HintTeam$Table", name := "canBe", desc := "(III)Z" } : Jvm.MethodName) prog_13_method_15_code (4 : Nat) (Option.some Jvm.ClassFile.FieldType.boolean)) ∈ lw_all := lw_g (lw_at lw_m9 174 rfl) rfl
theorem q2243 : (Jvm.Cond.methodLink "HintTeam$Table" (178 : Nat) ({ cls := "HintTeam$Table", name := "inHands", desc := "(III)I" } : Jvm.MethodName)) ∈ lw_all := lw_g (lw_at lw_m9 175 rfl) rfl
theorem q2244 : (Jvm.Cond.instanceMethod ({ cls := "HintTeam$Table", name := "inHands", desc := "(III)I" } : Jvm.MethodName)) ∈ lw_all := lw_g (lw_at lw_m9 176 rfl) rfl
theorem q2245 : (Jvm.Cond.selects "HintTeam$Table" ({ cls := "HintTeam$Table", name := "inHands", desc := "(III)I" } : Jvm.MethodName) ({ cls := "HintTeam$Table", name := "inHands", desc := "(III)I" } : Jvm.MethodName)) ∈ lw_all := lw_g (lw_at lw_m9 177 rfl) rfl
theorem q2246 : (Jvm.Cond.code ({ cls := "HintTeam$Table", name := "inHands", desc := "(III)I" } : Jvm.MethodName) prog_13_method_14_code (8 : Nat) (Option.some Jvm.ClassFile.FieldType.int)) ∈ lw_all := lw_g (lw_at lw_m9 178 rfl) rfl
theorem q2247 : (Jvm.Cond.methodLink "HintTeam$Table" (172 : Nat) ({ cls := "HintTeam$Card", name := "color", desc := "()I" } : Jvm.MethodName)) ∈ lw_all := lw_g (lw_at lw_m9 179 rfl) rfl
theorem q2248 : (Jvm.Cond.methodLink "HintTeam$Table" (175 : Nat) ({ cls := "HintTeam$Card", name := "rank", desc := "()I" } : Jvm.MethodName)) ∈ lw_all := lw_g (lw_at lw_m9 180 rfl) rfl
theorem q2249 : (Jvm.Cond.methodLink "HintTeam$Table" (151 : Nat) ({ cls := "HintTeam$Rules", name := "copiesOf", desc := "(II)I" } : Jvm.MethodName)) ∈ lw_all := lw_g (lw_at lw_m9 181 rfl) rfl
theorem q2300 : (Jvm.Cond.instanceMethod ({ cls := "HintTeam$Table", name := "canPlay", desc := "(II)Z" } : Jvm.MethodName)) ∈ lw_all := lw_g (lw_at lw_m9 232 rfl) rfl
theorem q2301 : (Jvm.Cond.selects "HintTeam$Table" ({ cls := "HintTeam$Table", name := "canPlay", desc := "(II)Z" } : Jvm.MethodName) ({ cls := "HintTeam$Table", name := "canPlay", desc := "(II)Z" } : Jvm.MethodName)) ∈ lw_all := lw_g (lw_at lw_m9 233 rfl) rfl
theorem q2302 : (Jvm.Cond.code ({ cls := "HintTeam$Table", name := "canPlay", desc := "(II)Z" } : Jvm.MethodName) prog_13_method_9_code (3 : Nat) (Option.some Jvm.ClassFile.FieldType.boolean)) ∈ lw_all := lw_g (lw_at lw_m9 234 rfl) rfl
theorem q2304 : (Jvm.Cond.instanceMethod ({ cls := "HintTeam$Table", name := "isUseless", desc := "(II)Z" } : Jvm.MethodName)) ∈ lw_all := lw_g (lw_at lw_m9 236 rfl) rfl
theorem q2305 : (Jvm.Cond.selects "HintTeam$Table" ({ cls := "HintTeam$Table", name := "isUseless", desc := "(II)Z" } : Jvm.MethodName) ({ cls := "HintTeam$Table", name := "isUseless", desc := "(II)Z" } : Jvm.MethodName)) ∈ lw_all := lw_g (lw_at lw_m9 237 rfl) rfl
theorem q2306 : (Jvm.Cond.code ({ cls := "HintTeam$Table", name := "isUseless", desc := "(II)Z" } : Jvm.MethodName) prog_13_method_12_code (3 : Nat) (Option.some Jvm.ClassFile.FieldType.boolean)) ∈ lw_all := lw_g (lw_at lw_m9 238 rfl) rfl
theorem q2307 : (Jvm.Cond.methodLink "HintTeam$Table" (159 : Nat) ({ cls := "HintTeam$Table", name := "reach", desc := "(I)I" } : Jvm.MethodName)) ∈ lw_all := lw_g (lw_at lw_m9 239 rfl) rfl
theorem q2308 : (Jvm.Cond.instanceMethod ({ cls := "HintTeam$Table", name := "reach", desc := "(I)I" } : Jvm.MethodName)) ∈ lw_all := lw_g (lw_at lw_m10 0 rfl) rfl
theorem q2309 : (Jvm.Cond.selects "HintTeam$Table" ({ cls := "HintTeam$Table", name := "reach", desc := "(I)I" } : Jvm.MethodName) ({ cls := "HintTeam$Table", name := "reach", desc := "(I)I" } : Jvm.MethodName)) ∈ lw_all := lw_g (lw_at lw_m10 1 rfl) rfl
theorem q2310 : (Jvm.Cond.code ({ cls := "HintTeam$Table", name := "reach", desc := "(I)I" } : Jvm.MethodName) prog_13_method_11_code (3 : Nat) (Option.some Jvm.ClassFile.FieldType.int)) ∈ lw_all := lw_g (lw_at lw_m10 2 rfl) rfl
theorem q2311 : (Jvm.Cond.methodLink "HintTeam$Table" (155 : Nat) ({ cls := "HintTeam$Table", name := "isGone", desc := "(II)Z" } : Jvm.MethodName)) ∈ lw_all := lw_g (lw_at lw_m10 3 rfl) rfl
theorem q2312 : (Jvm.Cond.privateMethod ({ cls := "HintTeam$Table", name := "isGone", desc := "(II)Z" } : Jvm.MethodName)) ∈ lw_tbl := lw_at lw_m10 4 rfl
theorem q2313 : (Jvm.Cond.instanceMethod ({ cls := "HintTeam$Table", name := "isGone", desc := "(II)Z" } : Jvm.MethodName)) ∈ lw_all := lw_g (lw_at lw_m10 5 rfl) rfl
theorem q2314 : (Jvm.Cond.code ({ cls := "HintTeam$Table", name := "isGone", desc := "(II)Z" } : Jvm.MethodName) prog_13_method_10_code (3 : Nat) (Option.some Jvm.ClassFile.FieldType.boolean)) ∈ lw_all := lw_g (lw_at lw_m10 6 rfl) rfl
theorem q2389 : (Jvm.Cond.instanceMethod ({ cls := "HintTeam$Table", name := "play", desc := "(I)V" } : Jvm.MethodName)) ∈ lw_all := lw_g (lw_at lw_m10 81 rfl) rfl
theorem q2390 : (Jvm.Cond.selects "HintTeam$Table" ({ cls := "HintTeam$Table", name := "play", desc := "(I)V" } : Jvm.MethodName) ({ cls := "HintTeam$Table", name := "play", desc := "(I)V" } : Jvm.MethodName)) ∈ lw_all := lw_g (lw_at lw_m10 82 rfl) rfl
theorem q2391 : (Jvm.Cond.code ({ cls := "HintTeam$Table", name := "play", desc := "(I)V" } : Jvm.MethodName) prog_13_method_19_code (4 : Nat) (Option.none : Option Jvm.ClassFile.FieldType)) ∈ lw_all := lw_g (lw_at lw_m10 83 rfl) rfl
theorem q2392 : (Jvm.Cond.methodLink "HintTeam$Table" (191 : Nat) ({ cls := "HintTeam$Table", name := "own", desc := "()Ljava/util/LinkedList;" } : Jvm.MethodName)) ∈ lw_all := lw_g (lw_at lw_m10 84 rfl) rfl
theorem q2393 : (Jvm.Cond.methodLink "HintTeam$Table" (195 : Nat) ({ cls := "java/util/LinkedList", name := "remove", desc := "(I)Ljava/lang/Object;" } : Jvm.MethodName)) ∈ lw_all := lw_g (lw_at lw_m10 85 rfl) rfl
theorem q2401 : (Jvm.Cond.methodLink "HintTeam$Table" (198 : Nat) ({ cls := "HintTeam$Table", name := "canPlay", desc := "(II)Z" } : Jvm.MethodName)) ∈ lw_all := lw_g (lw_at lw_m10 93 rfl) rfl
theorem q2402 : (Jvm.Cond.methodLink "HintTeam$Table" (201 : Nat) ({ cls := "HintTeam$Table", name := "comesBack", desc := "()V" } : Jvm.MethodName)) ∈ lw_all := lw_g (lw_at lw_m10 94 rfl) rfl
theorem q2403 : (Jvm.Cond.privateMethod ({ cls := "HintTeam$Table", name := "comesBack", desc := "()V" } : Jvm.MethodName)) ∈ lw_tbl := lw_at lw_m10 95 rfl
theorem q2404 : (Jvm.Cond.instanceMethod ({ cls := "HintTeam$Table", name := "comesBack", desc := "()V" } : Jvm.MethodName)) ∈ lw_all := lw_g (lw_at lw_m10 96 rfl) rfl
theorem q2405 : (Jvm.Cond.code ({ cls := "HintTeam$Table", name := "comesBack", desc := "()V" } : Jvm.MethodName) prog_13_method_16_code (1 : Nat) (Option.none : Option Jvm.ClassFile.FieldType)) ∈ lw_all := lw_g (lw_at lw_m10 97 rfl) rfl
theorem q2406 : (Jvm.Cond.methodLink "HintTeam$Table" (204 : Nat) ({ cls := "HintTeam$Table", name := "goes", desc := "(LHintTeam$Card;)V" } : Jvm.MethodName)) ∈ lw_all := lw_g (lw_at lw_m10 98 rfl) rfl
theorem q2407 : (Jvm.Cond.privateMethod ({ cls := "HintTeam$Table", name := "goes", desc := "(LHintTeam$Card;)V" } : Jvm.MethodName)) ∈ lw_tbl := lw_at lw_m10 99 rfl
theorem q2408 : (Jvm.Cond.instanceMethod ({ cls := "HintTeam$Table", name := "goes", desc := "(LHintTeam$Card;)V" } : Jvm.MethodName)) ∈ lw_all := lw_g (lw_at lw_m10 100 rfl) rfl
theorem q2409 : (Jvm.Cond.code ({ cls := "HintTeam$Table", name := "goes", desc := "(LHintTeam$Card;)V" } : Jvm.MethodName) prog_13_method_17_code (2 : Nat) (Option.none : Option Jvm.ClassFile.FieldType)) ∈ lw_all := lw_g (lw_at lw_m10 101 rfl) rfl
theorem q2410 : (Jvm.Cond.methodLink "HintTeam$Table" (185 : Nat) ({ cls := "HintTeam$Table", name := "isCritical", desc := "(II)Z" } : Jvm.MethodName)) ∈ lw_all := lw_g (lw_at lw_m10 102 rfl) rfl
theorem q2411 : (Jvm.Cond.instanceMethod ({ cls := "HintTeam$Table", name := "isCritical", desc := "(II)Z" } : Jvm.MethodName)) ∈ lw_all := lw_g (lw_at lw_m10 103 rfl) rfl
theorem q2412 : (Jvm.Cond.selects "HintTeam$Table" ({ cls := "HintTeam$Table", name := "isCritical", desc := "(II)Z" } : Jvm.MethodName) ({ cls := "HintTeam$Table", name := "isCritical", desc := "(II)Z" } : Jvm.MethodName)) ∈ lw_all := lw_g (lw_at lw_m10 104 rfl) rfl
theorem q2413 : (Jvm.Cond.code ({ cls := "HintTeam$Table", name := "isCritical", desc := "(II)Z" } : Jvm.MethodName) prog_13_method_13_code (3 : Nat) (Option.some Jvm.ClassFile.FieldType.boolean)) ∈ lw_all := lw_g (lw_at lw_m10 105 rfl) rfl
theorem q2414 : (Jvm.Cond.methodLink "HintTeam$Table" (163 : Nat) ({ cls := "HintTeam$Table", name := "isUseless", desc := "(II)Z" } : Jvm.MethodName)) ∈ lw_all := lw_g (lw_at lw_m10 106 rfl) rfl
theorem q2415 : (Jvm.Cond.methodLink "HintTeam$Table" (208 : Nat) ({ cls := "HintTeam$Card", name := "told", desc := "()I" } : Jvm.MethodName)) ∈ lw_all := lw_g (lw_at lw_m10 107 rfl) rfl
theorem q2417 : (Jvm.Cond.instanceMethod ({ cls := "HintTeam$Table", name := "discard", desc := "(I)V" } : Jvm.MethodName)) ∈ lw_all := lw_g (lw_at lw_m10 109 rfl) rfl
theorem q2418 : (Jvm.Cond.selects "HintTeam$Table" ({ cls := "HintTeam$Table", name := "discard", desc := "(I)V" } : Jvm.MethodName) ({ cls := "HintTeam$Table", name := "discard", desc := "(I)V" } : Jvm.MethodName)) ∈ lw_all := lw_g (lw_at lw_m10 110 rfl) rfl
theorem q2419 : (Jvm.Cond.code ({ cls := "HintTeam$Table", name := "discard", desc := "(I)V" } : Jvm.MethodName) prog_13_method_20_code (3 : Nat) (Option.none : Option Jvm.ClassFile.FieldType)) ∈ lw_all := lw_g (lw_at lw_m10 111 rfl) rfl
theorem q2428 : (Jvm.Cond.instanceMethod ({ cls := "HintTeam$Table", name := "hint", desc := "(III)I" } : Jvm.MethodName)) ∈ lw_all := lw_g (lw_at lw_m10 120 rfl) rfl
theorem q2429 : (Jvm.Cond.selects "HintTeam$Table" ({ cls := "HintTeam$Table", name := "hint", desc := "(III)I" } : Jvm.MethodName) ({ cls := "HintTeam$Table", name := "hint", desc := "(III)I" } : Jvm.MethodName)) ∈ lw_all := lw_g (lw_at lw_m10 121 rfl) rfl
theorem q2430 : (Jvm.Cond.code ({ cls := "HintTeam$Table", name := "hint", desc := "(III)I" } : Jvm.MethodName) prog_13_method_23_code (6 : Nat) (Option.some Jvm.ClassFile.FieldType.int)) ∈ lw_all := lw_g (lw_at lw_m10 122 rfl) rfl
theorem q2431 : (Jvm.Cond.methodLink "HintTeam$Table" (221 : Nat) ({ cls := "java/lang/Integer", name := "bitCount", desc := "(I)I" } : Jvm.MethodName)) ∈ lw_all := lw_g (lw_at lw_m10 123 rfl) rfl
theorem q2437 : (Jvm.Cond.methodLink "HintTeam$Table" (226 : Nat) ({ cls := "HintTeam$Held", name := "isTold", desc := "(II)V" } : Jvm.MethodName)) ∈ lw_all := lw_g (lw_at lw_m10 129 rfl) rfl
theorem q2445 : (Jvm.Cond.instanceMethod ({ cls := "HintTeam$Table", name := "score", desc := "()I" } : Jvm.MethodName)) ∈ lw_all := lw_g (lw_at lw_m10 137 rfl) rfl
theorem q2446 : (Jvm.Cond.selects "HintTeam$Table" ({ cls := "HintTeam$Table", name := "score", desc := "()I" } : Jvm.MethodName) ({ cls := "HintTeam$Table", name := "score", desc := "()I" } : Jvm.MethodName)) ∈ lw_all := lw_g (lw_at lw_m10 138 rfl) rfl
theorem q2447 : (Jvm.Cond.code ({ cls := "HintTeam$Table", name := "score", desc := "()I" } : Jvm.MethodName) prog_13_method_6_code (6 : Nat) (Option.some Jvm.ClassFile.FieldType.int)) ∈ lw_all := lw_g (lw_at lw_m10 139 rfl) rfl
theorem q3624 : (Jvm.Cond.castable "HintTeam$Table" "java/lang/Object") ∈ lw_tbl := lw_at lw_m15 116 rfl
theorem in_X2 : ∀ w ∈ wsX20, w ∈ lw_all := lw_in wsX20 [739, 741, 743, 745, 747, 749, 751, 753, 755, 757, 759, 761, 763] (by decide +kernel) (by decide +kernel)
/-! HintTeam$Rules -/
def RX3 : String := "HintTeam$Rules"
def TX3 : u_T := fun k => match k with
  | 0 => ("HintTeam$Rules", "colors", "I", false)
  | 1 => ("HintTeam$Rules", "ranks", "I", false)
  | 2 => ("HintTeam$Rules", "players", "I", false)
  | 3 => ("HintTeam$Rules", "hand", "I", false)
  | 4 => ("HintTeam$Rules", "most", "I", false)
  | 5 => ("HintTeam$Rules", "start", "I", false)
  | 6 => ("HintTeam$Rules", "lives", "I", false)
  | 7 => ("HintTeam$Rules", "deck", "Ljava/util/List;", true)
  | 8 => ("HintTeam$Rules", "copies", "Ljava/util/TreeMap;", true)
  | _ => ("HintTeam$Rules", "times", "[[I", true)
def tyX3 : Nat → FieldType := fun k => match k with
  | 0 => .int
  | 1 => .int
  | 2 => .int
  | 3 => .int
  | 4 => .int
  | 5 => .int
  | 6 => .int
  | 7 => .object "java/util/List"
  | 8 => .object "java/util/TreeMap"
  | _ => .array (.array .int)
abbrev wsX30 : List Cond := u_ws RX3 TX3 10
theorem nmX3 : ∀ a, a < 10 → ∀ b, b < 10 → a ≠ b → (TX3 a).2.1 ≠ (TX3 b).2.1 := by decide +kernel
theorem tyX3_ok : ∀ k, k < 10 → parseFieldDescriptor (TX3 k).2.2.1 = some (tyX3 k) := by decide +kernel
abbrev cX3_init : ByteArray := prog_12_method_1_code
def yX3_init : MethodName := ⟨RX3, "<init>", "()V"⟩
abbrev cX3_firstValue : ByteArray := prog_12_method_4_code
def yX3_firstValue : MethodName := ⟨RX3, "firstValue", "(I)I"⟩
abbrev cX3_lastValue : ByteArray := prog_12_method_5_code
def yX3_lastValue : MethodName := ⟨RX3, "lastValue", "(I)I"⟩
abbrev cX3_counts : ByteArray := prog_12_method_2_code
def yX3_counts : MethodName := ⟨RX3, "counts", "()V"⟩
abbrev cX3_copiesOf : ByteArray := prog_12_method_3_code
def yX3_copiesOf : MethodName := ⟨RX3, "copiesOf", "(II)I"⟩
abbrev cX3_isWord : ByteArray := prog_12_method_6_code
def yX3_isWord : MethodName := ⟨RX3, "isWord", "(II)Z"⟩
theorem q151 : (Jvm.Cond.initialized "HintTeam$Rules") ∈ lw_all := lw_g (lw_at lw_m1 3 rfl) rfl
theorem q216 : (Jvm.Cond.instantiable "HintTeam$Rules" (10 : Nat)) ∈ lw_all := lw_g (lw_at lw_m1 68 rfl) rfl
theorem q218 : (Jvm.Cond.instanceMethod ({ cls := "HintTeam$Rules", name := "<init>", desc := "()V" } : Jvm.MethodName)) ∈ lw_all := lw_g (lw_at lw_m1 70 rfl) rfl
theorem q219 : (Jvm.Cond.code ({ cls := "HintTeam$Rules", name := "<init>", desc := "()V" } : Jvm.MethodName) prog_12_method_1_code (3 : Nat) (Option.none : Option Jvm.ClassFile.FieldType)) ∈ lw_all := lw_g (lw_at lw_m1 71 rfl) rfl
theorem q220 : (Jvm.Cond.methodLink "HintTeam$Rules" (3 : Nat) ({ cls := "java/lang/Object", name := "<init>", desc := "()V" } : Jvm.MethodName)) ∈ lw_all := lw_g (lw_at lw_m1 72 rfl) rfl
theorem q221 : (Jvm.Cond.classLink "HintTeam$Rules" (21 : Nat) "java/util/ArrayList") ∈ lw_all := lw_g (lw_at lw_m1 73 rfl) rfl
theorem q223 : (Jvm.Cond.methodLink "HintTeam$Rules" (23 : Nat) ({ cls := "java/util/ArrayList", name := "<init>", desc := "()V" } : Jvm.MethodName)) ∈ lw_all := lw_g (lw_at lw_m1 75 rfl) rfl
theorem q254 : (Jvm.Cond.classLink "HintTeam$Rules" (28 : Nat) "java/util/TreeMap") ∈ lw_all := lw_g (lw_at lw_m1 106 rfl) rfl
theorem q256 : (Jvm.Cond.methodLink "HintTeam$Rules" (30 : Nat) ({ cls := "java/util/TreeMap", name := "<init>", desc := "()V" } : Jvm.MethodName)) ∈ lw_all := lw_g (lw_at lw_m1 108 rfl) rfl
theorem q286 : (Jvm.Cond.classLink "HintTeam$Rules" (35 : Nat) "[[I") ∈ lw_all := lw_g (lw_at lw_m1 138 rfl) rfl
theorem q289 : (Jvm.Cond.fieldLink "HintTeam$Rules" (79 : Nat) "HintTeam$Rules" "colors" "I") ∈ lw_all := lw_g (lw_at lw_m1 141 rfl) rfl
theorem q294 : (Jvm.Cond.fieldLink "HintTeam$Rules" (82 : Nat) "HintTeam$Rules" "ranks" "I") ∈ lw_all := lw_g (lw_at lw_m1 146 rfl) rfl
theorem q306 : (Jvm.Cond.fieldLink "HintTeam$Rules" (9 : Nat) "HintTeam$Rules" "most" "I") ∈ lw_all := lw_g (lw_at lw_m1 158 rfl) rfl
theorem q310 : (Jvm.Cond.fieldLink "HintTeam$Rules" (15 : Nat) "HintTeam$Rules" "start" "I") ∈ lw_all := lw_g (lw_at lw_m1 162 rfl) rfl
theorem q313 : (Jvm.Cond.fieldLink "HintTeam$Rules" (18 : Nat) "HintTeam$Rules" "lives" "I") ∈ lw_all := lw_g (lw_at lw_m1 165 rfl) rfl
theorem q316 : (Jvm.Cond.fieldLink "HintTeam$Rules" (24 : Nat) "HintTeam$Rules" "deck" "Ljava/util/List;") ∈ lw_all := lw_g (lw_at lw_m1 168 rfl) rfl
theorem q321 : (Jvm.Cond.fieldLink "HintTeam$Rules" (31 : Nat) "HintTeam$Rules" "copies" "Ljava/util/TreeMap;") ∈ lw_all := lw_g (lw_at lw_m1 173 rfl) rfl
theorem q322 : (Jvm.Cond.fieldLink "HintTeam$Rules" (37 : Nat) "HintTeam$Rules" "times" "[[I") ∈ lw_all := lw_g (lw_at lw_m1 174 rfl) rfl
theorem q325 : (Jvm.Cond.lays "HintTeam$Rules" "HintTeam$Rules" "colors" "I") ∈ lw_all := lw_g (lw_at lw_m1 177 rfl) rfl
theorem q326 : (Jvm.Cond.soleField "HintTeam$Rules" "colors") ∈ lw_all := lw_g (lw_at lw_m1 178 rfl) rfl
theorem q327 : (Jvm.Cond.lays "HintTeam$Rules" "HintTeam$Rules" "ranks" "I") ∈ lw_all := lw_g (lw_at lw_m1 179 rfl) rfl
theorem q328 : (Jvm.Cond.soleField "HintTeam$Rules" "ranks") ∈ lw_all := lw_g (lw_at lw_m1 180 rfl) rfl
theorem q329 : (Jvm.Cond.lays "HintTeam$Rules" "HintTeam$Rules" "players" "I") ∈ lw_all := lw_g (lw_at lw_m1 181 rfl) rfl
theorem q330 : (Jvm.Cond.soleField "HintTeam$Rules" "players") ∈ lw_all := lw_g (lw_at lw_m1 182 rfl) rfl
theorem q331 : (Jvm.Cond.lays "HintTeam$Rules" "HintTeam$Rules" "hand" "I") ∈ lw_all := lw_g (lw_at lw_m1 183 rfl) rfl
theorem q332 : (Jvm.Cond.soleField "HintTeam$Rules" "hand") ∈ lw_all := lw_g (lw_at lw_m1 184 rfl) rfl
theorem q333 : (Jvm.Cond.lays "HintTeam$Rules" "HintTeam$Rules" "most" "I") ∈ lw_all := lw_g (lw_at lw_m1 185 rfl) rfl
theorem q334 : (Jvm.Cond.soleField "HintTeam$Rules" "most") ∈ lw_all := lw_g (lw_at lw_m1 186 rfl) rfl
theorem q335 : (Jvm.Cond.lays "HintTeam$Rules" "HintTeam$Rules" "start" "I") ∈ lw_all := lw_g (lw_at lw_m1 187 rfl) rfl
theorem q336 : (Jvm.Cond.soleField "HintTeam$Rules" "start") ∈ lw_all := lw_g (lw_at lw_m1 188 rfl) rfl
theorem q337 : (Jvm.Cond.lays "HintTeam$Rules" "HintTeam$Rules" "lives" "I") ∈ lw_all := lw_g (lw_at lw_m1 189 rfl) rfl
theorem q338 : (Jvm.Cond.soleField "HintTeam$Rules" "lives") ∈ lw_all := lw_g (lw_at lw_m1 190 rfl) rfl
theorem q339 : (Jvm.Cond.laysFinal "HintTeam$Rules" "HintTeam$Rules" "deck" "Ljava/util/List;") ∈ lw_all := lw_g (lw_at lw_m1 191 rfl) rfl
theorem q340 : (Jvm.Cond.soleField "HintTeam$Rules" "deck") ∈ lw_all := lw_g (lw_at lw_m1 192 rfl) rfl
theorem q341 : (Jvm.Cond.laysFinal "HintTeam$Rules" "HintTeam$Rules" "copies" "Ljava/util/TreeMap;") ∈ lw_all := lw_g (lw_at lw_m1 193 rfl) rfl
theorem q342 : (Jvm.Cond.soleField "HintTeam$Rules" "copies") ∈ lw_all := lw_g (lw_at lw_m1 194 rfl) rfl
theorem q343 : (Jvm.Cond.laysFinal "HintTeam$Rules" "HintTeam$Rules" "times" "[[I") ∈ lw_all := lw_g (lw_at lw_m1 195 rfl) rfl
theorem q344 : (Jvm.Cond.soleField "HintTeam$Rules" "times") ∈ lw_all := lw_g (lw_at lw_m1 196 rfl) rfl
theorem q345 : (Jvm.Cond.superclass "HintTeam$Rules" "java/lang/Object") ∈ lw_all := lw_g (lw_at lw_m1 197 rfl) rfl
theorem q1203 : (Jvm.Cond.selects "HintTeam$Rules" ({ cls := "java/lang/Object", name := "getClass", desc := "()Ljava/lang/Class;" } : Jvm.MethodName) ({ cls := "java/lang/Object", name := "getClass", desc := "()Ljava/lang/Class;" } : Jvm.MethodName)) ∈ lw_all := lw_g (lw_at lw_m5 95 rfl) rfl
theorem q1273 : (Jvm.Cond.instanceMethod ({ cls := "HintTeam$Rules", name := "firstValue", desc := "(I)I" } : Jvm.MethodName)) ∈ lw_all := lw_g (lw_at lw_m5 165 rfl) rfl
theorem q1274 : (Jvm.Cond.selects "HintTeam$Rules" ({ cls := "HintTeam$Rules", name := "firstValue", desc := "(I)I" } : Jvm.MethodName) ({ cls := "HintTeam$Rules", name := "firstValue", desc := "(I)I" } : Jvm.MethodName)) ∈ lw_all := lw_g (lw_at lw_m5 166 rfl) rfl
theorem q1275 : (Jvm.Cond.code ({ cls := "HintTeam$Rules", name := "firstValue", desc := "(I)I" } : Jvm.MethodName) prog_12_method_4_code (2 : Nat) (Option.some Jvm.ClassFile.FieldType.int)) ∈ lw_all := lw_g (lw_at lw_m5 167 rfl) rfl
theorem q1277 : (Jvm.Cond.instanceMethod ({ cls := "HintTeam$Rules", name := "lastValue", desc := "(I)I" } : Jvm.MethodName)) ∈ lw_all := lw_g (lw_at lw_m5 169 rfl) rfl
theorem q1278 : (Jvm.Cond.selects "HintTeam$Rules" ({ cls := "HintTeam$Rules", name := "lastValue", desc := "(I)I" } : Jvm.MethodName) ({ cls := "HintTeam$Rules", name := "lastValue", desc := "(I)I" } : Jvm.MethodName)) ∈ lw_all := lw_g (lw_at lw_m5 170 rfl) rfl
theorem q1279 : (Jvm.Cond.code ({ cls := "HintTeam$Rules", name := "lastValue", desc := "(I)I" } : Jvm.MethodName) prog_12_method_5_code (2 : Nat) (Option.some Jvm.ClassFile.FieldType.int)) ∈ lw_all := lw_g (lw_at lw_m5 171 rfl) rfl
theorem q1380 : (Jvm.Cond.instanceMethod ({ cls := "HintTeam$Rules", name := "counts", desc := "()V" } : Jvm.MethodName)) ∈ lw_all := lw_g (lw_at lw_m6 32 rfl) rfl
theorem q1381 : (Jvm.Cond.selects "HintTeam$Rules" ({ cls := "HintTeam$Rules", name := "counts", desc := "()V" } : Jvm.MethodName) ({ cls := "HintTeam$Rules", name := "counts", desc := "()V" } : Jvm.MethodName)) ∈ lw_all := lw_g (lw_at lw_m6 33 rfl) rfl
theorem q1382 : (Jvm.Cond.code ({ cls := "HintTeam$Rules", name := "counts", desc := "()V" } : Jvm.MethodName) prog_12_method_2_code (4 : Nat) (Option.none : Option Jvm.ClassFile.FieldType)) ∈ lw_all := lw_g (lw_at lw_m6 34 rfl) rfl
theorem q1383 : (Jvm.Cond.interfaceEntry "HintTeam$Rules" (40 : Nat)) ∈ lw_tbl := lw_at lw_m6 35 rfl
theorem q1384 : (Jvm.Cond.methodLink "HintTeam$Rules" (40 : Nat) ({ cls := "java/util/List", name := "iterator", desc := "()Ljava/util/Iterator;" } : Jvm.MethodName)) ∈ lw_all := lw_g (lw_at lw_m6 36 rfl) rfl
theorem q1491 : (Jvm.Cond.interfaceEntry "HintTeam$Rules" (46 : Nat)) ∈ lw_tbl := lw_at lw_m6 143 rfl
theorem q1492 : (Jvm.Cond.methodLink "HintTeam$Rules" (46 : Nat) ({ cls := "java/util/Iterator", name := "hasNext", desc := "()Z" } : Jvm.MethodName)) ∈ lw_all := lw_g (lw_at lw_m6 144 rfl) rfl
theorem q1527 : (Jvm.Cond.interfaceEntry "HintTeam$Rules" (52 : Nat)) ∈ lw_tbl := lw_at lw_m6 179 rfl
theorem q1528 : (Jvm.Cond.methodLink "HintTeam$Rules" (52 : Nat) ({ cls := "java/util/Iterator", name := "next", desc := "()Ljava/lang/Object;" } : Jvm.MethodName)) ∈ lw_all := lw_g (lw_at lw_m6 180 rfl) rfl
theorem q1702 : (Jvm.Cond.classLink "HintTeam$Rules" (56 : Nat) "HintTeam$Card") ∈ lw_all := lw_g (lw_at lw_m7 114 rfl) rfl
theorem q1703 : (Jvm.Cond.methodLink "HintTeam$Rules" (58 : Nat) ({ cls := "HintTeam$Card", name := "told", desc := "()I" } : Jvm.MethodName)) ∈ lw_all := lw_g (lw_at lw_m7 115 rfl) rfl
theorem q1707 : (Jvm.Cond.methodLink "HintTeam$Rules" (62 : Nat) ({ cls := "java/lang/Integer", name := "valueOf", desc := "(I)Ljava/lang/Integer;" } : Jvm.MethodName)) ∈ lw_all := lw_g (lw_at lw_m7 119 rfl) rfl
theorem q1727 : (Jvm.Cond.methodLink "HintTeam$Rules" (68 : Nat) ({ cls := "java/util/TreeMap", name := "get", desc := "(Ljava/lang/Object;)Ljava/lang/Object;" } : Jvm.MethodName)) ∈ lw_all := lw_g (lw_at lw_m7 139 rfl) rfl
theorem q1942 : (Jvm.Cond.classLink "HintTeam$Rules" (63 : Nat) "java/lang/Integer") ∈ lw_all := lw_g (lw_at lw_m8 114 rfl) rfl
theorem q1943 : (Jvm.Cond.methodLink "HintTeam$Rules" (72 : Nat) ({ cls := "java/lang/Integer", name := "intValue", desc := "()I" } : Jvm.MethodName)) ∈ lw_all := lw_g (lw_at lw_m8 115 rfl) rfl
theorem q1947 : (Jvm.Cond.methodLink "HintTeam$Rules" (75 : Nat) ({ cls := "java/util/TreeMap", name := "put", desc := "(Ljava/lang/Object;Ljava/lang/Object;)Ljava/lang/Object;" } : Jvm.MethodName)) ∈ lw_all := lw_g (lw_at lw_m8 119 rfl) rfl
theorem q2250 : (Jvm.Cond.instanceMethod ({ cls := "HintTeam$Rules", name := "copiesOf", desc := "(II)I" } : Jvm.MethodName)) ∈ lw_all := lw_g (lw_at lw_m9 182 rfl) rfl
theorem q2251 : (Jvm.Cond.selects "HintTeam$Rules" ({ cls := "HintTeam$Rules", name := "copiesOf", desc := "(II)I" } : Jvm.MethodName) ({ cls := "HintTeam$Rules", name := "copiesOf", desc := "(II)I" } : Jvm.MethodName)) ∈ lw_all := lw_g (lw_at lw_m9 183 rfl) rfl
theorem q2252 : (Jvm.Cond.code ({ cls := "HintTeam$Rules", name := "copiesOf", desc := "(II)I" } : Jvm.MethodName) prog_12_method_3_code (4 : Nat) (Option.some Jvm.ClassFile.FieldType.int)) ∈ lw_all := lw_g (lw_at lw_m9 184 rfl) rfl
theorem q2753 : (Jvm.Cond.instanceMethod ({ cls := "HintTeam$Rules", name := "isWord", desc := "(II)Z" } : Jvm.MethodName)) ∈ lw_all := lw_g (lw_at lw_m11 205 rfl) rfl
theorem q2754 : (Jvm.Cond.selects "HintTeam$Rules" ({ cls := "HintTeam$Rules", name := "isWord", desc := "(II)Z" } : Jvm.MethodName) ({ cls := "HintTeam$Rules", name := "isWord", desc := "(II)Z" } : Jvm.MethodName)) ∈ lw_all := lw_g (lw_at lw_m11 206 rfl) rfl
theorem q2755 : (Jvm.Cond.code ({ cls := "HintTeam$Rules", name := "isWord", desc := "(II)Z" } : Jvm.MethodName) prog_12_method_6_code (3 : Nat) (Option.some Jvm.ClassFile.FieldType.boolean)) ∈ lw_all := lw_g (lw_at lw_m11 207 rfl) rfl
theorem q2756 : (Jvm.Cond.methodLinkNest "HintTeam$Rules" (85 : Nat) ({ cls := "HintTeam", name := "inRange", desc := "(JJJ)Z" } : Jvm.MethodName) "HintTeam") ∈ lw_tbl := lw_at lw_m11 208 rfl
theorem q2757 : (Jvm.Cond.methodLink "HintTeam$Rules" (89 : Nat) ({ cls := "HintTeam$Rules", name := "firstValue", desc := "(I)I" } : Jvm.MethodName)) ∈ lw_all := lw_g (lw_at lw_m11 209 rfl) rfl
theorem q2758 : (Jvm.Cond.methodLink "HintTeam$Rules" (93 : Nat) ({ cls := "HintTeam$Rules", name := "lastValue", desc := "(I)I" } : Jvm.MethodName)) ∈ lw_all := lw_g (lw_at lw_m11 210 rfl) rfl
theorem q3626 : (Jvm.Cond.castable "HintTeam$Rules" "java/lang/Object") ∈ lw_tbl := lw_at lw_m15 118 rfl
theorem in_X3 : ∀ w ∈ wsX30, w ∈ lw_all := lw_in wsX30 [325, 327, 329, 331, 333, 335, 337, 339, 341, 343] (by decide +kernel) (by decide +kernel)
/-! java/util/AbstractCollection -/
def RJ0 : String := "java/util/AbstractCollection"
abbrev cJ0_init : ByteArray := prog_44_method_1_code
def yJ0_init : MethodName := ⟨RJ0, "<init>", "()V"⟩
abbrev cJ0_isEmpty : ByteArray := prog_44_method_4_code
def yJ0_isEmpty : MethodName := ⟨RJ0, "isEmpty", "()Z"⟩
theorem q152 : (Jvm.Cond.initialized "java/util/AbstractCollection") ∈ lw_all := lw_g (lw_at lw_m1 4 rfl) rfl
theorem q230 : (Jvm.Cond.instanceMethod ({ cls := "java/util/AbstractCollection", name := "<init>", desc := "()V" } : Jvm.MethodName)) ∈ lw_all := lw_g (lw_at lw_m1 82 rfl) rfl
theorem q231 : (Jvm.Cond.code ({ cls := "java/util/AbstractCollection", name := "<init>", desc := "()V" } : Jvm.MethodName) prog_44_method_1_code (1 : Nat) (Option.none : Option Jvm.ClassFile.FieldType)) ∈ lw_all := lw_g (lw_at lw_m1 83 rfl) rfl
theorem q232 : (Jvm.Cond.methodLink "java/util/AbstractCollection" (1 : Nat) ({ cls := "java/lang/Object", name := "<init>", desc := "()V" } : Jvm.MethodName)) ∈ lw_all := lw_g (lw_at lw_m1 84 rfl) rfl
theorem q1509 : (Jvm.Cond.declares ({ cls := "java/util/AbstractCollection", name := "size", desc := "()I" } : Jvm.MethodName)) ∈ lw_tbl := lw_at lw_m6 161 rfl
theorem q2122 : (Jvm.Cond.declares ({ cls := "java/util/AbstractCollection", name := "isEmpty", desc := "()Z" } : Jvm.MethodName)) ∈ lw_tbl := lw_at lw_m9 54 rfl
theorem q2124 : (Jvm.Cond.instanceMethod ({ cls := "java/util/AbstractCollection", name := "isEmpty", desc := "()Z" } : Jvm.MethodName)) ∈ lw_all := lw_g (lw_at lw_m9 56 rfl) rfl
theorem q2125 : (Jvm.Cond.code ({ cls := "java/util/AbstractCollection", name := "isEmpty", desc := "()Z" } : Jvm.MethodName) prog_44_method_4_code (1 : Nat) (Option.some Jvm.ClassFile.FieldType.boolean)) ∈ lw_all := lw_g (lw_at lw_m9 57 rfl) rfl
theorem q2126 : (Jvm.Cond.methodLink "java/util/AbstractCollection" (7 : Nat) ({ cls := "java/util/AbstractCollection", name := "size", desc := "()I" } : Jvm.MethodName)) ∈ lw_all := lw_g (lw_at lw_m9 58 rfl) rfl
theorem q3612 : (Jvm.Cond.sameMethod "java/util/AbstractCollection" "java/util/AbstractCollection" "size" "()I") ∈ lw_all := lw_g (lw_at lw_m15 104 rfl) rfl
/-! java/util/AbstractList -/
def RJ1 : String := "java/util/AbstractList"
abbrev cJ1_init : ByteArray := prog_45_method_1_code
def yJ1_init : MethodName := ⟨RJ1, "<init>", "()V"⟩
abbrev cJ1_listIterator : ByteArray := prog_45_method_12_code
def yJ1_listIterator : MethodName := ⟨RJ1, "listIterator", "()Ljava/util/ListIterator;"⟩
theorem q153 : (Jvm.Cond.initialized "java/util/AbstractList") ∈ lw_all := lw_g (lw_at lw_m1 5 rfl) rfl
theorem q227 : (Jvm.Cond.instanceMethod ({ cls := "java/util/AbstractList", name := "<init>", desc := "()V" } : Jvm.MethodName)) ∈ lw_all := lw_g (lw_at lw_m1 79 rfl) rfl
theorem q228 : (Jvm.Cond.code ({ cls := "java/util/AbstractList", name := "<init>", desc := "()V" } : Jvm.MethodName) prog_45_method_1_code (1 : Nat) (Option.none : Option Jvm.ClassFile.FieldType)) ∈ lw_all := lw_g (lw_at lw_m1 80 rfl) rfl
theorem q229 : (Jvm.Cond.methodLink "java/util/AbstractList" (1 : Nat) ({ cls := "java/util/AbstractCollection", name := "<init>", desc := "()V" } : Jvm.MethodName)) ∈ lw_all := lw_g (lw_at lw_m1 81 rfl) rfl
theorem q239 : (Jvm.Cond.fieldLink "java/util/AbstractList" (7 : Nat) "java/util/AbstractList" "modCount" "I") ∈ lw_all := lw_g (lw_at lw_m1 91 rfl) rfl
theorem q252 : (Jvm.Cond.soleField "java/util/AbstractList" "modCount") ∈ lw_all := lw_g (lw_at lw_m1 104 rfl) rfl
theorem q1420 : (Jvm.Cond.declares ({ cls := "java/util/AbstractList", name := "listIterator", desc := "()Ljava/util/ListIterator;" } : Jvm.MethodName)) ∈ lw_tbl := lw_at lw_m6 72 rfl
theorem q1422 : (Jvm.Cond.instanceMethod ({ cls := "java/util/AbstractList", name := "listIterator", desc := "()Ljava/util/ListIterator;" } : Jvm.MethodName)) ∈ lw_all := lw_g (lw_at lw_m6 74 rfl) rfl
theorem q1423 : (Jvm.Cond.code ({ cls := "java/util/AbstractList", name := "listIterator", desc := "()Ljava/util/ListIterator;" } : Jvm.MethodName) prog_45_method_12_code (1 : Nat) (Option.some (Jvm.ClassFile.FieldType.object "java/util/ListIterator"))) ∈ lw_all := lw_g (lw_at lw_m6 75 rfl) rfl
theorem q1424 : (Jvm.Cond.methodLink "java/util/AbstractList" (47 : Nat) ({ cls := "java/util/AbstractList", name := "listIterator", desc := "(I)Ljava/util/ListIterator;" } : Jvm.MethodName)) ∈ lw_all := lw_g (lw_at lw_m6 76 rfl) rfl
theorem q1425 : (Jvm.Cond.instanceMethod ({ cls := "java/util/AbstractList", name := "listIterator", desc := "(I)Ljava/util/ListIterator;" } : Jvm.MethodName)) ∈ lw_all := lw_g (lw_at lw_m6 77 rfl) rfl
theorem q1426 : (Jvm.Cond.sameMethod "java/util/AbstractList" "java/util/AbstractList" "listIterator" "(I)Ljava/util/ListIterator;") ∈ lw_all := lw_g (lw_at lw_m6 78 rfl) rfl
theorem q1490 : (Jvm.Cond.declares ({ cls := "java/util/AbstractList", name := "listIterator", desc := "(I)Ljava/util/ListIterator;" } : Jvm.MethodName)) ∈ lw_tbl := lw_at lw_m6 142 rfl
theorem q1508 : (Jvm.Cond.sameMethod "java/util/AbstractList" "java/util/AbstractCollection" "size" "()I") ∈ lw_all := lw_g (lw_at lw_m6 160 rfl) rfl
theorem q1626 : (Jvm.Cond.declares ({ cls := "java/util/AbstractList", name := "get", desc := "(I)Ljava/lang/Object;" } : Jvm.MethodName)) ∈ lw_tbl := lw_at lw_m7 38 rfl
theorem q1627 : (Jvm.Cond.sameMethod "java/util/AbstractList" "java/util/AbstractList" "get" "(I)Ljava/lang/Object;") ∈ lw_all := lw_g (lw_at lw_m7 39 rfl) rfl
/-! java/util/ArrayList -/
def RJ2 : String := "java/util/ArrayList"
def TJ2 : u_T := fun k => match k with
  | 0 => ("java/util/AbstractList", "modCount", "I", false)
  | 1 => ("java/util/ArrayList", "elementData", "[Ljava/lang/Object;", false)
  | _ => ("java/util/ArrayList", "size", "I", false)
def tyJ2 : Nat → FieldType := fun k => match k with
  | 0 => .int
  | 1 => .array (.object "java/lang/Object")
  | _ => .int
abbrev wsJ20 : List Cond := u_ws RJ2 TJ2 3
theorem nmJ2 : ∀ a, a < 3 → ∀ b, b < 3 → a ≠ b → (TJ2 a).2.1 ≠ (TJ2 b).2.1 := by decide +kernel
theorem tyJ2_ok : ∀ k, k < 3 → parseFieldDescriptor (TJ2 k).2.2.1 = some (tyJ2 k) := by decide +kernel
abbrev cJ2_init : ByteArray := prog_51_method_2_code
def yJ2_init : MethodName := ⟨RJ2, "<init>", "()V"⟩
abbrev cJ2_init_2 : ByteArray := prog_51_method_1_code
def yJ2_init_2 : MethodName := ⟨RJ2, "<init>", "(I)V"⟩
abbrev cJ2_size : ByteArray := prog_51_method_8_code
def yJ2_size : MethodName := ⟨RJ2, "size", "()I"⟩
abbrev cJ2_add : ByteArray := prog_51_method_25_code
def yJ2_add : MethodName := ⟨RJ2, "add", "(Ljava/lang/Object;)Z"⟩
abbrev cJ2_add_2 : ByteArray := prog_51_method_24_code
def yJ2_add_2 : MethodName := ⟨RJ2, "add", "(Ljava/lang/Object;[Ljava/lang/Object;I)V"⟩
abbrev cJ2_grow : ByteArray := prog_51_method_7_code
def yJ2_grow : MethodName := ⟨RJ2, "grow", "()[Ljava/lang/Object;"⟩
abbrev cJ2_grow_2 : ByteArray := prog_51_method_6_code
def yJ2_grow_2 : MethodName := ⟨RJ2, "grow", "(I)[Ljava/lang/Object;"⟩
abbrev cJ2_get : ByteArray := prog_51_method_20_code
def yJ2_get : MethodName := ⟨RJ2, "get", "(I)Ljava/lang/Object;"⟩
abbrev cJ2_elementData : ByteArray := prog_51_method_18_code
def yJ2_elementData : MethodName := ⟨RJ2, "elementData", "(I)Ljava/lang/Object;"⟩
abbrev cJ2_set : ByteArray := prog_51_method_23_code
def yJ2_set : MethodName := ⟨RJ2, "set", "(ILjava/lang/Object;)Ljava/lang/Object;"⟩
abbrev cJ2_iterator : ByteArray := prog_51_method_55_code
def yJ2_iterator : MethodName := ⟨RJ2, "iterator", "()Ljava/util/Iterator;"⟩
abbrev cJ2_listIterator : ByteArray := prog_51_method_53_code
def yJ2_listIterator : MethodName := ⟨RJ2, "listIterator", "(I)Ljava/util/ListIterator;"⟩
abbrev cJ2_rangeCheckForAdd : ByteArray := prog_51_method_45_code
def yJ2_rangeCheckForAdd : MethodName := ⟨RJ2, "rangeCheckForAdd", "(I)V"⟩
abbrev cJ2_outOfBoundsMsg : ByteArray := prog_51_method_46_code
def yJ2_outOfBoundsMsg : MethodName := ⟨RJ2, "outOfBoundsMsg", "(I)Ljava/lang/String;"⟩
theorem q154 : (Jvm.Cond.initialized "java/util/ArrayList") ∈ lw_all := lw_g (lw_at lw_m1 6 rfl) rfl
theorem q222 : (Jvm.Cond.instantiable "java/util/ArrayList" (3 : Nat)) ∈ lw_all := lw_g (lw_at lw_m1 74 rfl) rfl
theorem q224 : (Jvm.Cond.instanceMethod ({ cls := "java/util/ArrayList", name := "<init>", desc := "()V" } : Jvm.MethodName)) ∈ lw_all := lw_g (lw_at lw_m1 76 rfl) rfl
theorem q225 : (Jvm.Cond.code ({ cls := "java/util/ArrayList", name := "<init>", desc := "()V" } : Jvm.MethodName) prog_51_method_2_code (1 : Nat) (Option.none : Option Jvm.ClassFile.FieldType)) ∈ lw_all := lw_g (lw_at lw_m1 77 rfl) rfl
theorem q226 : (Jvm.Cond.methodLink "java/util/ArrayList" (1 : Nat) ({ cls := "java/util/AbstractList", name := "<init>", desc := "()V" } : Jvm.MethodName)) ∈ lw_all := lw_g (lw_at lw_m1 78 rfl) rfl
theorem q233 : (Jvm.Cond.fieldLink "java/util/ArrayList" (39 : Nat) "java/util/ArrayList" "DEFAULTCAPACITY_EMPTY_ELEMENTDATA" "[Ljava/lang/Object;") ∈ lw_all := lw_g (lw_at lw_m1 85 rfl) rfl
theorem q234 : (Jvm.Cond.laysStatic "java/util/ArrayList" "DEFAULTCAPACITY_EMPTY_ELEMENTDATA" "[Ljava/lang/Object;") ∈ lw_tbl := lw_at lw_m1 86 rfl
theorem q235 : (Jvm.Cond.fieldLink "java/util/ArrayList" (9 : Nat) "java/util/ArrayList" "elementData" "[Ljava/lang/Object;") ∈ lw_all := lw_g (lw_at lw_m1 87 rfl) rfl
theorem q238 : (Jvm.Cond.fieldLink "java/util/ArrayList" (48 : Nat) "java/util/ArrayList" "size" "I") ∈ lw_all := lw_g (lw_at lw_m1 90 rfl) rfl
theorem q243 : (Jvm.Cond.sameField "java/util/ArrayList" "java/util/AbstractList" "modCount" "I") ∈ lw_all := lw_g (lw_at lw_m1 95 rfl) rfl
theorem q246 : (Jvm.Cond.fieldLink "java/util/ArrayList" (63 : Nat) "java/util/ArrayList" "modCount" "I") ∈ lw_all := lw_g (lw_at lw_m1 98 rfl) rfl
theorem q247 : (Jvm.Cond.lays "java/util/ArrayList" "java/util/ArrayList" "elementData" "[Ljava/lang/Object;") ∈ lw_all := lw_g (lw_at lw_m1 99 rfl) rfl
theorem q248 : (Jvm.Cond.soleField "java/util/ArrayList" "elementData") ∈ lw_all := lw_g (lw_at lw_m1 100 rfl) rfl
theorem q249 : (Jvm.Cond.lays "java/util/ArrayList" "java/util/ArrayList" "size" "I") ∈ lw_all := lw_g (lw_at lw_m1 101 rfl) rfl
theorem q250 : (Jvm.Cond.soleField "java/util/ArrayList" "size") ∈ lw_all := lw_g (lw_at lw_m1 102 rfl) rfl
theorem q251 : (Jvm.Cond.lays "java/util/ArrayList" "java/util/AbstractList" "modCount" "I") ∈ lw_all := lw_g (lw_at lw_m1 103 rfl) rfl
theorem q253 : (Jvm.Cond.superclass "java/util/ArrayList" "java/util/AbstractList") ∈ lw_all := lw_g (lw_at lw_m1 105 rfl) rfl
theorem q353 : (Jvm.Cond.instanceMethod ({ cls := "java/util/ArrayList", name := "<init>", desc := "(I)V" } : Jvm.MethodName)) ∈ lw_all := lw_g (lw_at lw_m1 205 rfl) rfl
theorem q354 : (Jvm.Cond.code ({ cls := "java/util/ArrayList", name := "<init>", desc := "(I)V" } : Jvm.MethodName) prog_51_method_1_code (2 : Nat) (Option.none : Option Jvm.ClassFile.FieldType)) ∈ lw_all := lw_g (lw_at lw_m1 206 rfl) rfl
theorem q355 : (Jvm.Cond.classLink "java/util/ArrayList" (7 : Nat) "java/lang/Object") ∈ lw_all := lw_g (lw_at lw_m1 207 rfl) rfl
theorem q357 : (Jvm.Cond.fieldLink "java/util/ArrayList" (15 : Nat) "java/util/ArrayList" "EMPTY_ELEMENTDATA" "[Ljava/lang/Object;") ∈ lw_all := lw_g (lw_at lw_m1 209 rfl) rfl
theorem q358 : (Jvm.Cond.laysStatic "java/util/ArrayList" "EMPTY_ELEMENTDATA" "[Ljava/lang/Object;") ∈ lw_tbl := lw_at lw_m1 210 rfl
theorem q359 : (Jvm.Cond.classLink "java/util/ArrayList" (18 : Nat) "java/lang/IllegalArgumentException") ∈ lw_all := lw_g (lw_at lw_m1 211 rfl) rfl
theorem q403 : (Jvm.Cond.classLink "java/util/ArrayList" (20 : Nat) "java/lang/StringBuilder") ∈ lw_all := lw_g (lw_at lw_m2 15 rfl) rfl
theorem q405 : (Jvm.Cond.methodLink "java/util/ArrayList" (22 : Nat) ({ cls := "java/lang/StringBuilder", name := "<init>", desc := "()V" } : Jvm.MethodName)) ∈ lw_all := lw_g (lw_at lw_m2 17 rfl) rfl
theorem q436 : (Jvm.Cond.stringRef "java/util/ArrayList" (23 : Nat) "Illegal Capacity: ") ∈ lw_tbl := lw_at lw_m2 48 rfl
theorem q437 : (Jvm.Cond.methodLink "java/util/ArrayList" (25 : Nat) ({ cls := "java/lang/StringBuilder", name := "append", desc := "(Ljava/lang/String;)Ljava/lang/StringBuilder;" } : Jvm.MethodName)) ∈ lw_all := lw_g (lw_at lw_m2 49 rfl) rfl
theorem q557 : (Jvm.Cond.methodLink "java/util/ArrayList" (29 : Nat) ({ cls := "java/lang/StringBuilder", name := "append", desc := "(I)Ljava/lang/StringBuilder;" } : Jvm.MethodName)) ∈ lw_all := lw_g (lw_at lw_m2 169 rfl) rfl
theorem q582 : (Jvm.Cond.methodLink "java/util/ArrayList" (32 : Nat) ({ cls := "java/lang/StringBuilder", name := "toString", desc := "()Ljava/lang/String;" } : Jvm.MethodName)) ∈ lw_all := lw_g (lw_at lw_m2 194 rfl) rfl
theorem q676 : (Jvm.Cond.methodLink "java/util/ArrayList" (36 : Nat) ({ cls := "java/lang/IllegalArgumentException", name := "<init>", desc := "(Ljava/lang/String;)V" } : Jvm.MethodName)) ∈ lw_all := lw_g (lw_at lw_m3 48 rfl) rfl
theorem q1134 : (Jvm.Cond.castable "java/util/ArrayList" "java/util/List") ∈ lw_tbl := lw_at lw_m5 26 rfl
theorem q1135 : (Jvm.Cond.selects "java/util/ArrayList" ({ cls := "java/util/List", name := "size", desc := "()I" } : Jvm.MethodName) ({ cls := "java/util/ArrayList", name := "size", desc := "()I" } : Jvm.MethodName)) ∈ lw_all := lw_g (lw_at lw_m5 27 rfl) rfl
theorem q1136 : (Jvm.Cond.unhidden "java/util/ArrayList" "size" "()I") ∈ lw_tbl := lw_at lw_m5 28 rfl
theorem q1137 : (Jvm.Cond.instanceMethod ({ cls := "java/util/ArrayList", name := "size", desc := "()I" } : Jvm.MethodName)) ∈ lw_all := lw_g (lw_at lw_m5 29 rfl) rfl
theorem q1138 : (Jvm.Cond.publicMethod ({ cls := "java/util/ArrayList", name := "size", desc := "()I" } : Jvm.MethodName)) ∈ lw_tbl := lw_at lw_m5 30 rfl
theorem q1139 : (Jvm.Cond.code ({ cls := "java/util/ArrayList", name := "size", desc := "()I" } : Jvm.MethodName) prog_51_method_8_code (1 : Nat) (Option.some Jvm.ClassFile.FieldType.int)) ∈ lw_all := lw_g (lw_at lw_m5 31 rfl) rfl
theorem q1169 : (Jvm.Cond.selects "java/util/ArrayList" ({ cls := "java/util/List", name := "add", desc := "(Ljava/lang/Object;)Z" } : Jvm.MethodName) ({ cls := "java/util/ArrayList", name := "add", desc := "(Ljava/lang/Object;)Z" } : Jvm.MethodName)) ∈ lw_all := lw_g (lw_at lw_m5 61 rfl) rfl
theorem q1170 : (Jvm.Cond.unhidden "java/util/ArrayList" "add" "(Ljava/lang/Object;)Z") ∈ lw_tbl := lw_at lw_m5 62 rfl
theorem q1171 : (Jvm.Cond.instanceMethod ({ cls := "java/util/ArrayList", name := "add", desc := "(Ljava/lang/Object;)Z" } : Jvm.MethodName)) ∈ lw_all := lw_g (lw_at lw_m5 63 rfl) rfl
theorem q1172 : (Jvm.Cond.publicMethod ({ cls := "java/util/ArrayList", name := "add", desc := "(Ljava/lang/Object;)Z" } : Jvm.MethodName)) ∈ lw_tbl := lw_at lw_m5 64 rfl
theorem q1173 : (Jvm.Cond.code ({ cls := "java/util/ArrayList", name := "add", desc := "(Ljava/lang/Object;)Z" } : Jvm.MethodName) prog_51_method_25_code (2 : Nat) (Option.some Jvm.ClassFile.FieldType.boolean)) ∈ lw_all := lw_g (lw_at lw_m5 65 rfl) rfl
theorem q1174 : (Jvm.Cond.methodLink "java/util/ArrayList" (131 : Nat) ({ cls := "java/util/ArrayList", name := "add", desc := "(Ljava/lang/Object;[Ljava/lang/Object;I)V" } : Jvm.MethodName)) ∈ lw_all := lw_g (lw_at lw_m5 66 rfl) rfl
theorem q1175 : (Jvm.Cond.privateMethod ({ cls := "java/util/ArrayList", name := "add", desc := "(Ljava/lang/Object;[Ljava/lang/Object;I)V" } : Jvm.MethodName)) ∈ lw_tbl := lw_at lw_m5 67 rfl
theorem q1176 : (Jvm.Cond.instanceMethod ({ cls := "java/util/ArrayList", name := "add", desc := "(Ljava/lang/Object;[Ljava/lang/Object;I)V" } : Jvm.MethodName)) ∈ lw_all := lw_g (lw_at lw_m5 68 rfl) rfl
theorem q1177 : (Jvm.Cond.code ({ cls := "java/util/ArrayList", name := "add", desc := "(Ljava/lang/Object;[Ljava/lang/Object;I)V" } : Jvm.MethodName) prog_51_method_24_code (4 : Nat) (Option.none : Option Jvm.ClassFile.FieldType)) ∈ lw_all := lw_g (lw_at lw_m5 69 rfl) rfl
theorem q1178 : (Jvm.Cond.methodLink "java/util/ArrayList" (129 : Nat) ({ cls := "java/util/ArrayList", name := "grow", desc := "()[Ljava/lang/Object;" } : Jvm.MethodName)) ∈ lw_all := lw_g (lw_at lw_m5 70 rfl) rfl
theorem q1179 : (Jvm.Cond.privateMethod ({ cls := "java/util/ArrayList", name := "grow", desc := "()[Ljava/lang/Object;" } : Jvm.MethodName)) ∈ lw_tbl := lw_at lw_m5 71 rfl
theorem q1180 : (Jvm.Cond.instanceMethod ({ cls := "java/util/ArrayList", name := "grow", desc := "()[Ljava/lang/Object;" } : Jvm.MethodName)) ∈ lw_all := lw_g (lw_at lw_m5 72 rfl) rfl
theorem q1181 : (Jvm.Cond.code ({ cls := "java/util/ArrayList", name := "grow", desc := "()[Ljava/lang/Object;" } : Jvm.MethodName) prog_51_method_7_code (1 : Nat) (Option.some (Jvm.ClassFile.FieldType.array (Jvm.ClassFile.FieldType.object "java/lang/Object")))) ∈ lw_all := lw_g (lw_at lw_m5 73 rfl) rfl
theorem q1182 : (Jvm.Cond.methodLink "java/util/ArrayList" (69 : Nat) ({ cls := "java/util/ArrayList", name := "grow", desc := "(I)[Ljava/lang/Object;" } : Jvm.MethodName)) ∈ lw_all := lw_g (lw_at lw_m5 74 rfl) rfl
theorem q1183 : (Jvm.Cond.privateMethod ({ cls := "java/util/ArrayList", name := "grow", desc := "(I)[Ljava/lang/Object;" } : Jvm.MethodName)) ∈ lw_tbl := lw_at lw_m5 75 rfl
theorem q1184 : (Jvm.Cond.instanceMethod ({ cls := "java/util/ArrayList", name := "grow", desc := "(I)[Ljava/lang/Object;" } : Jvm.MethodName)) ∈ lw_all := lw_g (lw_at lw_m5 76 rfl) rfl
theorem q1185 : (Jvm.Cond.code ({ cls := "java/util/ArrayList", name := "grow", desc := "(I)[Ljava/lang/Object;" } : Jvm.MethodName) prog_51_method_6_code (4 : Nat) (Option.some (Jvm.ClassFile.FieldType.array (Jvm.ClassFile.FieldType.object "java/lang/Object")))) ∈ lw_all := lw_g (lw_at lw_m5 77 rfl) rfl
theorem q1186 : (Jvm.Cond.methodLink "java/util/ArrayList" (73 : Nat) ({ cls := "jdk/internal/util/ArraysSupport", name := "newLength", desc := "(III)I" } : Jvm.MethodName)) ∈ lw_all := lw_g (lw_at lw_m5 78 rfl) rfl
theorem q1187 : (Jvm.Cond.methodLink "java/util/ArrayList" (66 : Nat) ({ cls := "java/util/Arrays", name := "copyOf", desc := "([Ljava/lang/Object;I)[Ljava/lang/Object;" } : Jvm.MethodName)) ∈ lw_all := lw_g (lw_at lw_m5 79 rfl) rfl
theorem q1216 : (Jvm.Cond.selects "java/util/ArrayList" ({ cls := "java/lang/Object", name := "getClass", desc := "()Ljava/lang/Class;" } : Jvm.MethodName) ({ cls := "java/lang/Object", name := "getClass", desc := "()Ljava/lang/Class;" } : Jvm.MethodName)) ∈ lw_all := lw_g (lw_at lw_m5 108 rfl) rfl
theorem q1233 : (Jvm.Cond.methodLink "java/util/ArrayList" (79 : Nat) ({ cls := "java/lang/Math", name := "max", desc := "(II)I" } : Jvm.MethodName)) ∈ lw_all := lw_g (lw_at lw_m5 125 rfl) rfl
theorem q1301 : (Jvm.Cond.selects "java/util/ArrayList" ({ cls := "java/util/List", name := "get", desc := "(I)Ljava/lang/Object;" } : Jvm.MethodName) ({ cls := "java/util/ArrayList", name := "get", desc := "(I)Ljava/lang/Object;" } : Jvm.MethodName)) ∈ lw_all := lw_g (lw_at lw_m5 193 rfl) rfl
theorem q1302 : (Jvm.Cond.unhidden "java/util/ArrayList" "get" "(I)Ljava/lang/Object;") ∈ lw_tbl := lw_at lw_m5 194 rfl
theorem q1303 : (Jvm.Cond.instanceMethod ({ cls := "java/util/ArrayList", name := "get", desc := "(I)Ljava/lang/Object;" } : Jvm.MethodName)) ∈ lw_all := lw_g (lw_at lw_m5 195 rfl) rfl
theorem q1304 : (Jvm.Cond.publicMethod ({ cls := "java/util/ArrayList", name := "get", desc := "(I)Ljava/lang/Object;" } : Jvm.MethodName)) ∈ lw_tbl := lw_at lw_m5 196 rfl
theorem q1305 : (Jvm.Cond.code ({ cls := "java/util/ArrayList", name := "get", desc := "(I)Ljava/lang/Object;" } : Jvm.MethodName) prog_51_method_20_code (2 : Nat) (Option.some (Jvm.ClassFile.FieldType.object "java/lang/Object"))) ∈ lw_all := lw_g (lw_at lw_m5 197 rfl) rfl
theorem q1306 : (Jvm.Cond.methodLink "java/util/ArrayList" (118 : Nat) ({ cls := "java/util/Objects", name := "checkIndex", desc := "(II)I" } : Jvm.MethodName)) ∈ lw_all := lw_g (lw_at lw_m5 198 rfl) rfl
theorem q1310 : (Jvm.Cond.methodLink "java/util/ArrayList" (123 : Nat) ({ cls := "java/util/ArrayList", name := "elementData", desc := "(I)Ljava/lang/Object;" } : Jvm.MethodName)) ∈ lw_all := lw_g (lw_at lw_m5 202 rfl) rfl
theorem q1311 : (Jvm.Cond.instanceMethod ({ cls := "java/util/ArrayList", name := "elementData", desc := "(I)Ljava/lang/Object;" } : Jvm.MethodName)) ∈ lw_all := lw_g (lw_at lw_m5 203 rfl) rfl
theorem q1312 : (Jvm.Cond.selects "java/util/ArrayList" ({ cls := "java/util/ArrayList", name := "elementData", desc := "(I)Ljava/lang/Object;" } : Jvm.MethodName) ({ cls := "java/util/ArrayList", name := "elementData", desc := "(I)Ljava/lang/Object;" } : Jvm.MethodName)) ∈ lw_all := lw_g (lw_at lw_m5 204 rfl) rfl
theorem q1313 : (Jvm.Cond.code ({ cls := "java/util/ArrayList", name := "elementData", desc := "(I)Ljava/lang/Object;" } : Jvm.MethodName) prog_51_method_18_code (2 : Nat) (Option.some (Jvm.ClassFile.FieldType.object "java/lang/Object"))) ∈ lw_all := lw_g (lw_at lw_m5 205 rfl) rfl
theorem q1361 : (Jvm.Cond.selects "java/util/ArrayList" ({ cls := "java/util/List", name := "set", desc := "(ILjava/lang/Object;)Ljava/lang/Object;" } : Jvm.MethodName) ({ cls := "java/util/ArrayList", name := "set", desc := "(ILjava/lang/Object;)Ljava/lang/Object;" } : Jvm.MethodName)) ∈ lw_all := lw_g (lw_at lw_m6 13 rfl) rfl
theorem q1362 : (Jvm.Cond.unhidden "java/util/ArrayList" "set" "(ILjava/lang/Object;)Ljava/lang/Object;") ∈ lw_tbl := lw_at lw_m6 14 rfl
theorem q1363 : (Jvm.Cond.instanceMethod ({ cls := "java/util/ArrayList", name := "set", desc := "(ILjava/lang/Object;)Ljava/lang/Object;" } : Jvm.MethodName)) ∈ lw_all := lw_g (lw_at lw_m6 15 rfl) rfl
theorem q1364 : (Jvm.Cond.publicMethod ({ cls := "java/util/ArrayList", name := "set", desc := "(ILjava/lang/Object;)Ljava/lang/Object;" } : Jvm.MethodName)) ∈ lw_tbl := lw_at lw_m6 16 rfl
theorem q1365 : (Jvm.Cond.code ({ cls := "java/util/ArrayList", name := "set", desc := "(ILjava/lang/Object;)Ljava/lang/Object;" } : Jvm.MethodName) prog_51_method_23_code (4 : Nat) (Option.some (Jvm.ClassFile.FieldType.object "java/lang/Object"))) ∈ lw_all := lw_g (lw_at lw_m6 17 rfl) rfl
theorem q1387 : (Jvm.Cond.selects "java/util/ArrayList" ({ cls := "java/util/List", name := "iterator", desc := "()Ljava/util/Iterator;" } : Jvm.MethodName) ({ cls := "java/util/ArrayList", name := "iterator", desc := "()Ljava/util/Iterator;" } : Jvm.MethodName)) ∈ lw_all := lw_g (lw_at lw_m6 39 rfl) rfl
theorem q1388 : (Jvm.Cond.unhidden "java/util/ArrayList" "iterator" "()Ljava/util/Iterator;") ∈ lw_tbl := lw_at lw_m6 40 rfl
theorem q1389 : (Jvm.Cond.instanceMethod ({ cls := "java/util/ArrayList", name := "iterator", desc := "()Ljava/util/Iterator;" } : Jvm.MethodName)) ∈ lw_all := lw_g (lw_at lw_m6 41 rfl) rfl
theorem q1390 : (Jvm.Cond.publicMethod ({ cls := "java/util/ArrayList", name := "iterator", desc := "()Ljava/util/Iterator;" } : Jvm.MethodName)) ∈ lw_tbl := lw_at lw_m6 42 rfl
theorem q1391 : (Jvm.Cond.code ({ cls := "java/util/ArrayList", name := "iterator", desc := "()Ljava/util/Iterator;" } : Jvm.MethodName) prog_51_method_55_code (1 : Nat) (Option.some (Jvm.ClassFile.FieldType.object "java/util/Iterator"))) ∈ lw_all := lw_g (lw_at lw_m6 43 rfl) rfl
theorem q1392 : (Jvm.Cond.classLink "java/util/ArrayList" (267 : Nat) "java/util/ArrayList$Itr") ∈ lw_all := lw_g (lw_at lw_m6 44 rfl) rfl
theorem q1394 : (Jvm.Cond.methodLink "java/util/ArrayList" (269 : Nat) ({ cls := "java/util/ArrayList$Itr", name := "<init>", desc := "(Ljava/util/ArrayList;)V" } : Jvm.MethodName)) ∈ lw_all := lw_g (lw_at lw_m6 46 rfl) rfl
theorem q1427 : (Jvm.Cond.selects "java/util/ArrayList" ({ cls := "java/util/AbstractList", name := "listIterator", desc := "(I)Ljava/util/ListIterator;" } : Jvm.MethodName) ({ cls := "java/util/ArrayList", name := "listIterator", desc := "(I)Ljava/util/ListIterator;" } : Jvm.MethodName)) ∈ lw_all := lw_g (lw_at lw_m6 79 rfl) rfl
theorem q1428 : (Jvm.Cond.instanceMethod ({ cls := "java/util/ArrayList", name := "listIterator", desc := "(I)Ljava/util/ListIterator;" } : Jvm.MethodName)) ∈ lw_all := lw_g (lw_at lw_m6 80 rfl) rfl
theorem q1429 : (Jvm.Cond.code ({ cls := "java/util/ArrayList", name := "listIterator", desc := "(I)Ljava/util/ListIterator;" } : Jvm.MethodName) prog_51_method_53_code (2 : Nat) (Option.some (Jvm.ClassFile.FieldType.object "java/util/ListIterator"))) ∈ lw_all := lw_g (lw_at lw_m6 81 rfl) rfl
theorem q1430 : (Jvm.Cond.methodLink "java/util/ArrayList" (135 : Nat) ({ cls := "java/util/ArrayList", name := "rangeCheckForAdd", desc := "(I)V" } : Jvm.MethodName)) ∈ lw_all := lw_g (lw_at lw_m6 82 rfl) rfl
theorem q1431 : (Jvm.Cond.privateMethod ({ cls := "java/util/ArrayList", name := "rangeCheckForAdd", desc := "(I)V" } : Jvm.MethodName)) ∈ lw_tbl := lw_at lw_m6 83 rfl
theorem q1432 : (Jvm.Cond.instanceMethod ({ cls := "java/util/ArrayList", name := "rangeCheckForAdd", desc := "(I)V" } : Jvm.MethodName)) ∈ lw_all := lw_g (lw_at lw_m6 84 rfl) rfl
theorem q1433 : (Jvm.Cond.code ({ cls := "java/util/ArrayList", name := "rangeCheckForAdd", desc := "(I)V" } : Jvm.MethodName) prog_51_method_45_code (2 : Nat) (Option.none : Option Jvm.ClassFile.FieldType)) ∈ lw_all := lw_g (lw_at lw_m6 85 rfl) rfl
theorem q1434 : (Jvm.Cond.classLink "java/util/ArrayList" (187 : Nat) "java/lang/IndexOutOfBoundsException") ∈ lw_all := lw_g (lw_at lw_m6 86 rfl) rfl
theorem q1435 : (Jvm.Cond.methodLink "java/util/ArrayList" (198 : Nat) ({ cls := "java/util/ArrayList", name := "outOfBoundsMsg", desc := "(I)Ljava/lang/String;" } : Jvm.MethodName)) ∈ lw_all := lw_g (lw_at lw_m6 87 rfl) rfl
theorem q1436 : (Jvm.Cond.privateMethod ({ cls := "java/util/ArrayList", name := "outOfBoundsMsg", desc := "(I)Ljava/lang/String;" } : Jvm.MethodName)) ∈ lw_tbl := lw_at lw_m6 88 rfl
theorem q1437 : (Jvm.Cond.instanceMethod ({ cls := "java/util/ArrayList", name := "outOfBoundsMsg", desc := "(I)Ljava/lang/String;" } : Jvm.MethodName)) ∈ lw_all := lw_g (lw_at lw_m6 89 rfl) rfl
theorem q1438 : (Jvm.Cond.code ({ cls := "java/util/ArrayList", name := "outOfBoundsMsg", desc := "(I)Ljava/lang/String;" } : Jvm.MethodName) prog_51_method_46_code (2 : Nat) (Option.some (Jvm.ClassFile.FieldType.object "java/lang/String"))) ∈ lw_all := lw_g (lw_at lw_m6 90 rfl) rfl
theorem q1439 : (Jvm.Cond.stringRef "java/util/ArrayList" (201 : Nat) "Index: ") ∈ lw_tbl := lw_at lw_m6 91 rfl
theorem q1440 : (Jvm.Cond.stringRef "java/util/ArrayList" (203 : Nat) ", Size: ") ∈ lw_tbl := lw_at lw_m6 92 rfl
theorem q1441 : (Jvm.Cond.methodLink "java/util/ArrayList" (193 : Nat) ({ cls := "java/lang/IndexOutOfBoundsException", name := "<init>", desc := "(Ljava/lang/String;)V" } : Jvm.MethodName)) ∈ lw_all := lw_g (lw_at lw_m6 93 rfl) rfl
theorem q1442 : (Jvm.Cond.classLink "java/util/ArrayList" (262 : Nat) "java/util/ArrayList$ListItr") ∈ lw_all := lw_g (lw_at lw_m6 94 rfl) rfl
theorem q1444 : (Jvm.Cond.methodLink "java/util/ArrayList" (264 : Nat) ({ cls := "java/util/ArrayList$ListItr", name := "<init>", desc := "(Ljava/util/ArrayList;I)V" } : Jvm.MethodName)) ∈ lw_all := lw_g (lw_at lw_m6 96 rfl) rfl
theorem q1510 : (Jvm.Cond.selects "java/util/ArrayList" ({ cls := "java/util/AbstractList", name := "size", desc := "()I" } : Jvm.MethodName) ({ cls := "java/util/ArrayList", name := "size", desc := "()I" } : Jvm.MethodName)) ∈ lw_all := lw_g (lw_at lw_m6 162 rfl) rfl
theorem q1628 : (Jvm.Cond.selects "java/util/ArrayList" ({ cls := "java/util/AbstractList", name := "get", desc := "(I)Ljava/lang/Object;" } : Jvm.MethodName) ({ cls := "java/util/ArrayList", name := "get", desc := "(I)Ljava/lang/Object;" } : Jvm.MethodName)) ∈ lw_all := lw_g (lw_at lw_m7 40 rfl) rfl
theorem q3614 : (Jvm.Cond.selects "java/util/ArrayList" ({ cls := "java/util/AbstractCollection", name := "size", desc := "()I" } : Jvm.MethodName) ({ cls := "java/util/ArrayList", name := "size", desc := "()I" } : Jvm.MethodName)) ∈ lw_all := lw_g (lw_at lw_m15 106 rfl) rfl
theorem q3627 : (Jvm.Cond.castable "java/util/ArrayList" "java/lang/Object") ∈ lw_tbl := lw_at lw_m15 119 rfl
theorem in_J2 : ∀ w ∈ wsJ20, w ∈ lw_all := lw_in wsJ20 [251, 247, 249] (by decide +kernel) (by decide +kernel)
/-! java/util/AbstractMap -/
def RJ3 : String := "java/util/AbstractMap"
abbrev cJ3_init : ByteArray := prog_48_method_1_code
def yJ3_init : MethodName := ⟨RJ3, "<init>", "()V"⟩
theorem q155 : (Jvm.Cond.initialized "java/util/AbstractMap") ∈ lw_all := lw_g (lw_at lw_m1 7 rfl) rfl
theorem q260 : (Jvm.Cond.instanceMethod ({ cls := "java/util/AbstractMap", name := "<init>", desc := "()V" } : Jvm.MethodName)) ∈ lw_all := lw_g (lw_at lw_m1 112 rfl) rfl
theorem q261 : (Jvm.Cond.code ({ cls := "java/util/AbstractMap", name := "<init>", desc := "()V" } : Jvm.MethodName) prog_48_method_1_code (1 : Nat) (Option.none : Option Jvm.ClassFile.FieldType)) ∈ lw_all := lw_g (lw_at lw_m1 113 rfl) rfl
theorem q262 : (Jvm.Cond.methodLink "java/util/AbstractMap" (1 : Nat) ({ cls := "java/lang/Object", name := "<init>", desc := "()V" } : Jvm.MethodName)) ∈ lw_all := lw_g (lw_at lw_m1 114 rfl) rfl
theorem q282 : (Jvm.Cond.soleField "java/util/AbstractMap" "keySet") ∈ lw_all := lw_g (lw_at lw_m1 134 rfl) rfl
theorem q284 : (Jvm.Cond.soleField "java/util/AbstractMap" "values") ∈ lw_all := lw_g (lw_at lw_m1 136 rfl) rfl
/-! java/util/TreeMap -/
def RJ4 : String := "java/util/TreeMap"
def TJ4 : u_T := fun k => match k with
  | 0 => ("java/util/AbstractMap", "keySet", "Ljava/util/Set;", false)
  | 1 => ("java/util/AbstractMap", "values", "Ljava/util/Collection;", false)
  | 2 => ("java/util/TreeMap", "comparator", "Ljava/util/Comparator;", true)
  | 3 => ("java/util/TreeMap", "root", "Ljava/util/TreeMap$Entry;", false)
  | 4 => ("java/util/TreeMap", "size", "I", false)
  | 5 => ("java/util/TreeMap", "modCount", "I", false)
  | 6 => ("java/util/TreeMap", "entrySet", "Ljava/util/TreeMap$EntrySet;", false)
  | 7 => ("java/util/TreeMap", "navigableKeySet", "Ljava/util/TreeMap$KeySet;", false)
  | _ => ("java/util/TreeMap", "descendingMap", "Ljava/util/NavigableMap;", false)
def tyJ4 : Nat → FieldType := fun k => match k with
  | 0 => .object "java/util/Set"
  | 1 => .object "java/util/Collection"
  | 2 => .object "java/util/Comparator"
  | 3 => .object "java/util/TreeMap$Entry"
  | 4 => .int
  | 5 => .int
  | 6 => .object "java/util/TreeMap$EntrySet"
  | 7 => .object "java/util/TreeMap$KeySet"
  | _ => .object "java/util/NavigableMap"
abbrev wsJ40 : List Cond := u_ws RJ4 TJ4 9
theorem nmJ4 : ∀ a, a < 9 → ∀ b, b < 9 → a ≠ b → (TJ4 a).2.1 ≠ (TJ4 b).2.1 := by decide +kernel
theorem tyJ4_ok : ∀ k, k < 9 → parseFieldDescriptor (TJ4 k).2.2.1 = some (tyJ4 k) := by decide +kernel
abbrev cJ4_init : ByteArray := prog_75_method_1_code
def yJ4_init : MethodName := ⟨RJ4, "<init>", "()V"⟩
abbrev cJ4_get : ByteArray := prog_75_method_8_code
def yJ4_get : MethodName := ⟨RJ4, "get", "(Ljava/lang/Object;)Ljava/lang/Object;"⟩
abbrev cJ4_getEntry : ByteArray := prog_75_method_15_code
def yJ4_getEntry : MethodName := ⟨RJ4, "getEntry", "(Ljava/lang/Object;)Ljava/util/TreeMap$Entry;"⟩
abbrev cJ4_getEntryUsingComparator : ByteArray := prog_75_method_16_code
def yJ4_getEntryUsingComparator : MethodName := ⟨RJ4, "getEntryUsingComparator", "(Ljava/lang/Object;)Ljava/util/TreeMap$Entry;"⟩
abbrev cJ4_put : ByteArray := prog_75_method_21_code
def yJ4_put : MethodName := ⟨RJ4, "put", "(Ljava/lang/Object;Ljava/lang/Object;)Ljava/lang/Object;"⟩
abbrev cJ4_put_2 : ByteArray := prog_75_method_31_code
def yJ4_put_2 : MethodName := ⟨RJ4, "put", "(Ljava/lang/Object;Ljava/lang/Object;Z)Ljava/lang/Object;"⟩
abbrev cJ4_addEntryToEmptyMap : ByteArray := prog_75_method_30_code
def yJ4_addEntryToEmptyMap : MethodName := ⟨RJ4, "addEntryToEmptyMap", "(Ljava/lang/Object;Ljava/lang/Object;)V"⟩
abbrev cJ4_compare : ByteArray := prog_75_method_67_code
def yJ4_compare : MethodName := ⟨RJ4, "compare", "(Ljava/lang/Object;Ljava/lang/Object;)I"⟩
abbrev cJ4_addEntry : ByteArray := prog_75_method_29_code
def yJ4_addEntry : MethodName := ⟨RJ4, "addEntry", "(Ljava/lang/Object;Ljava/lang/Object;Ljava/util/TreeMap$Entry;Z)V"⟩
abbrev cJ4_fixAfterInsertion : ByteArray := prog_75_method_83_code
def yJ4_fixAfterInsertion : MethodName := ⟨RJ4, "fixAfterInsertion", "(Ljava/util/TreeMap$Entry;)V"⟩
abbrev cJ4_parentOf : ByteArray := prog_75_method_77_code
def yJ4_parentOf : MethodName := ⟨RJ4, "parentOf", "(Ljava/util/TreeMap$Entry;)Ljava/util/TreeMap$Entry;"⟩
abbrev cJ4_leftOf : ByteArray := prog_75_method_79_code
def yJ4_leftOf : MethodName := ⟨RJ4, "leftOf", "(Ljava/util/TreeMap$Entry;)Ljava/util/TreeMap$Entry;"⟩
abbrev cJ4_rightOf : ByteArray := prog_75_method_80_code
def yJ4_rightOf : MethodName := ⟨RJ4, "rightOf", "(Ljava/util/TreeMap$Entry;)Ljava/util/TreeMap$Entry;"⟩
abbrev cJ4_colorOf : ByteArray := prog_75_method_76_code
def yJ4_colorOf : MethodName := ⟨RJ4, "colorOf", "(Ljava/util/TreeMap$Entry;)Z"⟩
abbrev cJ4_setColor : ByteArray := prog_75_method_78_code
def yJ4_setColor : MethodName := ⟨RJ4, "setColor", "(Ljava/util/TreeMap$Entry;Z)V"⟩
abbrev cJ4_rotateLeft : ByteArray := prog_75_method_81_code
def yJ4_rotateLeft : MethodName := ⟨RJ4, "rotateLeft", "(Ljava/util/TreeMap$Entry;)V"⟩
abbrev cJ4_rotateRight : ByteArray := prog_75_method_82_code
def yJ4_rotateRight : MethodName := ⟨RJ4, "rotateRight", "(Ljava/util/TreeMap$Entry;)V"⟩
theorem q156 : (Jvm.Cond.initialized "java/util/TreeMap") ∈ lw_all := lw_g (lw_at lw_m1 8 rfl) rfl
theorem q255 : (Jvm.Cond.instantiable "java/util/TreeMap" (9 : Nat)) ∈ lw_all := lw_g (lw_at lw_m1 107 rfl) rfl
theorem q257 : (Jvm.Cond.instanceMethod ({ cls := "java/util/TreeMap", name := "<init>", desc := "()V" } : Jvm.MethodName)) ∈ lw_all := lw_g (lw_at lw_m1 109 rfl) rfl
theorem q258 : (Jvm.Cond.code ({ cls := "java/util/TreeMap", name := "<init>", desc := "()V" } : Jvm.MethodName) prog_75_method_1_code (1 : Nat) (Option.none : Option Jvm.ClassFile.FieldType)) ∈ lw_all := lw_g (lw_at lw_m1 110 rfl) rfl
theorem q259 : (Jvm.Cond.methodLink "java/util/TreeMap" (1 : Nat) ({ cls := "java/util/AbstractMap", name := "<init>", desc := "()V" } : Jvm.MethodName)) ∈ lw_all := lw_g (lw_at lw_m1 111 rfl) rfl
theorem q263 : (Jvm.Cond.fieldLink "java/util/TreeMap" (16 : Nat) "java/util/TreeMap" "comparator" "Ljava/util/Comparator;") ∈ lw_all := lw_g (lw_at lw_m1 115 rfl) rfl
theorem q264 : (Jvm.Cond.fieldLink "java/util/TreeMap" (101 : Nat) "java/util/TreeMap" "root" "Ljava/util/TreeMap$Entry;") ∈ lw_all := lw_g (lw_at lw_m1 116 rfl) rfl
theorem q265 : (Jvm.Cond.fieldLink "java/util/TreeMap" (7 : Nat) "java/util/TreeMap" "size" "I") ∈ lw_all := lw_g (lw_at lw_m1 117 rfl) rfl
theorem q266 : (Jvm.Cond.fieldLink "java/util/TreeMap" (13 : Nat) "java/util/TreeMap" "modCount" "I") ∈ lw_all := lw_g (lw_at lw_m1 118 rfl) rfl
theorem q267 : (Jvm.Cond.laysFinal "java/util/TreeMap" "java/util/TreeMap" "comparator" "Ljava/util/Comparator;") ∈ lw_all := lw_g (lw_at lw_m1 119 rfl) rfl
theorem q268 : (Jvm.Cond.soleField "java/util/TreeMap" "comparator") ∈ lw_all := lw_g (lw_at lw_m1 120 rfl) rfl
theorem q269 : (Jvm.Cond.lays "java/util/TreeMap" "java/util/TreeMap" "root" "Ljava/util/TreeMap$Entry;") ∈ lw_all := lw_g (lw_at lw_m1 121 rfl) rfl
theorem q270 : (Jvm.Cond.soleField "java/util/TreeMap" "root") ∈ lw_all := lw_g (lw_at lw_m1 122 rfl) rfl
theorem q271 : (Jvm.Cond.lays "java/util/TreeMap" "java/util/TreeMap" "size" "I") ∈ lw_all := lw_g (lw_at lw_m1 123 rfl) rfl
theorem q272 : (Jvm.Cond.soleField "java/util/TreeMap" "size") ∈ lw_all := lw_g (lw_at lw_m1 124 rfl) rfl
theorem q273 : (Jvm.Cond.lays "java/util/TreeMap" "java/util/TreeMap" "modCount" "I") ∈ lw_all := lw_g (lw_at lw_m1 125 rfl) rfl
theorem q274 : (Jvm.Cond.soleField "java/util/TreeMap" "modCount") ∈ lw_all := lw_g (lw_at lw_m1 126 rfl) rfl
theorem q275 : (Jvm.Cond.lays "java/util/TreeMap" "java/util/TreeMap" "entrySet" "Ljava/util/TreeMap$EntrySet;") ∈ lw_all := lw_g (lw_at lw_m1 127 rfl) rfl
theorem q276 : (Jvm.Cond.soleField "java/util/TreeMap" "entrySet") ∈ lw_all := lw_g (lw_at lw_m1 128 rfl) rfl
theorem q277 : (Jvm.Cond.lays "java/util/TreeMap" "java/util/TreeMap" "navigableKeySet" "Ljava/util/TreeMap$KeySet;") ∈ lw_all := lw_g (lw_at lw_m1 129 rfl) rfl
theorem q278 : (Jvm.Cond.soleField "java/util/TreeMap" "navigableKeySet") ∈ lw_all := lw_g (lw_at lw_m1 130 rfl) rfl
theorem q279 : (Jvm.Cond.lays "java/util/TreeMap" "java/util/TreeMap" "descendingMap" "Ljava/util/NavigableMap;") ∈ lw_all := lw_g (lw_at lw_m1 131 rfl) rfl
theorem q280 : (Jvm.Cond.soleField "java/util/TreeMap" "descendingMap") ∈ lw_all := lw_g (lw_at lw_m1 132 rfl) rfl
theorem q281 : (Jvm.Cond.lays "java/util/TreeMap" "java/util/AbstractMap" "keySet" "Ljava/util/Set;") ∈ lw_all := lw_g (lw_at lw_m1 133 rfl) rfl
theorem q283 : (Jvm.Cond.lays "java/util/TreeMap" "java/util/AbstractMap" "values" "Ljava/util/Collection;") ∈ lw_all := lw_g (lw_at lw_m1 135 rfl) rfl
theorem q285 : (Jvm.Cond.superclass "java/util/TreeMap" "java/util/AbstractMap") ∈ lw_all := lw_g (lw_at lw_m1 137 rfl) rfl
theorem q1224 : (Jvm.Cond.selects "java/util/TreeMap" ({ cls := "java/lang/Object", name := "getClass", desc := "()Ljava/lang/Class;" } : Jvm.MethodName) ({ cls := "java/lang/Object", name := "getClass", desc := "()Ljava/lang/Class;" } : Jvm.MethodName)) ∈ lw_all := lw_g (lw_at lw_m5 116 rfl) rfl
theorem q1728 : (Jvm.Cond.instanceMethod ({ cls := "java/util/TreeMap", name := "get", desc := "(Ljava/lang/Object;)Ljava/lang/Object;" } : Jvm.MethodName)) ∈ lw_all := lw_g (lw_at lw_m7 140 rfl) rfl
theorem q1729 : (Jvm.Cond.selects "java/util/TreeMap" ({ cls := "java/util/TreeMap", name := "get", desc := "(Ljava/lang/Object;)Ljava/lang/Object;" } : Jvm.MethodName) ({ cls := "java/util/TreeMap", name := "get", desc := "(Ljava/lang/Object;)Ljava/lang/Object;" } : Jvm.MethodName)) ∈ lw_all := lw_g (lw_at lw_m7 141 rfl) rfl
theorem q1730 : (Jvm.Cond.code ({ cls := "java/util/TreeMap", name := "get", desc := "(Ljava/lang/Object;)Ljava/lang/Object;" } : Jvm.MethodName) prog_75_method_8_code (3 : Nat) (Option.some (Jvm.ClassFile.FieldType.object "java/lang/Object"))) ∈ lw_all := lw_g (lw_at lw_m7 142 rfl) rfl
theorem q1731 : (Jvm.Cond.methodLink "java/util/TreeMap" (50 : Nat) ({ cls := "java/util/TreeMap", name := "getEntry", desc := "(Ljava/lang/Object;)Ljava/util/TreeMap$Entry;" } : Jvm.MethodName)) ∈ lw_all := lw_g (lw_at lw_m7 143 rfl) rfl
theorem q1732 : (Jvm.Cond.instanceMethod ({ cls := "java/util/TreeMap", name := "getEntry", desc := "(Ljava/lang/Object;)Ljava/util/TreeMap$Entry;" } : Jvm.MethodName)) ∈ lw_all := lw_g (lw_at lw_m7 144 rfl) rfl
theorem q1733 : (Jvm.Cond.selects "java/util/TreeMap" ({ cls := "java/util/TreeMap", name := "getEntry", desc := "(Ljava/lang/Object;)Ljava/util/TreeMap$Entry;" } : Jvm.MethodName) ({ cls := "java/util/TreeMap", name := "getEntry", desc := "(Ljava/lang/Object;)Ljava/util/TreeMap$Entry;" } : Jvm.MethodName)) ∈ lw_all := lw_g (lw_at lw_m7 145 rfl) rfl
theorem q1734 : (Jvm.Cond.code ({ cls := "java/util/TreeMap", name := "getEntry", desc := "(Ljava/lang/Object;)Ljava/util/TreeMap$Entry;" } : Jvm.MethodName) prog_75_method_15_code (5 : Nat) (Option.some (Jvm.ClassFile.FieldType.object "java/util/TreeMap$Entry"))) ∈ lw_all := lw_g (lw_at lw_m7 146 rfl) rfl
theorem q1735 : (Jvm.Cond.methodLink "java/util/TreeMap" (92 : Nat) ({ cls := "java/util/TreeMap", name := "getEntryUsingComparator", desc := "(Ljava/lang/Object;)Ljava/util/TreeMap$Entry;" } : Jvm.MethodName)) ∈ lw_all := lw_g (lw_at lw_m7 147 rfl) rfl
theorem q1736 : (Jvm.Cond.instanceMethod ({ cls := "java/util/TreeMap", name := "getEntryUsingComparator", desc := "(Ljava/lang/Object;)Ljava/util/TreeMap$Entry;" } : Jvm.MethodName)) ∈ lw_all := lw_g (lw_at lw_m7 148 rfl) rfl
theorem q1737 : (Jvm.Cond.selects "java/util/TreeMap" ({ cls := "java/util/TreeMap", name := "getEntryUsingComparator", desc := "(Ljava/lang/Object;)Ljava/util/TreeMap$Entry;" } : Jvm.MethodName) ({ cls := "java/util/TreeMap", name := "getEntryUsingComparator", desc := "(Ljava/lang/Object;)Ljava/util/TreeMap$Entry;" } : Jvm.MethodName)) ∈ lw_all := lw_g (lw_at lw_m7 149 rfl) rfl
theorem q1738 : (Jvm.Cond.code ({ cls := "java/util/TreeMap", name := "getEntryUsingComparator", desc := "(Ljava/lang/Object;)Ljava/util/TreeMap$Entry;" } : Jvm.MethodName) prog_75_method_16_code (6 : Nat) (Option.some (Jvm.ClassFile.FieldType.object "java/util/TreeMap$Entry"))) ∈ lw_all := lw_g (lw_at lw_m7 150 rfl) rfl
theorem q1739 : (Jvm.Cond.interfaceEntry "java/util/TreeMap" (117 : Nat)) ∈ lw_tbl := lw_at lw_m7 151 rfl
theorem q1740 : (Jvm.Cond.methodLink "java/util/TreeMap" (117 : Nat) ({ cls := "java/util/Comparator", name := "compare", desc := "(Ljava/lang/Object;Ljava/lang/Object;)I" } : Jvm.MethodName)) ∈ lw_all := lw_g (lw_at lw_m7 152 rfl) rfl
theorem q1743 : (Jvm.Cond.methodLink "java/util/TreeMap" (95 : Nat) ({ cls := "java/util/Objects", name := "requireNonNull", desc := "(Ljava/lang/Object;)Ljava/lang/Object;" } : Jvm.MethodName)) ∈ lw_all := lw_g (lw_at lw_m7 155 rfl) rfl
theorem q1746 : (Jvm.Cond.classLink "java/util/TreeMap" (99 : Nat) "java/lang/Comparable") ∈ lw_all := lw_g (lw_at lw_m7 158 rfl) rfl
theorem q1747 : (Jvm.Cond.interfaceEntry "java/util/TreeMap" (107 : Nat)) ∈ lw_tbl := lw_at lw_m7 159 rfl
theorem q1748 : (Jvm.Cond.methodLink "java/util/TreeMap" (107 : Nat) ({ cls := "java/lang/Comparable", name := "compareTo", desc := "(Ljava/lang/Object;)I" } : Jvm.MethodName)) ∈ lw_all := lw_g (lw_at lw_m7 160 rfl) rfl
theorem q1948 : (Jvm.Cond.instanceMethod ({ cls := "java/util/TreeMap", name := "put", desc := "(Ljava/lang/Object;Ljava/lang/Object;)Ljava/lang/Object;" } : Jvm.MethodName)) ∈ lw_all := lw_g (lw_at lw_m8 120 rfl) rfl
theorem q1949 : (Jvm.Cond.selects "java/util/TreeMap" ({ cls := "java/util/TreeMap", name := "put", desc := "(Ljava/lang/Object;Ljava/lang/Object;)Ljava/lang/Object;" } : Jvm.MethodName) ({ cls := "java/util/TreeMap", name := "put", desc := "(Ljava/lang/Object;Ljava/lang/Object;)Ljava/lang/Object;" } : Jvm.MethodName)) ∈ lw_all := lw_g (lw_at lw_m8 121 rfl) rfl
theorem q1950 : (Jvm.Cond.code ({ cls := "java/util/TreeMap", name := "put", desc := "(Ljava/lang/Object;Ljava/lang/Object;)Ljava/lang/Object;" } : Jvm.MethodName) prog_75_method_21_code (3 : Nat) (Option.some (Jvm.ClassFile.FieldType.object "java/lang/Object"))) ∈ lw_all := lw_g (lw_at lw_m8 122 rfl) rfl
theorem q1951 : (Jvm.Cond.methodLink "java/util/TreeMap" (127 : Nat) ({ cls := "java/util/TreeMap", name := "put", desc := "(Ljava/lang/Object;Ljava/lang/Object;Z)Ljava/lang/Object;" } : Jvm.MethodName)) ∈ lw_all := lw_g (lw_at lw_m8 123 rfl) rfl
theorem q1952 : (Jvm.Cond.privateMethod ({ cls := "java/util/TreeMap", name := "put", desc := "(Ljava/lang/Object;Ljava/lang/Object;Z)Ljava/lang/Object;" } : Jvm.MethodName)) ∈ lw_tbl := lw_at lw_m8 124 rfl
theorem q1953 : (Jvm.Cond.instanceMethod ({ cls := "java/util/TreeMap", name := "put", desc := "(Ljava/lang/Object;Ljava/lang/Object;Z)Ljava/lang/Object;" } : Jvm.MethodName)) ∈ lw_all := lw_g (lw_at lw_m8 125 rfl) rfl
theorem q1954 : (Jvm.Cond.code ({ cls := "java/util/TreeMap", name := "put", desc := "(Ljava/lang/Object;Ljava/lang/Object;Z)Ljava/lang/Object;" } : Jvm.MethodName) prog_75_method_31_code (10 : Nat) (Option.some (Jvm.ClassFile.FieldType.object "java/lang/Object"))) ∈ lw_all := lw_g (lw_at lw_m8 126 rfl) rfl
theorem q1955 : (Jvm.Cond.methodLink "java/util/TreeMap" (135 : Nat) ({ cls := "java/util/TreeMap", name := "addEntryToEmptyMap", desc := "(Ljava/lang/Object;Ljava/lang/Object;)V" } : Jvm.MethodName)) ∈ lw_all := lw_g (lw_at lw_m8 127 rfl) rfl
theorem q1956 : (Jvm.Cond.privateMethod ({ cls := "java/util/TreeMap", name := "addEntryToEmptyMap", desc := "(Ljava/lang/Object;Ljava/lang/Object;)V" } : Jvm.MethodName)) ∈ lw_tbl := lw_at lw_m8 128 rfl
theorem q1957 : (Jvm.Cond.instanceMethod ({ cls := "java/util/TreeMap", name := "addEntryToEmptyMap", desc := "(Ljava/lang/Object;Ljava/lang/Object;)V" } : Jvm.MethodName)) ∈ lw_all := lw_g (lw_at lw_m8 129 rfl) rfl
theorem q1958 : (Jvm.Cond.code ({ cls := "java/util/TreeMap", name := "addEntryToEmptyMap", desc := "(Ljava/lang/Object;Ljava/lang/Object;)V" } : Jvm.MethodName) prog_75_method_30_code (3 : Nat) (Option.none : Option Jvm.ClassFile.FieldType)) ∈ lw_all := lw_g (lw_at lw_m8 130 rfl) rfl
theorem q1959 : (Jvm.Cond.methodLink "java/util/TreeMap" (123 : Nat) ({ cls := "java/util/TreeMap", name := "compare", desc := "(Ljava/lang/Object;Ljava/lang/Object;)I" } : Jvm.MethodName)) ∈ lw_all := lw_g (lw_at lw_m8 131 rfl) rfl
theorem q1960 : (Jvm.Cond.instanceMethod ({ cls := "java/util/TreeMap", name := "compare", desc := "(Ljava/lang/Object;Ljava/lang/Object;)I" } : Jvm.MethodName)) ∈ lw_all := lw_g (lw_at lw_m8 132 rfl) rfl
theorem q1961 : (Jvm.Cond.selects "java/util/TreeMap" ({ cls := "java/util/TreeMap", name := "compare", desc := "(Ljava/lang/Object;Ljava/lang/Object;)I" } : Jvm.MethodName) ({ cls := "java/util/TreeMap", name := "compare", desc := "(Ljava/lang/Object;Ljava/lang/Object;)I" } : Jvm.MethodName)) ∈ lw_all := lw_g (lw_at lw_m8 133 rfl) rfl
theorem q1962 : (Jvm.Cond.code ({ cls := "java/util/TreeMap", name := "compare", desc := "(Ljava/lang/Object;Ljava/lang/Object;)I" } : Jvm.MethodName) prog_75_method_67_code (3 : Nat) (Option.some Jvm.ClassFile.FieldType.int)) ∈ lw_all := lw_g (lw_at lw_m8 134 rfl) rfl
theorem q1963 : (Jvm.Cond.classLink "java/util/TreeMap" (59 : Nat) "java/util/TreeMap$Entry") ∈ lw_all := lw_g (lw_at lw_m8 135 rfl) rfl
theorem q1965 : (Jvm.Cond.methodLink "java/util/TreeMap" (167 : Nat) ({ cls := "java/util/TreeMap$Entry", name := "<init>", desc := "(Ljava/lang/Object;Ljava/lang/Object;Ljava/util/TreeMap$Entry;)V" } : Jvm.MethodName)) ∈ lw_all := lw_g (lw_at lw_m8 137 rfl) rfl
theorem q1970 : (Jvm.Cond.fieldLink "java/util/TreeMap" (105 : Nat) "java/util/TreeMap$Entry" "key" "Ljava/lang/Object;") ∈ lw_all := lw_g (lw_at lw_m8 142 rfl) rfl
theorem q1972 : (Jvm.Cond.fieldLink "java/util/TreeMap" (58 : Nat) "java/util/TreeMap$Entry" "value" "Ljava/lang/Object;") ∈ lw_all := lw_g (lw_at lw_m8 144 rfl) rfl
theorem q1973 : (Jvm.Cond.fieldLink "java/util/TreeMap" (111 : Nat) "java/util/TreeMap$Entry" "left" "Ljava/util/TreeMap$Entry;") ∈ lw_all := lw_g (lw_at lw_m8 145 rfl) rfl
theorem q1974 : (Jvm.Cond.fieldLink "java/util/TreeMap" (114 : Nat) "java/util/TreeMap$Entry" "right" "Ljava/util/TreeMap$Entry;") ∈ lw_all := lw_g (lw_at lw_m8 146 rfl) rfl
theorem q1976 : (Jvm.Cond.fieldLink "java/util/TreeMap" (124 : Nat) "java/util/TreeMap$Entry" "parent" "Ljava/util/TreeMap$Entry;") ∈ lw_all := lw_g (lw_at lw_m8 148 rfl) rfl
theorem q1978 : (Jvm.Cond.fieldLink "java/util/TreeMap" (290 : Nat) "java/util/TreeMap$Entry" "color" "Z") ∈ lw_all := lw_g (lw_at lw_m8 150 rfl) rfl
theorem q1992 : (Jvm.Cond.methodLink "java/util/TreeMap" (139 : Nat) ({ cls := "java/util/TreeMap", name := "addEntry", desc := "(Ljava/lang/Object;Ljava/lang/Object;Ljava/util/TreeMap$Entry;Z)V" } : Jvm.MethodName)) ∈ lw_all := lw_g (lw_at lw_m8 164 rfl) rfl
theorem q1993 : (Jvm.Cond.privateMethod ({ cls := "java/util/TreeMap", name := "addEntry", desc := "(Ljava/lang/Object;Ljava/lang/Object;Ljava/util/TreeMap$Entry;Z)V" } : Jvm.MethodName)) ∈ lw_tbl := lw_at lw_m8 165 rfl
theorem q1994 : (Jvm.Cond.instanceMethod ({ cls := "java/util/TreeMap", name := "addEntry", desc := "(Ljava/lang/Object;Ljava/lang/Object;Ljava/util/TreeMap$Entry;Z)V" } : Jvm.MethodName)) ∈ lw_all := lw_g (lw_at lw_m8 166 rfl) rfl
theorem q1995 : (Jvm.Cond.code ({ cls := "java/util/TreeMap", name := "addEntry", desc := "(Ljava/lang/Object;Ljava/lang/Object;Ljava/util/TreeMap$Entry;Z)V" } : Jvm.MethodName) prog_75_method_29_code (6 : Nat) (Option.none : Option Jvm.ClassFile.FieldType)) ∈ lw_all := lw_g (lw_at lw_m8 167 rfl) rfl
theorem q1996 : (Jvm.Cond.methodLink "java/util/TreeMap" (170 : Nat) ({ cls := "java/util/TreeMap", name := "fixAfterInsertion", desc := "(Ljava/util/TreeMap$Entry;)V" } : Jvm.MethodName)) ∈ lw_all := lw_g (lw_at lw_m8 168 rfl) rfl
theorem q1997 : (Jvm.Cond.privateMethod ({ cls := "java/util/TreeMap", name := "fixAfterInsertion", desc := "(Ljava/util/TreeMap$Entry;)V" } : Jvm.MethodName)) ∈ lw_tbl := lw_at lw_m8 169 rfl
theorem q1998 : (Jvm.Cond.instanceMethod ({ cls := "java/util/TreeMap", name := "fixAfterInsertion", desc := "(Ljava/util/TreeMap$Entry;)V" } : Jvm.MethodName)) ∈ lw_all := lw_g (lw_at lw_m8 170 rfl) rfl
theorem q1999 : (Jvm.Cond.code ({ cls := "java/util/TreeMap", name := "fixAfterInsertion", desc := "(Ljava/util/TreeMap$Entry;)V" } : Jvm.MethodName) prog_75_method_83_code (3 : Nat) (Option.none : Option Jvm.ClassFile.FieldType)) ∈ lw_all := lw_g (lw_at lw_m8 171 rfl) rfl
theorem q2000 : (Jvm.Cond.methodLink "java/util/TreeMap" (294 : Nat) ({ cls := "java/util/TreeMap", name := "parentOf", desc := "(Ljava/util/TreeMap$Entry;)Ljava/util/TreeMap$Entry;" } : Jvm.MethodName)) ∈ lw_all := lw_g (lw_at lw_m8 172 rfl) rfl
theorem q2001 : (Jvm.Cond.static ({ cls := "java/util/TreeMap", name := "parentOf", desc := "(Ljava/util/TreeMap$Entry;)Ljava/util/TreeMap$Entry;" } : Jvm.MethodName)) ∈ lw_all := lw_g (lw_at lw_m8 173 rfl) rfl
theorem q2002 : (Jvm.Cond.code ({ cls := "java/util/TreeMap", name := "parentOf", desc := "(Ljava/util/TreeMap$Entry;)Ljava/util/TreeMap$Entry;" } : Jvm.MethodName) prog_75_method_77_code (1 : Nat) (Option.some (Jvm.ClassFile.FieldType.object "java/util/TreeMap$Entry"))) ∈ lw_all := lw_g (lw_at lw_m8 174 rfl) rfl
theorem q2003 : (Jvm.Cond.methodLink "java/util/TreeMap" (297 : Nat) ({ cls := "java/util/TreeMap", name := "leftOf", desc := "(Ljava/util/TreeMap$Entry;)Ljava/util/TreeMap$Entry;" } : Jvm.MethodName)) ∈ lw_all := lw_g (lw_at lw_m8 175 rfl) rfl
theorem q2004 : (Jvm.Cond.static ({ cls := "java/util/TreeMap", name := "leftOf", desc := "(Ljava/util/TreeMap$Entry;)Ljava/util/TreeMap$Entry;" } : Jvm.MethodName)) ∈ lw_all := lw_g (lw_at lw_m8 176 rfl) rfl
theorem q2005 : (Jvm.Cond.code ({ cls := "java/util/TreeMap", name := "leftOf", desc := "(Ljava/util/TreeMap$Entry;)Ljava/util/TreeMap$Entry;" } : Jvm.MethodName) prog_75_method_79_code (1 : Nat) (Option.some (Jvm.ClassFile.FieldType.object "java/util/TreeMap$Entry"))) ∈ lw_all := lw_g (lw_at lw_m8 177 rfl) rfl
theorem q2006 : (Jvm.Cond.methodLink "java/util/TreeMap" (300 : Nat) ({ cls := "java/util/TreeMap", name := "rightOf", desc := "(Ljava/util/TreeMap$Entry;)Ljava/util/TreeMap$Entry;" } : Jvm.MethodName)) ∈ lw_all := lw_g (lw_at lw_m8 178 rfl) rfl
theorem q2007 : (Jvm.Cond.static ({ cls := "java/util/TreeMap", name := "rightOf", desc := "(Ljava/util/TreeMap$Entry;)Ljava/util/TreeMap$Entry;" } : Jvm.MethodName)) ∈ lw_all := lw_g (lw_at lw_m8 179 rfl) rfl
theorem q2008 : (Jvm.Cond.code ({ cls := "java/util/TreeMap", name := "rightOf", desc := "(Ljava/util/TreeMap$Entry;)Ljava/util/TreeMap$Entry;" } : Jvm.MethodName) prog_75_method_80_code (1 : Nat) (Option.some (Jvm.ClassFile.FieldType.object "java/util/TreeMap$Entry"))) ∈ lw_all := lw_g (lw_at lw_m8 180 rfl) rfl
theorem q2009 : (Jvm.Cond.methodLink "java/util/TreeMap" (303 : Nat) ({ cls := "java/util/TreeMap", name := "colorOf", desc := "(Ljava/util/TreeMap$Entry;)Z" } : Jvm.MethodName)) ∈ lw_all := lw_g (lw_at lw_m8 181 rfl) rfl
theorem q2010 : (Jvm.Cond.static ({ cls := "java/util/TreeMap", name := "colorOf", desc := "(Ljava/util/TreeMap$Entry;)Z" } : Jvm.MethodName)) ∈ lw_all := lw_g (lw_at lw_m8 182 rfl) rfl
theorem q2011 : (Jvm.Cond.code ({ cls := "java/util/TreeMap", name := "colorOf", desc := "(Ljava/util/TreeMap$Entry;)Z" } : Jvm.MethodName) prog_75_method_76_code (1 : Nat) (Option.some Jvm.ClassFile.FieldType.boolean)) ∈ lw_all := lw_g (lw_at lw_m8 183 rfl) rfl
theorem q2012 : (Jvm.Cond.methodLink "java/util/TreeMap" (307 : Nat) ({ cls := "java/util/TreeMap", name := "setColor", desc := "(Ljava/util/TreeMap$Entry;Z)V" } : Jvm.MethodName)) ∈ lw_all := lw_g (lw_at lw_m8 184 rfl) rfl
theorem q2013 : (Jvm.Cond.static ({ cls := "java/util/TreeMap", name := "setColor", desc := "(Ljava/util/TreeMap$Entry;Z)V" } : Jvm.MethodName)) ∈ lw_all := lw_g (lw_at lw_m8 185 rfl) rfl
theorem q2014 : (Jvm.Cond.code ({ cls := "java/util/TreeMap", name := "setColor", desc := "(Ljava/util/TreeMap$Entry;Z)V" } : Jvm.MethodName) prog_75_method_78_code (2 : Nat) (Option.none : Option Jvm.ClassFile.FieldType)) ∈ lw_all := lw_g (lw_at lw_m8 186 rfl) rfl
theorem q2015 : (Jvm.Cond.methodLink "java/util/TreeMap" (311 : Nat) ({ cls := "java/util/TreeMap", name := "rotateLeft", desc := "(Ljava/util/TreeMap$Entry;)V" } : Jvm.MethodName)) ∈ lw_all := lw_g (lw_at lw_m8 187 rfl) rfl
theorem q2016 : (Jvm.Cond.privateMethod ({ cls := "java/util/TreeMap", name := "rotateLeft", desc := "(Ljava/util/TreeMap$Entry;)V" } : Jvm.MethodName)) ∈ lw_tbl := lw_at lw_m8 188 rfl
theorem q2017 : (Jvm.Cond.instanceMethod ({ cls := "java/util/TreeMap", name := "rotateLeft", desc := "(Ljava/util/TreeMap$Entry;)V" } : Jvm.MethodName)) ∈ lw_all := lw_g (lw_at lw_m8 189 rfl) rfl
theorem q2018 : (Jvm.Cond.code ({ cls := "java/util/TreeMap", name := "rotateLeft", desc := "(Ljava/util/TreeMap$Entry;)V" } : Jvm.MethodName) prog_75_method_81_code (3 : Nat) (Option.none : Option Jvm.ClassFile.FieldType)) ∈ lw_all := lw_g (lw_at lw_m8 190 rfl) rfl
theorem q2019 : (Jvm.Cond.methodLink "java/util/TreeMap" (314 : Nat) ({ cls := "java/util/TreeMap", name := "rotateRight", desc := "(Ljava/util/TreeMap$Entry;)V" } : Jvm.MethodName)) ∈ lw_all := lw_g (lw_at lw_m8 191 rfl) rfl
theorem q2020 : (Jvm.Cond.privateMethod ({ cls := "java/util/TreeMap", name := "rotateRight", desc := "(Ljava/util/TreeMap$Entry;)V" } : Jvm.MethodName)) ∈ lw_tbl := lw_at lw_m8 192 rfl
theorem q2021 : (Jvm.Cond.instanceMethod ({ cls := "java/util/TreeMap", name := "rotateRight", desc := "(Ljava/util/TreeMap$Entry;)V" } : Jvm.MethodName)) ∈ lw_all := lw_g (lw_at lw_m8 193 rfl) rfl
theorem q2022 : (Jvm.Cond.code ({ cls := "java/util/TreeMap", name := "rotateRight", desc := "(Ljava/util/TreeMap$Entry;)V" } : Jvm.MethodName) prog_75_method_82_code (3 : Nat) (Option.none : Option Jvm.ClassFile.FieldType)) ∈ lw_all := lw_g (lw_at lw_m8 194 rfl) rfl
theorem q3628 : (Jvm.Cond.castable "java/util/TreeMap" "java/lang/Object") ∈ lw_tbl := lw_at lw_m15 120 rfl
theorem in_J4 : ∀ w ∈ wsJ40, w ∈ lw_all := lw_in wsJ40 [281, 283, 267, 269, 271, 273, 275, 277, 279] (by decide +kernel) (by decide +kernel)
/-! java/lang/Throwable -/
def RJ5 : String := "java/lang/Throwable"
def TJ5 : u_T := fun k => match k with
  | 0 => ("java/lang/Throwable", "cause", "Ljava/lang/Throwable;", false)
  | 1 => ("java/lang/Throwable", "stackTrace", "[Ljava/lang/StackTraceElement;", false)
  | 2 => ("java/lang/Throwable", "suppressedExceptions", "Ljava/util/List;", false)
  | 3 => ("java/lang/Throwable", "detailMessage", "Ljava/lang/String;", false)
  | _ => ("java/lang/Throwable", "backtrace", "Ljava/lang/Object;", false)
def tyJ5 : Nat → FieldType := fun k => match k with
  | 0 => .object "java/lang/Throwable"
  | 1 => .array (.object "java/lang/StackTraceElement")
  | 2 => .object "java/util/List"
  | 3 => .object "java/lang/String"
  | _ => .object "java/lang/Object"
abbrev wsJ50 : List Cond := u_ws RJ5 TJ5 5
theorem nmJ5 : ∀ a, a < 5 → ∀ b, b < 5 → a ≠ b → (TJ5 a).2.1 ≠ (TJ5 b).2.1 := by decide +kernel
theorem tyJ5_ok : ∀ k, k < 5 → parseFieldDescriptor (TJ5 k).2.2.1 = some (tyJ5 k) := by decide +kernel
abbrev cJ5_init : ByteArray := prog_41_method_1_code
def yJ5_init : MethodName := ⟨RJ5, "<init>", "()V"⟩
abbrev cJ5_init_2 : ByteArray := prog_41_method_2_code
def yJ5_init_2 : MethodName := ⟨RJ5, "<init>", "(Ljava/lang/String;)V"⟩
abbrev cJ5_init_3 : ByteArray := prog_41_method_5_code
def yJ5_init_3 : MethodName := ⟨RJ5, "<init>", "(Ljava/lang/String;Ljava/lang/Throwable;ZZ)V"⟩
abbrev cJ5_init_4 : ByteArray := prog_41_method_4_code
def yJ5_init_4 : MethodName := ⟨RJ5, "<init>", "(Ljava/lang/Throwable;)V"⟩
abbrev cJ5_toString : ByteArray := prog_41_method_11_code
def yJ5_toString : MethodName := ⟨RJ5, "toString", "()Ljava/lang/String;"⟩
abbrev cJ5_getLocalizedMessage : ByteArray := prog_41_method_7_code
def yJ5_getLocalizedMessage : MethodName := ⟨RJ5, "getLocalizedMessage", "()Ljava/lang/String;"⟩
abbrev cJ5_getMessage : ByteArray := prog_41_method_6_code
def yJ5_getMessage : MethodName := ⟨RJ5, "getMessage", "()Ljava/lang/String;"⟩
theorem q157 : (Jvm.Cond.initialized "java/lang/Throwable") ∈ lw_all := lw_g (lw_at lw_m1 9 rfl) rfl
theorem q366 : (Jvm.Cond.declares ({ cls := "java/lang/Throwable", name := "<init>", desc := "()V" } : Jvm.MethodName)) ∈ lw_tbl := lw_at lw_m1 218 rfl
theorem q367 : (Jvm.Cond.declares ({ cls := "java/lang/Throwable", name := "<init>", desc := "(Ljava/lang/String;)V" } : Jvm.MethodName)) ∈ lw_tbl := lw_at lw_m1 219 rfl
theorem q371 : (Jvm.Cond.lays "java/lang/Throwable" "java/lang/Throwable" "cause" "Ljava/lang/Throwable;") ∈ lw_all := lw_g (lw_at lw_m1 223 rfl) rfl
theorem q373 : (Jvm.Cond.lays "java/lang/Throwable" "java/lang/Throwable" "stackTrace" "[Ljava/lang/StackTraceElement;") ∈ lw_all := lw_g (lw_at lw_m1 225 rfl) rfl
theorem q375 : (Jvm.Cond.lays "java/lang/Throwable" "java/lang/Throwable" "suppressedExceptions" "Ljava/util/List;") ∈ lw_all := lw_g (lw_at lw_m1 227 rfl) rfl
theorem q377 : (Jvm.Cond.lays "java/lang/Throwable" "java/lang/Throwable" "detailMessage" "Ljava/lang/String;") ∈ lw_all := lw_g (lw_at lw_m1 229 rfl) rfl
theorem q379 : (Jvm.Cond.lays "java/lang/Throwable" "java/lang/Throwable" "backtrace" "Ljava/lang/Object;") ∈ lw_all := lw_g (lw_at lw_m1 231 rfl) rfl
theorem q380 : (Jvm.Cond.fieldLink "java/lang/Throwable" (198 : Nat) "java/lang/Throwable" "backtrace" "Ljava/lang/Object;") ∈ lw_all := lw_g (lw_at lw_m1 232 rfl) rfl
theorem q381 : (Jvm.Cond.superclass "java/lang/Throwable" "java/lang/Object") ∈ lw_all := lw_g (lw_at lw_m1 233 rfl) rfl
theorem q382 : (Jvm.Cond.instanceMethod ({ cls := "java/lang/Throwable", name := "<init>", desc := "()V" } : Jvm.MethodName)) ∈ lw_all := lw_g (lw_at lw_m1 234 rfl) rfl
theorem q383 : (Jvm.Cond.code ({ cls := "java/lang/Throwable", name := "<init>", desc := "()V" } : Jvm.MethodName) prog_41_method_1_code (1 : Nat) (Option.none : Option Jvm.ClassFile.FieldType)) ∈ lw_all := lw_g (lw_at lw_m1 235 rfl) rfl
theorem q384 : (Jvm.Cond.methodLink "java/lang/Throwable" (1 : Nat) ({ cls := "java/lang/Object", name := "<init>", desc := "()V" } : Jvm.MethodName)) ∈ lw_all := lw_g (lw_at lw_m1 236 rfl) rfl
theorem q385 : (Jvm.Cond.fieldLink "java/lang/Throwable" (13 : Nat) "java/lang/Throwable" "UNASSIGNED_STACK" "[Ljava/lang/StackTraceElement;") ∈ lw_all := lw_g (lw_at lw_m1 237 rfl) rfl
theorem q386 : (Jvm.Cond.laysStatic "java/lang/Throwable" "UNASSIGNED_STACK" "[Ljava/lang/StackTraceElement;") ∈ lw_tbl := lw_at lw_m1 238 rfl
theorem q387 : (Jvm.Cond.fieldLink "java/lang/Throwable" (20 : Nat) "java/lang/Throwable" "SUPPRESSED_SENTINEL" "Ljava/util/List;") ∈ lw_all := lw_g (lw_at lw_m1 239 rfl) rfl
theorem q388 : (Jvm.Cond.laysStatic "java/lang/Throwable" "SUPPRESSED_SENTINEL" "Ljava/util/List;") ∈ lw_tbl := lw_at lw_m2 0 rfl
theorem q389 : (Jvm.Cond.methodLink "java/lang/Throwable" (27 : Nat) ({ cls := "java/lang/Throwable", name := "fillInStackTrace", desc := "()Ljava/lang/Throwable;" } : Jvm.MethodName)) ∈ lw_all := lw_g (lw_at lw_m2 1 rfl) rfl
theorem q390 : (Jvm.Cond.instanceMethod ({ cls := "java/lang/Throwable", name := "fillInStackTrace", desc := "()Ljava/lang/Throwable;" } : Jvm.MethodName)) ∈ lw_all := lw_g (lw_at lw_m2 2 rfl) rfl
theorem q391 : (Jvm.Cond.sameMethod "java/lang/Throwable" "java/lang/Throwable" "fillInStackTrace" "()Ljava/lang/Throwable;") ∈ lw_all := lw_g (lw_at lw_m2 3 rfl) rfl
theorem q397 : (Jvm.Cond.codeSync ({ cls := "java/lang/Throwable", name := "fillInStackTrace", desc := "()Ljava/lang/Throwable;" } : Jvm.MethodName) prog_41_method_18_code (1 : Nat) (Option.some (Jvm.ClassFile.FieldType.object "java/lang/Throwable"))) ∈ lw_all := lw_g (lw_at lw_m2 9 rfl) rfl
theorem q398 : (Jvm.Cond.methodLink "java/lang/Throwable" (202 : Nat) ({ cls := "java/lang/Throwable", name := "fillInStackTrace", desc := "(I)Ljava/lang/Throwable;" } : Jvm.MethodName)) ∈ lw_all := lw_g (lw_at lw_m2 10 rfl) rfl
theorem q399 : (Jvm.Cond.privateMethod ({ cls := "java/lang/Throwable", name := "fillInStackTrace", desc := "(I)Ljava/lang/Throwable;" } : Jvm.MethodName)) ∈ lw_tbl := lw_at lw_m2 11 rfl
theorem q400 : (Jvm.Cond.instanceMethod ({ cls := "java/lang/Throwable", name := "fillInStackTrace", desc := "(I)Ljava/lang/Throwable;" } : Jvm.MethodName)) ∈ lw_all := lw_g (lw_at lw_m2 12 rfl) rfl
theorem q401 : (Jvm.Cond.instantiable "java/lang/Throwable" (6 : Nat)) ∈ lw_all := lw_g (lw_at lw_m2 13 rfl) rfl
theorem q402 : (Jvm.Cond.native ({ cls := "java/lang/Throwable", name := "fillInStackTrace", desc := "(I)Ljava/lang/Throwable;" } : Jvm.MethodName)) ∈ lw_all := lw_g (lw_at lw_m2 14 rfl) rfl
theorem q635 : (Jvm.Cond.instanceMethod ({ cls := "java/lang/Throwable", name := "<init>", desc := "(Ljava/lang/String;)V" } : Jvm.MethodName)) ∈ lw_all := lw_g (lw_at lw_m3 7 rfl) rfl
theorem q636 : (Jvm.Cond.code ({ cls := "java/lang/Throwable", name := "<init>", desc := "(Ljava/lang/String;)V" } : Jvm.MethodName) prog_41_method_2_code (2 : Nat) (Option.none : Option Jvm.ClassFile.FieldType)) ∈ lw_all := lw_g (lw_at lw_m3 8 rfl) rfl
theorem q637 : (Jvm.Cond.fieldLink "java/lang/Throwable" (198 : Nat) "java/lang/Throwable" "backtrace" "Ljava/lang/Object;") ∈ lw_all := lw_g (lw_at lw_m3 9 rfl) rfl
theorem q638 : (Jvm.Cond.fieldLink "java/lang/Throwable" (31 : Nat) "java/lang/Throwable" "detailMessage" "Ljava/lang/String;") ∈ lw_all := lw_g (lw_at lw_m3 10 rfl) rfl
theorem q639 : (Jvm.Cond.fieldLink "java/lang/Throwable" (7 : Nat) "java/lang/Throwable" "cause" "Ljava/lang/Throwable;") ∈ lw_all := lw_g (lw_at lw_m3 11 rfl) rfl
theorem q640 : (Jvm.Cond.fieldLink "java/lang/Throwable" (17 : Nat) "java/lang/Throwable" "stackTrace" "[Ljava/lang/StackTraceElement;") ∈ lw_all := lw_g (lw_at lw_m3 12 rfl) rfl
theorem q641 : (Jvm.Cond.fieldLink "java/lang/Throwable" (24 : Nat) "java/lang/Throwable" "suppressedExceptions" "Ljava/util/List;") ∈ lw_all := lw_g (lw_at lw_m3 13 rfl) rfl
theorem q642 : (Jvm.Cond.soleField "java/lang/Throwable" "backtrace") ∈ lw_all := lw_g (lw_at lw_m3 14 rfl) rfl
theorem q643 : (Jvm.Cond.soleField "java/lang/Throwable" "detailMessage") ∈ lw_all := lw_g (lw_at lw_m3 15 rfl) rfl
theorem q644 : (Jvm.Cond.soleField "java/lang/Throwable" "cause") ∈ lw_all := lw_g (lw_at lw_m3 16 rfl) rfl
theorem q645 : (Jvm.Cond.soleField "java/lang/Throwable" "stackTrace") ∈ lw_all := lw_g (lw_at lw_m3 17 rfl) rfl
theorem q647 : (Jvm.Cond.soleField "java/lang/Throwable" "depth") ∈ lw_all := lw_g (lw_at lw_m3 19 rfl) rfl
theorem q648 : (Jvm.Cond.soleField "java/lang/Throwable" "suppressedExceptions") ∈ lw_all := lw_g (lw_at lw_m3 20 rfl) rfl
theorem q977 : (Jvm.Cond.instanceMethod ({ cls := "java/lang/Throwable", name := "<init>", desc := "(Ljava/lang/String;Ljava/lang/Throwable;ZZ)V" } : Jvm.MethodName)) ∈ lw_all := lw_g (lw_at lw_m4 109 rfl) rfl
theorem q978 : (Jvm.Cond.code ({ cls := "java/lang/Throwable", name := "<init>", desc := "(Ljava/lang/String;Ljava/lang/Throwable;ZZ)V" } : Jvm.MethodName) prog_41_method_5_code (5 : Nat) (Option.none : Option Jvm.ClassFile.FieldType)) ∈ lw_all := lw_g (lw_at lw_m4 110 rfl) rfl
theorem q1641 : (Jvm.Cond.instanceMethod ({ cls := "java/lang/Throwable", name := "<init>", desc := "(Ljava/lang/Throwable;)V" } : Jvm.MethodName)) ∈ lw_all := lw_g (lw_at lw_m7 53 rfl) rfl
theorem q1642 : (Jvm.Cond.code ({ cls := "java/lang/Throwable", name := "<init>", desc := "(Ljava/lang/Throwable;)V" } : Jvm.MethodName) prog_41_method_4_code (2 : Nat) (Option.none : Option Jvm.ClassFile.FieldType)) ∈ lw_all := lw_g (lw_at lw_m7 54 rfl) rfl
theorem q1643 : (Jvm.Cond.methodLink "java/lang/Throwable" (35 : Nat) ({ cls := "java/lang/Throwable", name := "toString", desc := "()Ljava/lang/String;" } : Jvm.MethodName)) ∈ lw_all := lw_g (lw_at lw_m7 55 rfl) rfl
theorem q1644 : (Jvm.Cond.instanceMethod ({ cls := "java/lang/Throwable", name := "toString", desc := "()Ljava/lang/String;" } : Jvm.MethodName)) ∈ lw_all := lw_g (lw_at lw_m7 56 rfl) rfl
theorem q1645 : (Jvm.Cond.sameMethod "java/lang/Throwable" "java/lang/Throwable" "toString" "()Ljava/lang/String;") ∈ lw_all := lw_g (lw_at lw_m7 57 rfl) rfl
theorem q1652 : (Jvm.Cond.code ({ cls := "java/lang/Throwable", name := "toString", desc := "()Ljava/lang/String;" } : Jvm.MethodName) prog_41_method_11_code (3 : Nat) (Option.some (Jvm.ClassFile.FieldType.object "java/lang/String"))) ∈ lw_all := lw_g (lw_at lw_m7 64 rfl) rfl
theorem q1653 : (Jvm.Cond.methodLink "java/lang/Throwable" (69 : Nat) ({ cls := "java/lang/Object", name := "getClass", desc := "()Ljava/lang/Class;" } : Jvm.MethodName)) ∈ lw_all := lw_g (lw_at lw_m7 65 rfl) rfl
theorem q1654 : (Jvm.Cond.methodLink "java/lang/Throwable" (78 : Nat) ({ cls := "java/lang/Throwable", name := "getLocalizedMessage", desc := "()Ljava/lang/String;" } : Jvm.MethodName)) ∈ lw_all := lw_g (lw_at lw_m7 66 rfl) rfl
theorem q1655 : (Jvm.Cond.instanceMethod ({ cls := "java/lang/Throwable", name := "getLocalizedMessage", desc := "()Ljava/lang/String;" } : Jvm.MethodName)) ∈ lw_all := lw_g (lw_at lw_m7 67 rfl) rfl
theorem q1656 : (Jvm.Cond.sameMethod "java/lang/Throwable" "java/lang/Throwable" "getLocalizedMessage" "()Ljava/lang/String;") ∈ lw_all := lw_g (lw_at lw_m7 68 rfl) rfl
theorem q1663 : (Jvm.Cond.code ({ cls := "java/lang/Throwable", name := "getLocalizedMessage", desc := "()Ljava/lang/String;" } : Jvm.MethodName) prog_41_method_7_code (1 : Nat) (Option.some (Jvm.ClassFile.FieldType.object "java/lang/String"))) ∈ lw_all := lw_g (lw_at lw_m7 75 rfl) rfl
theorem q1664 : (Jvm.Cond.methodLink "java/lang/Throwable" (39 : Nat) ({ cls := "java/lang/Throwable", name := "getMessage", desc := "()Ljava/lang/String;" } : Jvm.MethodName)) ∈ lw_all := lw_g (lw_at lw_m7 76 rfl) rfl
theorem q1665 : (Jvm.Cond.instanceMethod ({ cls := "java/lang/Throwable", name := "getMessage", desc := "()Ljava/lang/String;" } : Jvm.MethodName)) ∈ lw_all := lw_g (lw_at lw_m7 77 rfl) rfl
theorem q1666 : (Jvm.Cond.sameMethod "java/lang/Throwable" "java/lang/Throwable" "getMessage" "()Ljava/lang/String;") ∈ lw_all := lw_g (lw_at lw_m7 78 rfl) rfl
theorem q1673 : (Jvm.Cond.code ({ cls := "java/lang/Throwable", name := "getMessage", desc := "()Ljava/lang/String;" } : Jvm.MethodName) prog_41_method_6_code (1 : Nat) (Option.some (Jvm.ClassFile.FieldType.object "java/lang/String"))) ∈ lw_all := lw_g (lw_at lw_m7 85 rfl) rfl
theorem q1674 : (Jvm.Cond.classLink "java/lang/Throwable" (44 : Nat) "java/lang/StringBuilder") ∈ lw_all := lw_g (lw_at lw_m7 86 rfl) rfl
theorem q1675 : (Jvm.Cond.methodLink "java/lang/Throwable" (46 : Nat) ({ cls := "java/lang/StringBuilder", name := "<init>", desc := "()V" } : Jvm.MethodName)) ∈ lw_all := lw_g (lw_at lw_m7 87 rfl) rfl
theorem q1676 : (Jvm.Cond.methodLink "java/lang/Throwable" (49 : Nat) ({ cls := "java/lang/StringBuilder", name := "append", desc := "(Ljava/lang/String;)Ljava/lang/StringBuilder;" } : Jvm.MethodName)) ∈ lw_all := lw_g (lw_at lw_m7 88 rfl) rfl
theorem q1677 : (Jvm.Cond.stringRef "java/lang/Throwable" (81 : Nat) ": ") ∈ lw_tbl := lw_at lw_m7 89 rfl
theorem q1678 : (Jvm.Cond.methodLink "java/lang/Throwable" (60 : Nat) ({ cls := "java/lang/StringBuilder", name := "toString", desc := "()Ljava/lang/String;" } : Jvm.MethodName)) ∈ lw_all := lw_g (lw_at lw_m7 90 rfl) rfl
theorem q3597 : (Jvm.Cond.sameMethod "java/lang/Throwable" "java/lang/Throwable" "fillInStackTrace" "(I)Ljava/lang/Throwable;") ∈ lw_all := lw_g (lw_at lw_m15 89 rfl) rfl
theorem q3658 : (Jvm.Cond.castable "java/lang/Throwable" "java/lang/Object") ∈ lw_tbl := lw_at lw_m15 150 rfl
theorem in_J5 : ∀ w ∈ wsJ50, w ∈ lw_all := lw_in wsJ50 [371, 373, 375, 377, 379] (by decide +kernel) (by decide +kernel)
/-! java/lang/Exception -/
def RJ6 : String := "java/lang/Exception"
abbrev cJ6_init : ByteArray := prog_23_method_2_code
def yJ6_init : MethodName := ⟨RJ6, "<init>", "(Ljava/lang/String;)V"⟩
abbrev cJ6_init_2 : ByteArray := prog_23_method_5_code
def yJ6_init_2 : MethodName := ⟨RJ6, "<init>", "(Ljava/lang/String;Ljava/lang/Throwable;ZZ)V"⟩
abbrev cJ6_init_3 : ByteArray := prog_23_method_1_code
def yJ6_init_3 : MethodName := ⟨RJ6, "<init>", "()V"⟩
abbrev cJ6_init_4 : ByteArray := prog_23_method_4_code
def yJ6_init_4 : MethodName := ⟨RJ6, "<init>", "(Ljava/lang/Throwable;)V"⟩
theorem q158 : (Jvm.Cond.initialized "java/lang/Exception") ∈ lw_all := lw_g (lw_at lw_m1 10 rfl) rfl
theorem q364 : (Jvm.Cond.declares ({ cls := "java/lang/Exception", name := "<init>", desc := "()V" } : Jvm.MethodName)) ∈ lw_tbl := lw_at lw_m1 216 rfl
theorem q365 : (Jvm.Cond.declares ({ cls := "java/lang/Exception", name := "<init>", desc := "(Ljava/lang/String;)V" } : Jvm.MethodName)) ∈ lw_tbl := lw_at lw_m1 217 rfl
theorem q632 : (Jvm.Cond.instanceMethod ({ cls := "java/lang/Exception", name := "<init>", desc := "(Ljava/lang/String;)V" } : Jvm.MethodName)) ∈ lw_all := lw_g (lw_at lw_m3 4 rfl) rfl
theorem q633 : (Jvm.Cond.code ({ cls := "java/lang/Exception", name := "<init>", desc := "(Ljava/lang/String;)V" } : Jvm.MethodName) prog_23_method_2_code (2 : Nat) (Option.none : Option Jvm.ClassFile.FieldType)) ∈ lw_all := lw_g (lw_at lw_m3 5 rfl) rfl
theorem q634 : (Jvm.Cond.methodLink "java/lang/Exception" (7 : Nat) ({ cls := "java/lang/Throwable", name := "<init>", desc := "(Ljava/lang/String;)V" } : Jvm.MethodName)) ∈ lw_all := lw_g (lw_at lw_m3 6 rfl) rfl
theorem q974 : (Jvm.Cond.instanceMethod ({ cls := "java/lang/Exception", name := "<init>", desc := "(Ljava/lang/String;Ljava/lang/Throwable;ZZ)V" } : Jvm.MethodName)) ∈ lw_all := lw_g (lw_at lw_m4 106 rfl) rfl
theorem q975 : (Jvm.Cond.code ({ cls := "java/lang/Exception", name := "<init>", desc := "(Ljava/lang/String;Ljava/lang/Throwable;ZZ)V" } : Jvm.MethodName) prog_23_method_5_code (5 : Nat) (Option.none : Option Jvm.ClassFile.FieldType)) ∈ lw_all := lw_g (lw_at lw_m4 107 rfl) rfl
theorem q976 : (Jvm.Cond.methodLink "java/lang/Exception" (16 : Nat) ({ cls := "java/lang/Throwable", name := "<init>", desc := "(Ljava/lang/String;Ljava/lang/Throwable;ZZ)V" } : Jvm.MethodName)) ∈ lw_all := lw_g (lw_at lw_m4 108 rfl) rfl
theorem q1557 : (Jvm.Cond.instanceMethod ({ cls := "java/lang/Exception", name := "<init>", desc := "()V" } : Jvm.MethodName)) ∈ lw_all := lw_g (lw_at lw_m6 209 rfl) rfl
theorem q1558 : (Jvm.Cond.code ({ cls := "java/lang/Exception", name := "<init>", desc := "()V" } : Jvm.MethodName) prog_23_method_1_code (1 : Nat) (Option.none : Option Jvm.ClassFile.FieldType)) ∈ lw_all := lw_g (lw_at lw_m6 210 rfl) rfl
theorem q1559 : (Jvm.Cond.methodLink "java/lang/Exception" (1 : Nat) ({ cls := "java/lang/Throwable", name := "<init>", desc := "()V" } : Jvm.MethodName)) ∈ lw_all := lw_g (lw_at lw_m6 211 rfl) rfl
theorem q1638 : (Jvm.Cond.instanceMethod ({ cls := "java/lang/Exception", name := "<init>", desc := "(Ljava/lang/Throwable;)V" } : Jvm.MethodName)) ∈ lw_all := lw_g (lw_at lw_m7 50 rfl) rfl
theorem q1639 : (Jvm.Cond.code ({ cls := "java/lang/Exception", name := "<init>", desc := "(Ljava/lang/Throwable;)V" } : Jvm.MethodName) prog_23_method_4_code (2 : Nat) (Option.none : Option Jvm.ClassFile.FieldType)) ∈ lw_all := lw_g (lw_at lw_m7 51 rfl) rfl
theorem q1640 : (Jvm.Cond.methodLink "java/lang/Exception" (13 : Nat) ({ cls := "java/lang/Throwable", name := "<init>", desc := "(Ljava/lang/Throwable;)V" } : Jvm.MethodName)) ∈ lw_all := lw_g (lw_at lw_m7 52 rfl) rfl
/-! java/lang/RuntimeException -/
def RJ7 : String := "java/lang/RuntimeException"
abbrev cJ7_init : ByteArray := prog_33_method_2_code
def yJ7_init : MethodName := ⟨RJ7, "<init>", "(Ljava/lang/String;)V"⟩
abbrev cJ7_init_2 : ByteArray := prog_33_method_1_code
def yJ7_init_2 : MethodName := ⟨RJ7, "<init>", "()V"⟩
abbrev cJ7_init_3 : ByteArray := prog_33_method_4_code
def yJ7_init_3 : MethodName := ⟨RJ7, "<init>", "(Ljava/lang/Throwable;)V"⟩
theorem q159 : (Jvm.Cond.initialized "java/lang/RuntimeException") ∈ lw_all := lw_g (lw_at lw_m1 11 rfl) rfl
theorem q362 : (Jvm.Cond.declares ({ cls := "java/lang/RuntimeException", name := "<init>", desc := "()V" } : Jvm.MethodName)) ∈ lw_tbl := lw_at lw_m1 214 rfl
theorem q363 : (Jvm.Cond.declares ({ cls := "java/lang/RuntimeException", name := "<init>", desc := "(Ljava/lang/String;)V" } : Jvm.MethodName)) ∈ lw_tbl := lw_at lw_m1 215 rfl
theorem q629 : (Jvm.Cond.instanceMethod ({ cls := "java/lang/RuntimeException", name := "<init>", desc := "(Ljava/lang/String;)V" } : Jvm.MethodName)) ∈ lw_all := lw_g (lw_at lw_m3 1 rfl) rfl
theorem q630 : (Jvm.Cond.code ({ cls := "java/lang/RuntimeException", name := "<init>", desc := "(Ljava/lang/String;)V" } : Jvm.MethodName) prog_33_method_2_code (2 : Nat) (Option.none : Option Jvm.ClassFile.FieldType)) ∈ lw_all := lw_g (lw_at lw_m3 2 rfl) rfl
theorem q631 : (Jvm.Cond.methodLink "java/lang/RuntimeException" (7 : Nat) ({ cls := "java/lang/Exception", name := "<init>", desc := "(Ljava/lang/String;)V" } : Jvm.MethodName)) ∈ lw_all := lw_g (lw_at lw_m3 3 rfl) rfl
theorem q1554 : (Jvm.Cond.instanceMethod ({ cls := "java/lang/RuntimeException", name := "<init>", desc := "()V" } : Jvm.MethodName)) ∈ lw_all := lw_g (lw_at lw_m6 206 rfl) rfl
theorem q1555 : (Jvm.Cond.code ({ cls := "java/lang/RuntimeException", name := "<init>", desc := "()V" } : Jvm.MethodName) prog_33_method_1_code (1 : Nat) (Option.none : Option Jvm.ClassFile.FieldType)) ∈ lw_all := lw_g (lw_at lw_m6 207 rfl) rfl
theorem q1556 : (Jvm.Cond.methodLink "java/lang/RuntimeException" (1 : Nat) ({ cls := "java/lang/Exception", name := "<init>", desc := "()V" } : Jvm.MethodName)) ∈ lw_all := lw_g (lw_at lw_m6 208 rfl) rfl
theorem q1635 : (Jvm.Cond.instanceMethod ({ cls := "java/lang/RuntimeException", name := "<init>", desc := "(Ljava/lang/Throwable;)V" } : Jvm.MethodName)) ∈ lw_all := lw_g (lw_at lw_m7 47 rfl) rfl
theorem q1636 : (Jvm.Cond.code ({ cls := "java/lang/RuntimeException", name := "<init>", desc := "(Ljava/lang/Throwable;)V" } : Jvm.MethodName) prog_33_method_4_code (2 : Nat) (Option.none : Option Jvm.ClassFile.FieldType)) ∈ lw_all := lw_g (lw_at lw_m7 48 rfl) rfl
theorem q1637 : (Jvm.Cond.methodLink "java/lang/RuntimeException" (13 : Nat) ({ cls := "java/lang/Exception", name := "<init>", desc := "(Ljava/lang/Throwable;)V" } : Jvm.MethodName)) ∈ lw_all := lw_g (lw_at lw_m7 49 rfl) rfl
/-! java/lang/IllegalArgumentException -/
def RJ8 : String := "java/lang/IllegalArgumentException"
def TJ8 : u_T := fun k => match k with
  | 0 => ("java/lang/Throwable", "cause", "Ljava/lang/Throwable;", false)
  | 1 => ("java/lang/Throwable", "stackTrace", "[Ljava/lang/StackTraceElement;", false)
  | 2 => ("java/lang/Throwable", "suppressedExceptions", "Ljava/util/List;", false)
  | 3 => ("java/lang/Throwable", "detailMessage", "Ljava/lang/String;", false)
  | 4 => ("java/lang/Throwable", "backtrace", "Ljava/lang/Object;", false)
  | _ => ("java/lang/Throwable", "depth", "I", false)
def tyJ8 : Nat → FieldType := fun k => match k with
  | 0 => .object "java/lang/Throwable"
  | 1 => .array (.object "java/lang/StackTraceElement")
  | 2 => .object "java/util/List"
  | 3 => .object "java/lang/String"
  | 4 => .object "java/lang/Object"
  | _ => .int
abbrev wsJ80 : List Cond := u_ws RJ8 TJ8 6
theorem nmJ8 : ∀ a, a < 6 → ∀ b, b < 6 → a ≠ b → (TJ8 a).2.1 ≠ (TJ8 b).2.1 := by decide +kernel
theorem tyJ8_ok : ∀ k, k < 6 → parseFieldDescriptor (TJ8 k).2.2.1 = some (tyJ8 k) := by decide +kernel
abbrev cJ8_init : ByteArray := prog_24_method_2_code
def yJ8_init : MethodName := ⟨RJ8, "<init>", "(Ljava/lang/String;)V"⟩
abbrev cJ8_init_2 : ByteArray := prog_24_method_1_code
def yJ8_init_2 : MethodName := ⟨RJ8, "<init>", "()V"⟩
theorem q160 : (Jvm.Cond.initialized "java/lang/IllegalArgumentException") ∈ lw_all := lw_g (lw_at lw_m1 12 rfl) rfl
theorem q360 : (Jvm.Cond.instantiable "java/lang/IllegalArgumentException" (6 : Nat)) ∈ lw_all := lw_g (lw_at lw_m1 212 rfl) rfl
theorem q361 : (Jvm.Cond.castable "java/lang/IllegalArgumentException" "java/lang/IllegalArgumentException") ∈ lw_tbl := lw_at lw_m1 213 rfl
theorem q368 : (Jvm.Cond.selects "java/lang/IllegalArgumentException" ({ cls := "java/lang/Throwable", name := "fillInStackTrace", desc := "(I)Ljava/lang/Throwable;" } : Jvm.MethodName) ({ cls := "java/lang/Throwable", name := "fillInStackTrace", desc := "(I)Ljava/lang/Throwable;" } : Jvm.MethodName)) ∈ lw_all := lw_g (lw_at lw_m1 220 rfl) rfl
theorem q369 : (Jvm.Cond.selects "java/lang/IllegalArgumentException" ({ cls := "java/lang/Throwable", name := "fillInStackTrace", desc := "()Ljava/lang/Throwable;" } : Jvm.MethodName) ({ cls := "java/lang/Throwable", name := "fillInStackTrace", desc := "()Ljava/lang/Throwable;" } : Jvm.MethodName)) ∈ lw_all := lw_g (lw_at lw_m1 221 rfl) rfl
theorem q370 : (Jvm.Cond.lays "java/lang/IllegalArgumentException" "java/lang/Throwable" "cause" "Ljava/lang/Throwable;") ∈ lw_all := lw_g (lw_at lw_m1 222 rfl) rfl
theorem q372 : (Jvm.Cond.lays "java/lang/IllegalArgumentException" "java/lang/Throwable" "stackTrace" "[Ljava/lang/StackTraceElement;") ∈ lw_all := lw_g (lw_at lw_m1 224 rfl) rfl
theorem q374 : (Jvm.Cond.lays "java/lang/IllegalArgumentException" "java/lang/Throwable" "suppressedExceptions" "Ljava/util/List;") ∈ lw_all := lw_g (lw_at lw_m1 226 rfl) rfl
theorem q376 : (Jvm.Cond.lays "java/lang/IllegalArgumentException" "java/lang/Throwable" "detailMessage" "Ljava/lang/String;") ∈ lw_all := lw_g (lw_at lw_m1 228 rfl) rfl
theorem q378 : (Jvm.Cond.lays "java/lang/IllegalArgumentException" "java/lang/Throwable" "backtrace" "Ljava/lang/Object;") ∈ lw_all := lw_g (lw_at lw_m1 230 rfl) rfl
theorem q626 : (Jvm.Cond.instanceMethod ({ cls := "java/lang/IllegalArgumentException", name := "<init>", desc := "(Ljava/lang/String;)V" } : Jvm.MethodName)) ∈ lw_all := lw_g (lw_at lw_m2 238 rfl) rfl
theorem q627 : (Jvm.Cond.code ({ cls := "java/lang/IllegalArgumentException", name := "<init>", desc := "(Ljava/lang/String;)V" } : Jvm.MethodName) prog_24_method_2_code (2 : Nat) (Option.none : Option Jvm.ClassFile.FieldType)) ∈ lw_all := lw_g (lw_at lw_m2 239 rfl) rfl
theorem q628 : (Jvm.Cond.methodLink "java/lang/IllegalArgumentException" (7 : Nat) ({ cls := "java/lang/RuntimeException", name := "<init>", desc := "(Ljava/lang/String;)V" } : Jvm.MethodName)) ∈ lw_all := lw_g (lw_at lw_m3 0 rfl) rfl
theorem q646 : (Jvm.Cond.lays "java/lang/IllegalArgumentException" "java/lang/Throwable" "depth" "I") ∈ lw_all := lw_g (lw_at lw_m3 18 rfl) rfl
theorem q649 : (Jvm.Cond.superclass "java/lang/IllegalArgumentException" "java/lang/RuntimeException") ∈ lw_all := lw_g (lw_at lw_m3 21 rfl) rfl
theorem q1207 : (Jvm.Cond.selects "java/lang/IllegalArgumentException" ({ cls := "java/lang/Object", name := "getClass", desc := "()Ljava/lang/Class;" } : Jvm.MethodName) ({ cls := "java/lang/Object", name := "getClass", desc := "()Ljava/lang/Class;" } : Jvm.MethodName)) ∈ lw_all := lw_g (lw_at lw_m5 99 rfl) rfl
theorem q1648 : (Jvm.Cond.selects "java/lang/IllegalArgumentException" ({ cls := "java/lang/Throwable", name := "toString", desc := "()Ljava/lang/String;" } : Jvm.MethodName) ({ cls := "java/lang/Throwable", name := "toString", desc := "()Ljava/lang/String;" } : Jvm.MethodName)) ∈ lw_all := lw_g (lw_at lw_m7 60 rfl) rfl
theorem q1659 : (Jvm.Cond.selects "java/lang/IllegalArgumentException" ({ cls := "java/lang/Throwable", name := "getLocalizedMessage", desc := "()Ljava/lang/String;" } : Jvm.MethodName) ({ cls := "java/lang/Throwable", name := "getLocalizedMessage", desc := "()Ljava/lang/String;" } : Jvm.MethodName)) ∈ lw_all := lw_g (lw_at lw_m7 71 rfl) rfl
theorem q1669 : (Jvm.Cond.selects "java/lang/IllegalArgumentException" ({ cls := "java/lang/Throwable", name := "getMessage", desc := "()Ljava/lang/String;" } : Jvm.MethodName) ({ cls := "java/lang/Throwable", name := "getMessage", desc := "()Ljava/lang/String;" } : Jvm.MethodName)) ∈ lw_all := lw_g (lw_at lw_m7 81 rfl) rfl
theorem q2605 : (Jvm.Cond.instanceMethod ({ cls := "java/lang/IllegalArgumentException", name := "<init>", desc := "()V" } : Jvm.MethodName)) ∈ lw_all := lw_g (lw_at lw_m11 57 rfl) rfl
theorem q2606 : (Jvm.Cond.code ({ cls := "java/lang/IllegalArgumentException", name := "<init>", desc := "()V" } : Jvm.MethodName) prog_24_method_1_code (1 : Nat) (Option.none : Option Jvm.ClassFile.FieldType)) ∈ lw_all := lw_g (lw_at lw_m11 58 rfl) rfl
theorem q2607 : (Jvm.Cond.methodLink "java/lang/IllegalArgumentException" (1 : Nat) ({ cls := "java/lang/RuntimeException", name := "<init>", desc := "()V" } : Jvm.MethodName)) ∈ lw_all := lw_g (lw_at lw_m11 59 rfl) rfl
theorem q3629 : (Jvm.Cond.castable "java/lang/IllegalArgumentException" "java/lang/Object") ∈ lw_tbl := lw_at lw_m15 121 rfl
theorem in_J8 : ∀ w ∈ wsJ80, w ∈ lw_all := lw_in wsJ80 [370, 372, 374, 376, 378, 646] (by decide +kernel) (by decide +kernel)
/-! java/lang/AbstractStringBuilder -/
def RJ9 : String := "java/lang/AbstractStringBuilder"
abbrev cJ9_init : ByteArray := prog_17_method_2_code
def yJ9_init : MethodName := ⟨RJ9, "<init>", "(I)V"⟩
abbrev cJ9_append : ByteArray := prog_17_method_22_code
def yJ9_append : MethodName := ⟨RJ9, "append", "(Ljava/lang/String;)Ljava/lang/AbstractStringBuilder;"⟩
abbrev cJ9_appendNull : ByteArray := prog_17_method_26_code
def yJ9_appendNull : MethodName := ⟨RJ9, "appendNull", "()Ljava/lang/AbstractStringBuilder;"⟩
abbrev cJ9_ensureCapacityInternal : ByteArray := prog_17_method_9_code
def yJ9_ensureCapacityInternal : MethodName := ⟨RJ9, "ensureCapacityInternal", "(I)V"⟩
abbrev cJ9_newCapacity : ByteArray := prog_17_method_10_code
def yJ9_newCapacity : MethodName := ⟨RJ9, "newCapacity", "(I)I"⟩
abbrev cJ9_isLatin1 : ByteArray := prog_17_method_68_code
def yJ9_isLatin1 : MethodName := ⟨RJ9, "isLatin1", "()Z"⟩
abbrev cJ9_putStringAt : ByteArray := prog_17_method_73_code
def yJ9_putStringAt : MethodName := ⟨RJ9, "putStringAt", "(ILjava/lang/String;)V"⟩
abbrev cJ9_inflateIfNeededFor : ByteArray := prog_17_method_71_code
def yJ9_inflateIfNeededFor : MethodName := ⟨RJ9, "inflateIfNeededFor", "(Ljava/lang/String;)V"⟩
abbrev cJ9_inflate : ByteArray := prog_17_method_11_code
def yJ9_inflate : MethodName := ⟨RJ9, "inflate", "()V"⟩
abbrev cJ9_append_2 : ByteArray := prog_17_method_32_code
def yJ9_append_2 : MethodName := ⟨RJ9, "append", "(I)Ljava/lang/AbstractStringBuilder;"⟩
abbrev cJ9_getValue : ByteArray := prog_17_method_64_code
def yJ9_getValue : MethodName := ⟨RJ9, "getValue", "()[B"⟩
abbrev cJ9_length : ByteArray := prog_17_method_6_code
def yJ9_length : MethodName := ⟨RJ9, "length", "()I"⟩
abbrev cJ9_append_3 : ByteArray := prog_17_method_31_code
def yJ9_append_3 : MethodName := ⟨RJ9, "append", "(C)Ljava/lang/AbstractStringBuilder;"⟩
abbrev cJ9_compareTo : ByteArray := prog_17_method_5_code
def yJ9_compareTo : MethodName := ⟨RJ9, "compareTo", "(Ljava/lang/AbstractStringBuilder;)I"⟩
abbrev cJ9_charAt : ByteArray := prog_17_method_14_code
def yJ9_charAt : MethodName := ⟨RJ9, "charAt", "(I)C"⟩
abbrev cJ9_setLength : ByteArray := prog_17_method_13_code
def yJ9_setLength : MethodName := ⟨RJ9, "setLength", "(I)V"⟩
theorem q161 : (Jvm.Cond.initialized "java/lang/AbstractStringBuilder") ∈ lw_all := lw_g (lw_at lw_m1 13 rfl) rfl
theorem q409 : (Jvm.Cond.instanceMethod ({ cls := "java/lang/AbstractStringBuilder", name := "<init>", desc := "(I)V" } : Jvm.MethodName)) ∈ lw_all := lw_g (lw_at lw_m2 21 rfl) rfl
theorem q410 : (Jvm.Cond.code ({ cls := "java/lang/AbstractStringBuilder", name := "<init>", desc := "(I)V" } : Jvm.MethodName) prog_17_method_2_code (2 : Nat) (Option.none : Option Jvm.ClassFile.FieldType)) ∈ lw_all := lw_g (lw_at lw_m2 22 rfl) rfl
theorem q411 : (Jvm.Cond.methodLink "java/lang/AbstractStringBuilder" (3 : Nat) ({ cls := "java/lang/Object", name := "<init>", desc := "()V" } : Jvm.MethodName)) ∈ lw_all := lw_g (lw_at lw_m2 23 rfl) rfl
theorem q412 : (Jvm.Cond.fieldLink "java/lang/AbstractStringBuilder" (18 : Nat) "java/lang/String" "COMPACT_STRINGS" "Z") ∈ lw_all := lw_g (lw_at lw_m2 24 rfl) rfl
theorem q414 : (Jvm.Cond.methodLink "java/lang/AbstractStringBuilder" (26 : Nat) ({ cls := "java/lang/StringUTF16", name := "newBytesFor", desc := "(I)[B" } : Jvm.MethodName)) ∈ lw_all := lw_g (lw_at lw_m2 26 rfl) rfl
theorem q421 : (Jvm.Cond.fieldLink "java/lang/AbstractStringBuilder" (15 : Nat) "java/lang/AbstractStringBuilder" "value" "[B") ∈ lw_all := lw_g (lw_at lw_m2 33 rfl) rfl
theorem q422 : (Jvm.Cond.fieldLink "java/lang/AbstractStringBuilder" (22 : Nat) "java/lang/AbstractStringBuilder" "coder" "B") ∈ lw_all := lw_g (lw_at lw_m2 34 rfl) rfl
theorem q423 : (Jvm.Cond.fieldLink "java/lang/AbstractStringBuilder" (73 : Nat) "java/lang/AbstractStringBuilder" "maybeLatin1" "Z") ∈ lw_all := lw_g (lw_at lw_m2 35 rfl) rfl
theorem q425 : (Jvm.Cond.fieldLink "java/lang/AbstractStringBuilder" (79 : Nat) "java/lang/AbstractStringBuilder" "count" "I") ∈ lw_all := lw_g (lw_at lw_m2 37 rfl) rfl
theorem q427 : (Jvm.Cond.soleField "java/lang/AbstractStringBuilder" "value") ∈ lw_all := lw_g (lw_at lw_m2 39 rfl) rfl
theorem q429 : (Jvm.Cond.soleField "java/lang/AbstractStringBuilder" "coder") ∈ lw_all := lw_g (lw_at lw_m2 41 rfl) rfl
theorem q431 : (Jvm.Cond.soleField "java/lang/AbstractStringBuilder" "maybeLatin1") ∈ lw_all := lw_g (lw_at lw_m2 43 rfl) rfl
theorem q433 : (Jvm.Cond.soleField "java/lang/AbstractStringBuilder" "count") ∈ lw_all := lw_g (lw_at lw_m2 45 rfl) rfl
theorem q442 : (Jvm.Cond.instanceMethod ({ cls := "java/lang/AbstractStringBuilder", name := "append", desc := "(Ljava/lang/String;)Ljava/lang/AbstractStringBuilder;" } : Jvm.MethodName)) ∈ lw_all := lw_g (lw_at lw_m2 54 rfl) rfl
theorem q443 : (Jvm.Cond.code ({ cls := "java/lang/AbstractStringBuilder", name := "append", desc := "(Ljava/lang/String;)Ljava/lang/AbstractStringBuilder;" } : Jvm.MethodName) prog_17_method_22_code (3 : Nat) (Option.some (Jvm.ClassFile.FieldType.object "java/lang/AbstractStringBuilder"))) ∈ lw_all := lw_g (lw_at lw_m2 55 rfl) rfl
theorem q444 : (Jvm.Cond.methodLink "java/lang/AbstractStringBuilder" (204 : Nat) ({ cls := "java/lang/AbstractStringBuilder", name := "appendNull", desc := "()Ljava/lang/AbstractStringBuilder;" } : Jvm.MethodName)) ∈ lw_all := lw_g (lw_at lw_m2 56 rfl) rfl
theorem q445 : (Jvm.Cond.privateMethod ({ cls := "java/lang/AbstractStringBuilder", name := "appendNull", desc := "()Ljava/lang/AbstractStringBuilder;" } : Jvm.MethodName)) ∈ lw_tbl := lw_at lw_m2 57 rfl
theorem q446 : (Jvm.Cond.instanceMethod ({ cls := "java/lang/AbstractStringBuilder", name := "appendNull", desc := "()Ljava/lang/AbstractStringBuilder;" } : Jvm.MethodName)) ∈ lw_all := lw_g (lw_at lw_m2 58 rfl) rfl
theorem q447 : (Jvm.Cond.code ({ cls := "java/lang/AbstractStringBuilder", name := "appendNull", desc := "()Ljava/lang/AbstractStringBuilder;" } : Jvm.MethodName) prog_17_method_26_code (3 : Nat) (Option.some (Jvm.ClassFile.FieldType.object "java/lang/AbstractStringBuilder"))) ∈ lw_all := lw_g (lw_at lw_m2 59 rfl) rfl
theorem q448 : (Jvm.Cond.methodLink "java/lang/AbstractStringBuilder" (100 : Nat) ({ cls := "java/lang/AbstractStringBuilder", name := "ensureCapacityInternal", desc := "(I)V" } : Jvm.MethodName)) ∈ lw_all := lw_g (lw_at lw_m2 60 rfl) rfl
theorem q449 : (Jvm.Cond.privateMethod ({ cls := "java/lang/AbstractStringBuilder", name := "ensureCapacityInternal", desc := "(I)V" } : Jvm.MethodName)) ∈ lw_tbl := lw_at lw_m2 61 rfl
theorem q450 : (Jvm.Cond.instanceMethod ({ cls := "java/lang/AbstractStringBuilder", name := "ensureCapacityInternal", desc := "(I)V" } : Jvm.MethodName)) ∈ lw_all := lw_g (lw_at lw_m2 62 rfl) rfl
theorem q451 : (Jvm.Cond.code ({ cls := "java/lang/AbstractStringBuilder", name := "ensureCapacityInternal", desc := "(I)V" } : Jvm.MethodName) prog_17_method_9_code (3 : Nat) (Option.none : Option Jvm.ClassFile.FieldType)) ∈ lw_all := lw_g (lw_at lw_m2 63 rfl) rfl
theorem q452 : (Jvm.Cond.methodLink "java/lang/AbstractStringBuilder" (104 : Nat) ({ cls := "java/lang/AbstractStringBuilder", name := "newCapacity", desc := "(I)I" } : Jvm.MethodName)) ∈ lw_all := lw_g (lw_at lw_m2 64 rfl) rfl
theorem q453 : (Jvm.Cond.privateMethod ({ cls := "java/lang/AbstractStringBuilder", name := "newCapacity", desc := "(I)I" } : Jvm.MethodName)) ∈ lw_tbl := lw_at lw_m2 65 rfl
theorem q454 : (Jvm.Cond.instanceMethod ({ cls := "java/lang/AbstractStringBuilder", name := "newCapacity", desc := "(I)I" } : Jvm.MethodName)) ∈ lw_all := lw_g (lw_at lw_m2 66 rfl) rfl
theorem q455 : (Jvm.Cond.code ({ cls := "java/lang/AbstractStringBuilder", name := "newCapacity", desc := "(I)I" } : Jvm.MethodName) prog_17_method_10_code (6 : Nat) (Option.some Jvm.ClassFile.FieldType.int)) ∈ lw_all := lw_g (lw_at lw_m2 67 rfl) rfl
theorem q456 : (Jvm.Cond.methodLink "java/lang/AbstractStringBuilder" (114 : Nat) ({ cls := "jdk/internal/util/ArraysSupport", name := "newLength", desc := "(III)I" } : Jvm.MethodName)) ∈ lw_all := lw_g (lw_at lw_m2 68 rfl) rfl
theorem q466 : (Jvm.Cond.constant "java/lang/AbstractStringBuilder" (39 : Nat) (2147483647 : Int32)) ∈ lw_all := lw_g (lw_at lw_m2 78 rfl) rfl
theorem q467 : (Jvm.Cond.methodLink "java/lang/AbstractStringBuilder" (108 : Nat) ({ cls := "java/util/Arrays", name := "copyOf", desc := "([BI)[B" } : Jvm.MethodName)) ∈ lw_all := lw_g (lw_at lw_m2 79 rfl) rfl
theorem q483 : (Jvm.Cond.methodLink "java/lang/AbstractStringBuilder" (83 : Nat) ({ cls := "java/lang/AbstractStringBuilder", name := "isLatin1", desc := "()Z" } : Jvm.MethodName)) ∈ lw_all := lw_g (lw_at lw_m2 95 rfl) rfl
theorem q484 : (Jvm.Cond.instanceMethod ({ cls := "java/lang/AbstractStringBuilder", name := "isLatin1", desc := "()Z" } : Jvm.MethodName)) ∈ lw_all := lw_g (lw_at lw_m2 96 rfl) rfl
theorem q485 : (Jvm.Cond.sameMethod "java/lang/AbstractStringBuilder" "java/lang/AbstractStringBuilder" "isLatin1" "()Z") ∈ lw_all := lw_g (lw_at lw_m2 97 rfl) rfl
theorem q487 : (Jvm.Cond.code ({ cls := "java/lang/AbstractStringBuilder", name := "isLatin1", desc := "()Z" } : Jvm.MethodName) prog_17_method_68_code (1 : Nat) (Option.some Jvm.ClassFile.FieldType.boolean)) ∈ lw_all := lw_g (lw_at lw_m2 99 rfl) rfl
theorem q488 : (Jvm.Cond.methodLink "java/lang/AbstractStringBuilder" (226 : Nat) ({ cls := "java/lang/StringUTF16", name := "putCharsAt", desc := "([BICCCC)I" } : Jvm.MethodName)) ∈ lw_all := lw_g (lw_at lw_m2 100 rfl) rfl
theorem q514 : (Jvm.Cond.methodLink "java/lang/AbstractStringBuilder" (32 : Nat) ({ cls := "java/lang/String", name := "length", desc := "()I" } : Jvm.MethodName)) ∈ lw_all := lw_g (lw_at lw_m2 126 rfl) rfl
theorem q523 : (Jvm.Cond.methodLink "java/lang/AbstractStringBuilder" (208 : Nat) ({ cls := "java/lang/AbstractStringBuilder", name := "putStringAt", desc := "(ILjava/lang/String;)V" } : Jvm.MethodName)) ∈ lw_all := lw_g (lw_at lw_m2 135 rfl) rfl
theorem q524 : (Jvm.Cond.privateMethod ({ cls := "java/lang/AbstractStringBuilder", name := "putStringAt", desc := "(ILjava/lang/String;)V" } : Jvm.MethodName)) ∈ lw_tbl := lw_at lw_m2 136 rfl
theorem q525 : (Jvm.Cond.instanceMethod ({ cls := "java/lang/AbstractStringBuilder", name := "putStringAt", desc := "(ILjava/lang/String;)V" } : Jvm.MethodName)) ∈ lw_all := lw_g (lw_at lw_m2 137 rfl) rfl
theorem q526 : (Jvm.Cond.code ({ cls := "java/lang/AbstractStringBuilder", name := "putStringAt", desc := "(ILjava/lang/String;)V" } : Jvm.MethodName) prog_17_method_73_code (3 : Nat) (Option.none : Option Jvm.ClassFile.FieldType)) ∈ lw_all := lw_g (lw_at lw_m2 138 rfl) rfl
theorem q527 : (Jvm.Cond.methodLink "java/lang/AbstractStringBuilder" (397 : Nat) ({ cls := "java/lang/AbstractStringBuilder", name := "inflateIfNeededFor", desc := "(Ljava/lang/String;)V" } : Jvm.MethodName)) ∈ lw_all := lw_g (lw_at lw_m2 139 rfl) rfl
theorem q528 : (Jvm.Cond.privateMethod ({ cls := "java/lang/AbstractStringBuilder", name := "inflateIfNeededFor", desc := "(Ljava/lang/String;)V" } : Jvm.MethodName)) ∈ lw_tbl := lw_at lw_m2 140 rfl
theorem q529 : (Jvm.Cond.instanceMethod ({ cls := "java/lang/AbstractStringBuilder", name := "inflateIfNeededFor", desc := "(Ljava/lang/String;)V" } : Jvm.MethodName)) ∈ lw_all := lw_g (lw_at lw_m2 141 rfl) rfl
theorem q530 : (Jvm.Cond.code ({ cls := "java/lang/AbstractStringBuilder", name := "inflateIfNeededFor", desc := "(Ljava/lang/String;)V" } : Jvm.MethodName) prog_17_method_71_code (2 : Nat) (Option.none : Option Jvm.ClassFile.FieldType)) ∈ lw_all := lw_g (lw_at lw_m2 142 rfl) rfl
theorem q531 : (Jvm.Cond.methodLink "java/lang/AbstractStringBuilder" (40 : Nat) ({ cls := "java/lang/String", name := "coder", desc := "()B" } : Jvm.MethodName)) ∈ lw_all := lw_g (lw_at lw_m2 143 rfl) rfl
theorem q532 : (Jvm.Cond.methodLink "java/lang/AbstractStringBuilder" (195 : Nat) ({ cls := "java/lang/AbstractStringBuilder", name := "inflate", desc := "()V" } : Jvm.MethodName)) ∈ lw_all := lw_g (lw_at lw_m2 144 rfl) rfl
theorem q533 : (Jvm.Cond.privateMethod ({ cls := "java/lang/AbstractStringBuilder", name := "inflate", desc := "()V" } : Jvm.MethodName)) ∈ lw_tbl := lw_at lw_m2 145 rfl
theorem q534 : (Jvm.Cond.instanceMethod ({ cls := "java/lang/AbstractStringBuilder", name := "inflate", desc := "()V" } : Jvm.MethodName)) ∈ lw_all := lw_g (lw_at lw_m2 146 rfl) rfl
theorem q535 : (Jvm.Cond.code ({ cls := "java/lang/AbstractStringBuilder", name := "inflate", desc := "()V" } : Jvm.MethodName) prog_17_method_11_code (2 : Nat) (Option.none : Option Jvm.ClassFile.FieldType)) ∈ lw_all := lw_g (lw_at lw_m2 147 rfl) rfl
theorem q536 : (Jvm.Cond.methodLink "java/lang/AbstractStringBuilder" (125 : Nat) ({ cls := "java/lang/StringLatin1", name := "inflate", desc := "([BI[BII)V" } : Jvm.MethodName)) ∈ lw_all := lw_g (lw_at lw_m2 148 rfl) rfl
theorem q551 : (Jvm.Cond.methodLink "java/lang/AbstractStringBuilder" (399 : Nat) ({ cls := "java/lang/String", name := "getBytes", desc := "([BIB)V" } : Jvm.MethodName)) ∈ lw_all := lw_g (lw_at lw_m2 163 rfl) rfl
theorem q562 : (Jvm.Cond.instanceMethod ({ cls := "java/lang/AbstractStringBuilder", name := "append", desc := "(I)Ljava/lang/AbstractStringBuilder;" } : Jvm.MethodName)) ∈ lw_all := lw_g (lw_at lw_m2 174 rfl) rfl
theorem q563 : (Jvm.Cond.code ({ cls := "java/lang/AbstractStringBuilder", name := "append", desc := "(I)Ljava/lang/AbstractStringBuilder;" } : Jvm.MethodName) prog_17_method_32_code (4 : Nat) (Option.some (Jvm.ClassFile.FieldType.object "java/lang/AbstractStringBuilder"))) ∈ lw_all := lw_g (lw_at lw_m2 175 rfl) rfl
theorem q564 : (Jvm.Cond.methodLink "java/lang/AbstractStringBuilder" (245 : Nat) ({ cls := "java/lang/Integer", name := "stringSize", desc := "(I)I" } : Jvm.MethodName)) ∈ lw_all := lw_g (lw_at lw_m2 176 rfl) rfl
theorem q567 : (Jvm.Cond.methodLink "java/lang/AbstractStringBuilder" (248 : Nat) ({ cls := "java/lang/Integer", name := "getChars", desc := "(II[B)I" } : Jvm.MethodName)) ∈ lw_all := lw_g (lw_at lw_m2 179 rfl) rfl
theorem q574 : (Jvm.Cond.methodLink "java/lang/AbstractStringBuilder" (251 : Nat) ({ cls := "java/lang/StringUTF16", name := "getChars", desc := "(III[B)I" } : Jvm.MethodName)) ∈ lw_all := lw_g (lw_at lw_m2 186 rfl) rfl
theorem q596 : (Jvm.Cond.instanceMethod ({ cls := "java/lang/AbstractStringBuilder", name := "getValue", desc := "()[B" } : Jvm.MethodName)) ∈ lw_all := lw_g (lw_at lw_m2 208 rfl) rfl
theorem q597 : (Jvm.Cond.sameMethod "java/lang/AbstractStringBuilder" "java/lang/AbstractStringBuilder" "getValue" "()[B") ∈ lw_all := lw_g (lw_at lw_m2 209 rfl) rfl
theorem q599 : (Jvm.Cond.code ({ cls := "java/lang/AbstractStringBuilder", name := "getValue", desc := "()[B" } : Jvm.MethodName) prog_17_method_64_code (1 : Nat) (Option.some (Jvm.ClassFile.FieldType.array Jvm.ClassFile.FieldType.byte))) ∈ lw_all := lw_g (lw_at lw_m2 211 rfl) rfl
theorem q601 : (Jvm.Cond.instanceMethod ({ cls := "java/lang/AbstractStringBuilder", name := "length", desc := "()I" } : Jvm.MethodName)) ∈ lw_all := lw_g (lw_at lw_m2 213 rfl) rfl
theorem q602 : (Jvm.Cond.sameMethod "java/lang/AbstractStringBuilder" "java/lang/AbstractStringBuilder" "length" "()I") ∈ lw_all := lw_g (lw_at lw_m2 214 rfl) rfl
theorem q607 : (Jvm.Cond.code ({ cls := "java/lang/AbstractStringBuilder", name := "length", desc := "()I" } : Jvm.MethodName) prog_17_method_6_code (1 : Nat) (Option.some Jvm.ClassFile.FieldType.int)) ∈ lw_all := lw_g (lw_at lw_m2 219 rfl) rfl
theorem q1000 : (Jvm.Cond.instanceMethod ({ cls := "java/lang/AbstractStringBuilder", name := "append", desc := "(C)Ljava/lang/AbstractStringBuilder;" } : Jvm.MethodName)) ∈ lw_all := lw_g (lw_at lw_m4 132 rfl) rfl
theorem q1001 : (Jvm.Cond.code ({ cls := "java/lang/AbstractStringBuilder", name := "append", desc := "(C)Ljava/lang/AbstractStringBuilder;" } : Jvm.MethodName) prog_17_method_31_code (2 : Nat) (Option.some (Jvm.ClassFile.FieldType.object "java/lang/AbstractStringBuilder"))) ∈ lw_all := lw_g (lw_at lw_m4 133 rfl) rfl
theorem q1002 : (Jvm.Cond.methodLink "java/lang/AbstractStringBuilder" (191 : Nat) ({ cls := "java/lang/StringLatin1", name := "canEncode", desc := "(C)Z" } : Jvm.MethodName)) ∈ lw_all := lw_g (lw_at lw_m4 134 rfl) rfl
theorem q1005 : (Jvm.Cond.methodLink "java/lang/AbstractStringBuilder" (197 : Nat) ({ cls := "java/lang/StringUTF16", name := "putCharSB", desc := "([BII)V" } : Jvm.MethodName)) ∈ lw_all := lw_g (lw_at lw_m4 137 rfl) rfl
theorem q1922 : (Jvm.Cond.instanceMethod ({ cls := "java/lang/AbstractStringBuilder", name := "compareTo", desc := "(Ljava/lang/AbstractStringBuilder;)I" } : Jvm.MethodName)) ∈ lw_all := lw_g (lw_at lw_m8 94 rfl) rfl
theorem q1923 : (Jvm.Cond.code ({ cls := "java/lang/AbstractStringBuilder", name := "compareTo", desc := "(Ljava/lang/AbstractStringBuilder;)I" } : Jvm.MethodName) prog_17_method_5_code (6 : Nat) (Option.some Jvm.ClassFile.FieldType.int)) ∈ lw_all := lw_g (lw_at lw_m8 95 rfl) rfl
theorem q1924 : (Jvm.Cond.methodLink "java/lang/AbstractStringBuilder" (87 : Nat) ({ cls := "java/lang/StringLatin1", name := "compareTo", desc := "([B[BII)I" } : Jvm.MethodName)) ∈ lw_all := lw_g (lw_at lw_m8 96 rfl) rfl
theorem q1925 : (Jvm.Cond.methodLink "java/lang/AbstractStringBuilder" (93 : Nat) ({ cls := "java/lang/StringUTF16", name := "compareTo", desc := "([B[BII)I" } : Jvm.MethodName)) ∈ lw_all := lw_g (lw_at lw_m8 97 rfl) rfl
theorem q1934 : (Jvm.Cond.methodLink "java/lang/AbstractStringBuilder" (94 : Nat) ({ cls := "java/lang/StringLatin1", name := "compareToUTF16", desc := "([B[BII)I" } : Jvm.MethodName)) ∈ lw_all := lw_g (lw_at lw_m8 106 rfl) rfl
theorem q1938 : (Jvm.Cond.methodLink "java/lang/AbstractStringBuilder" (97 : Nat) ({ cls := "java/lang/StringUTF16", name := "compareToLatin1", desc := "([B[BII)I" } : Jvm.MethodName)) ∈ lw_all := lw_g (lw_at lw_m8 110 rfl) rfl
theorem q2590 : (Jvm.Cond.instanceMethod ({ cls := "java/lang/AbstractStringBuilder", name := "charAt", desc := "(I)C" } : Jvm.MethodName)) ∈ lw_all := lw_g (lw_at lw_m11 42 rfl) rfl
theorem q2591 : (Jvm.Cond.code ({ cls := "java/lang/AbstractStringBuilder", name := "charAt", desc := "(I)C" } : Jvm.MethodName) prog_17_method_14_code (5 : Nat) (Option.some Jvm.ClassFile.FieldType.char)) ∈ lw_all := lw_g (lw_at lw_m11 43 rfl) rfl
theorem q2592 : (Jvm.Cond.methodLink "java/lang/AbstractStringBuilder" (138 : Nat) ({ cls := "java/lang/Math", name := "min", desc := "(II)I" } : Jvm.MethodName)) ∈ lw_all := lw_g (lw_at lw_m11 44 rfl) rfl
theorem q2593 : (Jvm.Cond.methodLink "java/lang/AbstractStringBuilder" (144 : Nat) ({ cls := "java/lang/String", name := "checkIndex", desc := "(II)V" } : Jvm.MethodName)) ∈ lw_all := lw_g (lw_at lw_m11 45 rfl) rfl
theorem q2594 : (Jvm.Cond.methodLink "java/lang/AbstractStringBuilder" (148 : Nat) ({ cls := "java/lang/StringUTF16", name := "getChar", desc := "([BI)C" } : Jvm.MethodName)) ∈ lw_all := lw_g (lw_at lw_m11 46 rfl) rfl
theorem q2895 : (Jvm.Cond.instanceMethod ({ cls := "java/lang/AbstractStringBuilder", name := "setLength", desc := "(I)V" } : Jvm.MethodName)) ∈ lw_all := lw_g (lw_at lw_m12 107 rfl) rfl
theorem q2896 : (Jvm.Cond.code ({ cls := "java/lang/AbstractStringBuilder", name := "setLength", desc := "(I)V" } : Jvm.MethodName) prog_17_method_13_code (2 : Nat) (Option.none : Option Jvm.ClassFile.FieldType)) ∈ lw_all := lw_g (lw_at lw_m12 108 rfl) rfl
theorem q2897 : (Jvm.Cond.classLink "java/lang/AbstractStringBuilder" (129 : Nat) "java/lang/StringIndexOutOfBoundsException") ∈ lw_all := lw_g (lw_at lw_m12 109 rfl) rfl
theorem q2899 : (Jvm.Cond.methodLink "java/lang/AbstractStringBuilder" (131 : Nat) ({ cls := "java/lang/StringIndexOutOfBoundsException", name := "<init>", desc := "(I)V" } : Jvm.MethodName)) ∈ lw_all := lw_g (lw_at lw_m12 111 rfl) rfl
theorem q2916 : (Jvm.Cond.methodLink "java/lang/AbstractStringBuilder" (133 : Nat) ({ cls := "java/lang/StringLatin1", name := "fillNull", desc := "([BII)V" } : Jvm.MethodName)) ∈ lw_all := lw_g (lw_at lw_m12 128 rfl) rfl
theorem q2938 : (Jvm.Cond.methodLink "java/lang/AbstractStringBuilder" (137 : Nat) ({ cls := "java/lang/StringUTF16", name := "fillNull", desc := "([BII)V" } : Jvm.MethodName)) ∈ lw_all := lw_g (lw_at lw_m12 150 rfl) rfl
theorem q3598 : (Jvm.Cond.sameMethod "java/lang/AbstractStringBuilder" "java/lang/AbstractStringBuilder" "append" "(Ljava/lang/String;)Ljava/lang/AbstractStringBuilder;") ∈ lw_all := lw_g (lw_at lw_m15 90 rfl) rfl
theorem q3599 : (Jvm.Cond.sameMethod "java/lang/AbstractStringBuilder" "java/lang/AbstractStringBuilder" "appendNull" "()Ljava/lang/AbstractStringBuilder;") ∈ lw_all := lw_g (lw_at lw_m15 91 rfl) rfl
theorem q3600 : (Jvm.Cond.sameMethod "java/lang/AbstractStringBuilder" "java/lang/AbstractStringBuilder" "ensureCapacityInternal" "(I)V") ∈ lw_all := lw_g (lw_at lw_m15 92 rfl) rfl
theorem q3601 : (Jvm.Cond.sameMethod "java/lang/AbstractStringBuilder" "java/lang/AbstractStringBuilder" "newCapacity" "(I)I") ∈ lw_all := lw_g (lw_at lw_m15 93 rfl) rfl
theorem q3602 : (Jvm.Cond.sameMethod "java/lang/AbstractStringBuilder" "java/lang/AbstractStringBuilder" "putStringAt" "(ILjava/lang/String;)V") ∈ lw_all := lw_g (lw_at lw_m15 94 rfl) rfl
theorem q3603 : (Jvm.Cond.sameMethod "java/lang/AbstractStringBuilder" "java/lang/AbstractStringBuilder" "inflateIfNeededFor" "(Ljava/lang/String;)V") ∈ lw_all := lw_g (lw_at lw_m15 95 rfl) rfl
theorem q3604 : (Jvm.Cond.sameMethod "java/lang/AbstractStringBuilder" "java/lang/AbstractStringBuilder" "inflate" "()V") ∈ lw_all := lw_g (lw_at lw_m15 96 rfl) rfl
theorem q3605 : (Jvm.Cond.sameMethod "java/lang/AbstractStringBuilder" "java/lang/AbstractStringBuilder" "append" "(I)Ljava/lang/AbstractStringBuilder;") ∈ lw_all := lw_g (lw_at lw_m15 97 rfl) rfl
theorem q3606 : (Jvm.Cond.sameMethod "java/lang/AbstractStringBuilder" "java/lang/AbstractStringBuilder" "append" "(C)Ljava/lang/AbstractStringBuilder;") ∈ lw_all := lw_g (lw_at lw_m15 98 rfl) rfl
theorem q3611 : (Jvm.Cond.sameMethod "java/lang/AbstractStringBuilder" "java/lang/AbstractStringBuilder" "compareTo" "(Ljava/lang/AbstractStringBuilder;)I") ∈ lw_all := lw_g (lw_at lw_m15 103 rfl) rfl
theorem q3619 : (Jvm.Cond.sameMethod "java/lang/AbstractStringBuilder" "java/lang/AbstractStringBuilder" "charAt" "(I)C") ∈ lw_all := lw_g (lw_at lw_m15 111 rfl) rfl
theorem q3620 : (Jvm.Cond.sameMethod "java/lang/AbstractStringBuilder" "java/lang/AbstractStringBuilder" "setLength" "(I)V") ∈ lw_all := lw_g (lw_at lw_m15 112 rfl) rfl
/-! java/lang/StringBuilder -/
def RJ10 : String := "java/lang/StringBuilder"
def TJ10 : u_T := fun k => match k with
  | 0 => ("java/lang/AbstractStringBuilder", "value", "[B", false)
  | 1 => ("java/lang/AbstractStringBuilder", "coder", "B", false)
  | 2 => ("java/lang/AbstractStringBuilder", "maybeLatin1", "Z", false)
  | _ => ("java/lang/AbstractStringBuilder", "count", "I", false)
def tyJ10 : Nat → FieldType := fun k => match k with
  | 0 => .array .byte
  | 1 => .byte
  | 2 => .boolean
  | _ => .int
abbrev wsJ100 : List Cond := u_ws RJ10 TJ10 4
theorem nmJ10 : ∀ a, a < 4 → ∀ b, b < 4 → a ≠ b → (TJ10 a).2.1 ≠ (TJ10 b).2.1 := by decide +kernel
theorem tyJ10_ok : ∀ k, k < 4 → parseFieldDescriptor (TJ10 k).2.2.1 = some (tyJ10 k) := by decide +kernel
abbrev cJ10_init : ByteArray := prog_35_method_1_code
def yJ10_init : MethodName := ⟨RJ10, "<init>", "()V"⟩
abbrev cJ10_append : ByteArray := prog_35_method_7_code
def yJ10_append : MethodName := ⟨RJ10, "append", "(Ljava/lang/String;)Ljava/lang/StringBuilder;"⟩
abbrev cJ10_append_2 : ByteArray := prog_35_method_15_code
def yJ10_append_2 : MethodName := ⟨RJ10, "append", "(I)Ljava/lang/StringBuilder;"⟩
abbrev cJ10_toString : ByteArray := prog_35_method_42_code
def yJ10_toString : MethodName := ⟨RJ10, "toString", "()Ljava/lang/String;"⟩
abbrev cJ10_length : ByteArray := prog_35_method_93_code
def yJ10_length : MethodName := ⟨RJ10, "length", "()I"⟩
abbrev cJ10_append_3 : ByteArray := prog_35_method_14_code
def yJ10_append_3 : MethodName := ⟨RJ10, "append", "(C)Ljava/lang/StringBuilder;"⟩
abbrev cJ10_compareTo : ByteArray := prog_35_method_97_code
def yJ10_compareTo : MethodName := ⟨RJ10, "compareTo", "(Ljava/lang/Object;)I"⟩
abbrev cJ10_compareTo_2 : ByteArray := prog_35_method_5_code
def yJ10_compareTo_2 : MethodName := ⟨RJ10, "compareTo", "(Ljava/lang/StringBuilder;)I"⟩
abbrev cJ10_charAt : ByteArray := prog_35_method_88_code
def yJ10_charAt : MethodName := ⟨RJ10, "charAt", "(I)C"⟩
abbrev cJ10_setLength : ByteArray := prog_35_method_89_code
def yJ10_setLength : MethodName := ⟨RJ10, "setLength", "(I)V"⟩
theorem q162 : (Jvm.Cond.initialized "java/lang/StringBuilder") ∈ lw_all := lw_g (lw_at lw_m1 14 rfl) rfl
theorem q404 : (Jvm.Cond.instantiable "java/lang/StringBuilder" (4 : Nat)) ∈ lw_all := lw_g (lw_at lw_m2 16 rfl) rfl
theorem q406 : (Jvm.Cond.instanceMethod ({ cls := "java/lang/StringBuilder", name := "<init>", desc := "()V" } : Jvm.MethodName)) ∈ lw_all := lw_g (lw_at lw_m2 18 rfl) rfl
theorem q407 : (Jvm.Cond.code ({ cls := "java/lang/StringBuilder", name := "<init>", desc := "()V" } : Jvm.MethodName) prog_35_method_1_code (1 : Nat) (Option.none : Option Jvm.ClassFile.FieldType)) ∈ lw_all := lw_g (lw_at lw_m2 19 rfl) rfl
theorem q408 : (Jvm.Cond.methodLink "java/lang/StringBuilder" (1 : Nat) ({ cls := "java/lang/AbstractStringBuilder", name := "<init>", desc := "(I)V" } : Jvm.MethodName)) ∈ lw_all := lw_g (lw_at lw_m2 20 rfl) rfl
theorem q426 : (Jvm.Cond.lays "java/lang/StringBuilder" "java/lang/AbstractStringBuilder" "value" "[B") ∈ lw_all := lw_g (lw_at lw_m2 38 rfl) rfl
theorem q428 : (Jvm.Cond.lays "java/lang/StringBuilder" "java/lang/AbstractStringBuilder" "coder" "B") ∈ lw_all := lw_g (lw_at lw_m2 40 rfl) rfl
theorem q430 : (Jvm.Cond.lays "java/lang/StringBuilder" "java/lang/AbstractStringBuilder" "maybeLatin1" "Z") ∈ lw_all := lw_g (lw_at lw_m2 42 rfl) rfl
theorem q432 : (Jvm.Cond.lays "java/lang/StringBuilder" "java/lang/AbstractStringBuilder" "count" "I") ∈ lw_all := lw_g (lw_at lw_m2 44 rfl) rfl
theorem q434 : (Jvm.Cond.superclass "java/lang/StringBuilder" "java/lang/AbstractStringBuilder") ∈ lw_all := lw_g (lw_at lw_m2 46 rfl) rfl
theorem q438 : (Jvm.Cond.instanceMethod ({ cls := "java/lang/StringBuilder", name := "append", desc := "(Ljava/lang/String;)Ljava/lang/StringBuilder;" } : Jvm.MethodName)) ∈ lw_all := lw_g (lw_at lw_m2 50 rfl) rfl
theorem q439 : (Jvm.Cond.selects "java/lang/StringBuilder" ({ cls := "java/lang/StringBuilder", name := "append", desc := "(Ljava/lang/String;)Ljava/lang/StringBuilder;" } : Jvm.MethodName) ({ cls := "java/lang/StringBuilder", name := "append", desc := "(Ljava/lang/String;)Ljava/lang/StringBuilder;" } : Jvm.MethodName)) ∈ lw_all := lw_g (lw_at lw_m2 51 rfl) rfl
theorem q440 : (Jvm.Cond.code ({ cls := "java/lang/StringBuilder", name := "append", desc := "(Ljava/lang/String;)Ljava/lang/StringBuilder;" } : Jvm.MethodName) prog_35_method_7_code (2 : Nat) (Option.some (Jvm.ClassFile.FieldType.object "java/lang/StringBuilder"))) ∈ lw_all := lw_g (lw_at lw_m2 52 rfl) rfl
theorem q441 : (Jvm.Cond.methodLink "java/lang/StringBuilder" (29 : Nat) ({ cls := "java/lang/AbstractStringBuilder", name := "append", desc := "(Ljava/lang/String;)Ljava/lang/AbstractStringBuilder;" } : Jvm.MethodName)) ∈ lw_all := lw_g (lw_at lw_m2 53 rfl) rfl
theorem q486 : (Jvm.Cond.selects "java/lang/StringBuilder" ({ cls := "java/lang/AbstractStringBuilder", name := "isLatin1", desc := "()Z" } : Jvm.MethodName) ({ cls := "java/lang/AbstractStringBuilder", name := "isLatin1", desc := "()Z" } : Jvm.MethodName)) ∈ lw_all := lw_g (lw_at lw_m2 98 rfl) rfl
theorem q558 : (Jvm.Cond.instanceMethod ({ cls := "java/lang/StringBuilder", name := "append", desc := "(I)Ljava/lang/StringBuilder;" } : Jvm.MethodName)) ∈ lw_all := lw_g (lw_at lw_m2 170 rfl) rfl
theorem q559 : (Jvm.Cond.selects "java/lang/StringBuilder" ({ cls := "java/lang/StringBuilder", name := "append", desc := "(I)Ljava/lang/StringBuilder;" } : Jvm.MethodName) ({ cls := "java/lang/StringBuilder", name := "append", desc := "(I)Ljava/lang/StringBuilder;" } : Jvm.MethodName)) ∈ lw_all := lw_g (lw_at lw_m2 171 rfl) rfl
theorem q560 : (Jvm.Cond.code ({ cls := "java/lang/StringBuilder", name := "append", desc := "(I)Ljava/lang/StringBuilder;" } : Jvm.MethodName) prog_35_method_15_code (2 : Nat) (Option.some (Jvm.ClassFile.FieldType.object "java/lang/StringBuilder"))) ∈ lw_all := lw_g (lw_at lw_m2 172 rfl) rfl
theorem q561 : (Jvm.Cond.methodLink "java/lang/StringBuilder" (53 : Nat) ({ cls := "java/lang/AbstractStringBuilder", name := "append", desc := "(I)Ljava/lang/AbstractStringBuilder;" } : Jvm.MethodName)) ∈ lw_all := lw_g (lw_at lw_m2 173 rfl) rfl
theorem q583 : (Jvm.Cond.instanceMethod ({ cls := "java/lang/StringBuilder", name := "toString", desc := "()Ljava/lang/String;" } : Jvm.MethodName)) ∈ lw_all := lw_g (lw_at lw_m2 195 rfl) rfl
theorem q584 : (Jvm.Cond.selects "java/lang/StringBuilder" ({ cls := "java/lang/StringBuilder", name := "toString", desc := "()Ljava/lang/String;" } : Jvm.MethodName) ({ cls := "java/lang/StringBuilder", name := "toString", desc := "()Ljava/lang/String;" } : Jvm.MethodName)) ∈ lw_all := lw_g (lw_at lw_m2 196 rfl) rfl
theorem q585 : (Jvm.Cond.code ({ cls := "java/lang/StringBuilder", name := "toString", desc := "()Ljava/lang/String;" } : Jvm.MethodName) prog_35_method_42_code (1 : Nat) (Option.some (Jvm.ClassFile.FieldType.object "java/lang/String"))) ∈ lw_all := lw_g (lw_at lw_m2 197 rfl) rfl
theorem q586 : (Jvm.Cond.classLink "java/lang/StringBuilder" (18 : Nat) "java/lang/String") ∈ lw_all := lw_g (lw_at lw_m2 198 rfl) rfl
theorem q588 : (Jvm.Cond.methodLink "java/lang/StringBuilder" (137 : Nat) ({ cls := "java/lang/String", name := "<init>", desc := "(Ljava/lang/StringBuilder;)V" } : Jvm.MethodName)) ∈ lw_all := lw_g (lw_at lw_m2 200 rfl) rfl
theorem q598 : (Jvm.Cond.selects "java/lang/StringBuilder" ({ cls := "java/lang/AbstractStringBuilder", name := "getValue", desc := "()[B" } : Jvm.MethodName) ({ cls := "java/lang/AbstractStringBuilder", name := "getValue", desc := "()[B" } : Jvm.MethodName)) ∈ lw_all := lw_g (lw_at lw_m2 210 rfl) rfl
theorem q603 : (Jvm.Cond.selects "java/lang/StringBuilder" ({ cls := "java/lang/AbstractStringBuilder", name := "length", desc := "()I" } : Jvm.MethodName) ({ cls := "java/lang/StringBuilder", name := "length", desc := "()I" } : Jvm.MethodName)) ∈ lw_all := lw_g (lw_at lw_m2 215 rfl) rfl
theorem q604 : (Jvm.Cond.instanceMethod ({ cls := "java/lang/StringBuilder", name := "length", desc := "()I" } : Jvm.MethodName)) ∈ lw_all := lw_g (lw_at lw_m2 216 rfl) rfl
theorem q605 : (Jvm.Cond.code ({ cls := "java/lang/StringBuilder", name := "length", desc := "()I" } : Jvm.MethodName) prog_35_method_93_code (1 : Nat) (Option.some Jvm.ClassFile.FieldType.int)) ∈ lw_all := lw_g (lw_at lw_m2 217 rfl) rfl
theorem q606 : (Jvm.Cond.methodLink "java/lang/StringBuilder" (343 : Nat) ({ cls := "java/lang/AbstractStringBuilder", name := "length", desc := "()I" } : Jvm.MethodName)) ∈ lw_all := lw_g (lw_at lw_m2 218 rfl) rfl
theorem q996 : (Jvm.Cond.instanceMethod ({ cls := "java/lang/StringBuilder", name := "append", desc := "(C)Ljava/lang/StringBuilder;" } : Jvm.MethodName)) ∈ lw_all := lw_g (lw_at lw_m4 128 rfl) rfl
theorem q997 : (Jvm.Cond.selects "java/lang/StringBuilder" ({ cls := "java/lang/StringBuilder", name := "append", desc := "(C)Ljava/lang/StringBuilder;" } : Jvm.MethodName) ({ cls := "java/lang/StringBuilder", name := "append", desc := "(C)Ljava/lang/StringBuilder;" } : Jvm.MethodName)) ∈ lw_all := lw_g (lw_at lw_m4 129 rfl) rfl
theorem q998 : (Jvm.Cond.code ({ cls := "java/lang/StringBuilder", name := "append", desc := "(C)Ljava/lang/StringBuilder;" } : Jvm.MethodName) prog_35_method_14_code (2 : Nat) (Option.some (Jvm.ClassFile.FieldType.object "java/lang/StringBuilder"))) ∈ lw_all := lw_g (lw_at lw_m4 130 rfl) rfl
theorem q999 : (Jvm.Cond.methodLink "java/lang/StringBuilder" (50 : Nat) ({ cls := "java/lang/AbstractStringBuilder", name := "append", desc := "(C)Ljava/lang/AbstractStringBuilder;" } : Jvm.MethodName)) ∈ lw_all := lw_g (lw_at lw_m4 131 rfl) rfl
theorem q1211 : (Jvm.Cond.selects "java/lang/StringBuilder" ({ cls := "java/lang/Object", name := "getClass", desc := "()Ljava/lang/Class;" } : Jvm.MethodName) ({ cls := "java/lang/Object", name := "getClass", desc := "()Ljava/lang/Class;" } : Jvm.MethodName)) ∈ lw_all := lw_g (lw_at lw_m5 103 rfl) rfl
theorem q1910 : (Jvm.Cond.castable "java/lang/StringBuilder" "java/lang/Comparable") ∈ lw_tbl := lw_at lw_m8 82 rfl
theorem q1911 : (Jvm.Cond.selects "java/lang/StringBuilder" ({ cls := "java/lang/Comparable", name := "compareTo", desc := "(Ljava/lang/Object;)I" } : Jvm.MethodName) ({ cls := "java/lang/StringBuilder", name := "compareTo", desc := "(Ljava/lang/Object;)I" } : Jvm.MethodName)) ∈ lw_all := lw_g (lw_at lw_m8 83 rfl) rfl
theorem q1912 : (Jvm.Cond.unhidden "java/lang/StringBuilder" "compareTo" "(Ljava/lang/Object;)I") ∈ lw_tbl := lw_at lw_m8 84 rfl
theorem q1913 : (Jvm.Cond.instanceMethod ({ cls := "java/lang/StringBuilder", name := "compareTo", desc := "(Ljava/lang/Object;)I" } : Jvm.MethodName)) ∈ lw_all := lw_g (lw_at lw_m8 85 rfl) rfl
theorem q1914 : (Jvm.Cond.publicMethod ({ cls := "java/lang/StringBuilder", name := "compareTo", desc := "(Ljava/lang/Object;)I" } : Jvm.MethodName)) ∈ lw_tbl := lw_at lw_m8 86 rfl
theorem q1915 : (Jvm.Cond.code ({ cls := "java/lang/StringBuilder", name := "compareTo", desc := "(Ljava/lang/Object;)I" } : Jvm.MethodName) prog_35_method_97_code (2 : Nat) (Option.some Jvm.ClassFile.FieldType.int)) ∈ lw_all := lw_g (lw_at lw_m8 87 rfl) rfl
theorem q1916 : (Jvm.Cond.classLink "java/lang/StringBuilder" (24 : Nat) "java/lang/StringBuilder") ∈ lw_all := lw_g (lw_at lw_m8 88 rfl) rfl
theorem q1917 : (Jvm.Cond.methodLink "java/lang/StringBuilder" (346 : Nat) ({ cls := "java/lang/StringBuilder", name := "compareTo", desc := "(Ljava/lang/StringBuilder;)I" } : Jvm.MethodName)) ∈ lw_all := lw_g (lw_at lw_m8 89 rfl) rfl
theorem q1918 : (Jvm.Cond.instanceMethod ({ cls := "java/lang/StringBuilder", name := "compareTo", desc := "(Ljava/lang/StringBuilder;)I" } : Jvm.MethodName)) ∈ lw_all := lw_g (lw_at lw_m8 90 rfl) rfl
theorem q1919 : (Jvm.Cond.selects "java/lang/StringBuilder" ({ cls := "java/lang/StringBuilder", name := "compareTo", desc := "(Ljava/lang/StringBuilder;)I" } : Jvm.MethodName) ({ cls := "java/lang/StringBuilder", name := "compareTo", desc := "(Ljava/lang/StringBuilder;)I" } : Jvm.MethodName)) ∈ lw_all := lw_g (lw_at lw_m8 91 rfl) rfl
theorem q1920 : (Jvm.Cond.code ({ cls := "java/lang/StringBuilder", name := "compareTo", desc := "(Ljava/lang/StringBuilder;)I" } : Jvm.MethodName) prog_35_method_5_code (2 : Nat) (Option.some Jvm.ClassFile.FieldType.int)) ∈ lw_all := lw_g (lw_at lw_m8 92 rfl) rfl
theorem q1921 : (Jvm.Cond.methodLink "java/lang/StringBuilder" (13 : Nat) ({ cls := "java/lang/AbstractStringBuilder", name := "compareTo", desc := "(Ljava/lang/AbstractStringBuilder;)I" } : Jvm.MethodName)) ∈ lw_all := lw_g (lw_at lw_m8 93 rfl) rfl
theorem q2586 : (Jvm.Cond.instanceMethod ({ cls := "java/lang/StringBuilder", name := "charAt", desc := "(I)C" } : Jvm.MethodName)) ∈ lw_all := lw_g (lw_at lw_m11 38 rfl) rfl
theorem q2587 : (Jvm.Cond.selects "java/lang/StringBuilder" ({ cls := "java/lang/StringBuilder", name := "charAt", desc := "(I)C" } : Jvm.MethodName) ({ cls := "java/lang/StringBuilder", name := "charAt", desc := "(I)C" } : Jvm.MethodName)) ∈ lw_all := lw_g (lw_at lw_m11 39 rfl) rfl
theorem q2588 : (Jvm.Cond.code ({ cls := "java/lang/StringBuilder", name := "charAt", desc := "(I)C" } : Jvm.MethodName) prog_35_method_88_code (2 : Nat) (Option.some Jvm.ClassFile.FieldType.char)) ∈ lw_all := lw_g (lw_at lw_m11 40 rfl) rfl
theorem q2589 : (Jvm.Cond.methodLink "java/lang/StringBuilder" (329 : Nat) ({ cls := "java/lang/AbstractStringBuilder", name := "charAt", desc := "(I)C" } : Jvm.MethodName)) ∈ lw_all := lw_g (lw_at lw_m11 41 rfl) rfl
theorem q2891 : (Jvm.Cond.instanceMethod ({ cls := "java/lang/StringBuilder", name := "setLength", desc := "(I)V" } : Jvm.MethodName)) ∈ lw_all := lw_g (lw_at lw_m12 103 rfl) rfl
theorem q2892 : (Jvm.Cond.selects "java/lang/StringBuilder" ({ cls := "java/lang/StringBuilder", name := "setLength", desc := "(I)V" } : Jvm.MethodName) ({ cls := "java/lang/StringBuilder", name := "setLength", desc := "(I)V" } : Jvm.MethodName)) ∈ lw_all := lw_g (lw_at lw_m12 104 rfl) rfl
theorem q2893 : (Jvm.Cond.code ({ cls := "java/lang/StringBuilder", name := "setLength", desc := "(I)V" } : Jvm.MethodName) prog_35_method_89_code (2 : Nat) (Option.none : Option Jvm.ClassFile.FieldType)) ∈ lw_all := lw_g (lw_at lw_m12 105 rfl) rfl
theorem q2894 : (Jvm.Cond.methodLink "java/lang/StringBuilder" (333 : Nat) ({ cls := "java/lang/AbstractStringBuilder", name := "setLength", desc := "(I)V" } : Jvm.MethodName)) ∈ lw_all := lw_g (lw_at lw_m12 106 rfl) rfl
theorem q3618 : (Jvm.Cond.selects "java/lang/StringBuilder" ({ cls := "java/lang/StringBuilder", name := "length", desc := "()I" } : Jvm.MethodName) ({ cls := "java/lang/StringBuilder", name := "length", desc := "()I" } : Jvm.MethodName)) ∈ lw_all := lw_g (lw_at lw_m15 110 rfl) rfl
theorem q3630 : (Jvm.Cond.castable "java/lang/StringBuilder" "java/lang/Object") ∈ lw_tbl := lw_at lw_m15 122 rfl
theorem in_J10 : ∀ w ∈ wsJ100, w ∈ lw_all := lw_in wsJ100 [426, 428, 430, 432] (by decide +kernel) (by decide +kernel)
/-! java/lang/String -/
def RJ11 : String := "java/lang/String"
def TJ11 : u_T := fun k => match k with
  | 0 => ("java/lang/String", "value", "[B", true)
  | 1 => ("java/lang/String", "coder", "B", true)
  | 2 => ("java/lang/String", "hash", "I", false)
  | _ => ("java/lang/String", "hashIsZero", "Z", false)
def tyJ11 : Nat → FieldType := fun k => match k with
  | 0 => .array .byte
  | 1 => .byte
  | 2 => .int
  | _ => .boolean
abbrev wsJ110 : List Cond := u_ws RJ11 TJ11 4
theorem nmJ11 : ∀ a, a < 4 → ∀ b, b < 4 → a ≠ b → (TJ11 a).2.1 ≠ (TJ11 b).2.1 := by decide +kernel
theorem tyJ11_ok : ∀ k, k < 4 → parseFieldDescriptor (TJ11 k).2.2.1 = some (tyJ11 k) := by decide +kernel
abbrev cJ11_checkBoundsBeginEnd : ByteArray := prog_34_method_158_code
def yJ11_checkBoundsBeginEnd : MethodName := ⟨RJ11, "checkBoundsBeginEnd", "(III)V"⟩
abbrev cJ11_length : ByteArray := prog_34_method_54_code
def yJ11_length : MethodName := ⟨RJ11, "length", "()I"⟩
abbrev cJ11_coder : ByteArray := prog_34_method_152_code
def yJ11_coder : MethodName := ⟨RJ11, "coder", "()B"⟩
abbrev cJ11_checkBoundsOffCount : ByteArray := prog_34_method_157_code
def yJ11_checkBoundsOffCount : MethodName := ⟨RJ11, "checkBoundsOffCount", "(III)I"⟩
abbrev cJ11_getBytes : ByteArray := prog_34_method_147_code
def yJ11_getBytes : MethodName := ⟨RJ11, "getBytes", "([BIB)V"⟩
abbrev cJ11_init : ByteArray := prog_34_method_53_code
def yJ11_init : MethodName := ⟨RJ11, "<init>", "(Ljava/lang/StringBuilder;)V"⟩
abbrev cJ11_init_2 : ByteArray := prog_34_method_150_code
def yJ11_init_2 : MethodName := ⟨RJ11, "<init>", "(Ljava/lang/AbstractStringBuilder;Ljava/lang/Void;)V"⟩
abbrev cJ11_checkIndex : ByteArray := prog_34_method_155_code
def yJ11_checkIndex : MethodName := ⟨RJ11, "checkIndex", "(II)V"⟩
abbrev cJ11_equals : ByteArray := prog_34_method_66_code
def yJ11_equals : MethodName := ⟨RJ11, "equals", "(Ljava/lang/Object;)Z"⟩
abbrev cJ11_hashCode : ByteArray := prog_34_method_78_code
def yJ11_hashCode : MethodName := ⟨RJ11, "hashCode", "()I"⟩
abbrev cJ11_isLatin1 : ByteArray := prog_34_method_154_code
def yJ11_isLatin1 : MethodName := ⟨RJ11, "isLatin1", "()Z"⟩
abbrev cJ11_charAt : ByteArray := prog_34_method_56_code
def yJ11_charAt : MethodName := ⟨RJ11, "charAt", "(I)C"⟩
abbrev cJ11_compareTo : ByteArray := prog_34_method_162_code
def yJ11_compareTo : MethodName := ⟨RJ11, "compareTo", "(Ljava/lang/Object;)I"⟩
abbrev cJ11_compareTo_2 : ByteArray := prog_34_method_71_code
def yJ11_compareTo_2 : MethodName := ⟨RJ11, "compareTo", "(Ljava/lang/String;)I"⟩
abbrev cJ11_checkOffset : ByteArray := prog_34_method_156_code
def yJ11_checkOffset : MethodName := ⟨RJ11, "checkOffset", "(II)V"⟩
theorem q163 : (Jvm.Cond.initialized "java/lang/String") ∈ lw_all := lw_g (lw_at lw_m1 15 rfl) rfl
theorem q413 : (Jvm.Cond.laysStatic "java/lang/String" "COMPACT_STRINGS" "Z") ∈ lw_tbl := lw_at lw_m2 25 rfl
theorem q424 : (Jvm.Cond.fieldLink "java/lang/String" (1048 : Nat) "java/lang/AbstractStringBuilder" "maybeLatin1" "Z") ∈ lw_all := lw_g (lw_at lw_m2 36 rfl) rfl
theorem q498 : (Jvm.Cond.static ({ cls := "java/lang/String", name := "checkBoundsBeginEnd", desc := "(III)V" } : Jvm.MethodName)) ∈ lw_all := lw_g (lw_at lw_m2 110 rfl) rfl
theorem q499 : (Jvm.Cond.code ({ cls := "java/lang/String", name := "checkBoundsBeginEnd", desc := "(III)V" } : Jvm.MethodName) prog_34_method_158_code (3 : Nat) (Option.none : Option Jvm.ClassFile.FieldType)) ∈ lw_all := lw_g (lw_at lw_m2 111 rfl) rfl
theorem q500 : (Jvm.Cond.fieldLink "java/lang/String" (1053 : Nat) "jdk/internal/util/Preconditions" "SIOOBE_FORMATTER" "Ljava/util/function/BiFunction;") ∈ lw_all := lw_g (lw_at lw_m2 112 rfl) rfl
theorem q502 : (Jvm.Cond.methodLink "java/lang/String" (1062 : Nat) ({ cls := "jdk/internal/util/Preconditions", name := "checkFromToIndex", desc := "(IIILjava/util/function/BiFunction;)I" } : Jvm.MethodName)) ∈ lw_all := lw_g (lw_at lw_m2 114 rfl) rfl
theorem q515 : (Jvm.Cond.instanceMethod ({ cls := "java/lang/String", name := "length", desc := "()I" } : Jvm.MethodName)) ∈ lw_all := lw_g (lw_at lw_m2 127 rfl) rfl
theorem q516 : (Jvm.Cond.selects "java/lang/String" ({ cls := "java/lang/String", name := "length", desc := "()I" } : Jvm.MethodName) ({ cls := "java/lang/String", name := "length", desc := "()I" } : Jvm.MethodName)) ∈ lw_all := lw_g (lw_at lw_m2 128 rfl) rfl
theorem q517 : (Jvm.Cond.code ({ cls := "java/lang/String", name := "length", desc := "()I" } : Jvm.MethodName) prog_34_method_54_code (1 : Nat) (Option.some Jvm.ClassFile.FieldType.int)) ∈ lw_all := lw_g (lw_at lw_m2 129 rfl) rfl
theorem q518 : (Jvm.Cond.methodLink "java/lang/String" (335 : Nat) ({ cls := "java/lang/String", name := "coder", desc := "()B" } : Jvm.MethodName)) ∈ lw_all := lw_g (lw_at lw_m2 130 rfl) rfl
theorem q519 : (Jvm.Cond.instanceMethod ({ cls := "java/lang/String", name := "coder", desc := "()B" } : Jvm.MethodName)) ∈ lw_all := lw_g (lw_at lw_m2 131 rfl) rfl
theorem q520 : (Jvm.Cond.selects "java/lang/String" ({ cls := "java/lang/String", name := "coder", desc := "()B" } : Jvm.MethodName) ({ cls := "java/lang/String", name := "coder", desc := "()B" } : Jvm.MethodName)) ∈ lw_all := lw_g (lw_at lw_m2 132 rfl) rfl
theorem q521 : (Jvm.Cond.code ({ cls := "java/lang/String", name := "coder", desc := "()B" } : Jvm.MethodName) prog_34_method_152_code (1 : Nat) (Option.some Jvm.ClassFile.FieldType.byte)) ∈ lw_all := lw_g (lw_at lw_m2 133 rfl) rfl
theorem q522 : (Jvm.Cond.fieldLink "java/lang/String" (38 : Nat) "java/lang/String" "COMPACT_STRINGS" "Z") ∈ lw_all := lw_g (lw_at lw_m2 134 rfl) rfl
theorem q546 : (Jvm.Cond.static ({ cls := "java/lang/String", name := "checkBoundsOffCount", desc := "(III)I" } : Jvm.MethodName)) ∈ lw_all := lw_g (lw_at lw_m2 158 rfl) rfl
theorem q547 : (Jvm.Cond.code ({ cls := "java/lang/String", name := "checkBoundsOffCount", desc := "(III)I" } : Jvm.MethodName) prog_34_method_157_code (3 : Nat) (Option.some Jvm.ClassFile.FieldType.int)) ∈ lw_all := lw_g (lw_at lw_m2 159 rfl) rfl
theorem q548 : (Jvm.Cond.methodLink "java/lang/String" (1065 : Nat) ({ cls := "jdk/internal/util/Preconditions", name := "checkFromIndexSize", desc := "(IIILjava/util/function/BiFunction;)I" } : Jvm.MethodName)) ∈ lw_all := lw_g (lw_at lw_m2 160 rfl) rfl
theorem q552 : (Jvm.Cond.instanceMethod ({ cls := "java/lang/String", name := "getBytes", desc := "([BIB)V" } : Jvm.MethodName)) ∈ lw_all := lw_g (lw_at lw_m2 164 rfl) rfl
theorem q553 : (Jvm.Cond.selects "java/lang/String" ({ cls := "java/lang/String", name := "getBytes", desc := "([BIB)V" } : Jvm.MethodName) ({ cls := "java/lang/String", name := "getBytes", desc := "([BIB)V" } : Jvm.MethodName)) ∈ lw_all := lw_g (lw_at lw_m2 165 rfl) rfl
theorem q554 : (Jvm.Cond.code ({ cls := "java/lang/String", name := "getBytes", desc := "([BIB)V" } : Jvm.MethodName) prog_34_method_147_code (4 : Nat) (Option.none : Option Jvm.ClassFile.FieldType)) ∈ lw_all := lw_g (lw_at lw_m2 166 rfl) rfl
theorem q555 : (Jvm.Cond.methodLink "java/lang/String" (212 : Nat) ({ cls := "java/lang/System", name := "arraycopy", desc := "(Ljava/lang/Object;ILjava/lang/Object;II)V" } : Jvm.MethodName)) ∈ lw_all := lw_g (lw_at lw_m2 167 rfl) rfl
theorem q556 : (Jvm.Cond.methodLink "java/lang/String" (106 : Nat) ({ cls := "java/lang/StringLatin1", name := "inflate", desc := "([BI[BII)V" } : Jvm.MethodName)) ∈ lw_all := lw_g (lw_at lw_m2 168 rfl) rfl
theorem q587 : (Jvm.Cond.instantiable "java/lang/String" (4 : Nat)) ∈ lw_all := lw_g (lw_at lw_m2 199 rfl) rfl
theorem q589 : (Jvm.Cond.instanceMethod ({ cls := "java/lang/String", name := "<init>", desc := "(Ljava/lang/StringBuilder;)V" } : Jvm.MethodName)) ∈ lw_all := lw_g (lw_at lw_m2 201 rfl) rfl
theorem q590 : (Jvm.Cond.code ({ cls := "java/lang/String", name := "<init>", desc := "(Ljava/lang/StringBuilder;)V" } : Jvm.MethodName) prog_34_method_53_code (2 : Nat) (Option.none : Option Jvm.ClassFile.FieldType)) ∈ lw_all := lw_g (lw_at lw_m2 202 rfl) rfl
theorem q591 : (Jvm.Cond.methodLink "java/lang/String" (489 : Nat) ({ cls := "java/lang/String", name := "<init>", desc := "(Ljava/lang/AbstractStringBuilder;Ljava/lang/Void;)V" } : Jvm.MethodName)) ∈ lw_all := lw_g (lw_at lw_m2 203 rfl) rfl
theorem q592 : (Jvm.Cond.instanceMethod ({ cls := "java/lang/String", name := "<init>", desc := "(Ljava/lang/AbstractStringBuilder;Ljava/lang/Void;)V" } : Jvm.MethodName)) ∈ lw_all := lw_g (lw_at lw_m2 204 rfl) rfl
theorem q593 : (Jvm.Cond.code ({ cls := "java/lang/String", name := "<init>", desc := "(Ljava/lang/AbstractStringBuilder;Ljava/lang/Void;)V" } : Jvm.MethodName) prog_34_method_150_code (5 : Nat) (Option.none : Option Jvm.ClassFile.FieldType)) ∈ lw_all := lw_g (lw_at lw_m2 205 rfl) rfl
theorem q594 : (Jvm.Cond.methodLink "java/lang/String" (1 : Nat) ({ cls := "java/lang/Object", name := "<init>", desc := "()V" } : Jvm.MethodName)) ∈ lw_all := lw_g (lw_at lw_m2 206 rfl) rfl
theorem q595 : (Jvm.Cond.methodLink "java/lang/String" (552 : Nat) ({ cls := "java/lang/AbstractStringBuilder", name := "getValue", desc := "()[B" } : Jvm.MethodName)) ∈ lw_all := lw_g (lw_at lw_m2 207 rfl) rfl
theorem q600 : (Jvm.Cond.methodLink "java/lang/String" (549 : Nat) ({ cls := "java/lang/AbstractStringBuilder", name := "length", desc := "()I" } : Jvm.MethodName)) ∈ lw_all := lw_g (lw_at lw_m2 212 rfl) rfl
theorem q608 : (Jvm.Cond.methodLink "java/lang/String" (1047 : Nat) ({ cls := "java/lang/AbstractStringBuilder", name := "isLatin1", desc := "()Z" } : Jvm.MethodName)) ∈ lw_all := lw_g (lw_at lw_m2 220 rfl) rfl
theorem q609 : (Jvm.Cond.methodLink "java/lang/String" (54 : Nat) ({ cls := "java/util/Arrays", name := "copyOfRange", desc := "([BII)[B" } : Jvm.MethodName)) ∈ lw_all := lw_g (lw_at lw_m2 221 rfl) rfl
theorem q650 : (Jvm.Cond.methodLink "java/lang/String" (1051 : Nat) ({ cls := "java/lang/StringUTF16", name := "compress", desc := "([BII)[B" } : Jvm.MethodName)) ∈ lw_all := lw_g (lw_at lw_m3 22 rfl) rfl
theorem q660 : (Jvm.Cond.methodLink "java/lang/String" (47 : Nat) ({ cls := "java/lang/StringUTF16", name := "coderFromArrayLen", desc := "([BI)B" } : Jvm.MethodName)) ∈ lw_all := lw_g (lw_at lw_m3 32 rfl) rfl
theorem q663 : (Jvm.Cond.fieldLink "java/lang/String" (9 : Nat) "java/lang/String" "value" "[B") ∈ lw_all := lw_g (lw_at lw_m3 35 rfl) rfl
theorem q664 : (Jvm.Cond.fieldLink "java/lang/String" (15 : Nat) "java/lang/String" "coder" "B") ∈ lw_all := lw_g (lw_at lw_m3 36 rfl) rfl
theorem q665 : (Jvm.Cond.fieldLink "java/lang/String" (19 : Nat) "java/lang/String" "hash" "I") ∈ lw_all := lw_g (lw_at lw_m3 37 rfl) rfl
theorem q666 : (Jvm.Cond.fieldLink "java/lang/String" (23 : Nat) "java/lang/String" "hashIsZero" "Z") ∈ lw_all := lw_g (lw_at lw_m3 38 rfl) rfl
theorem q667 : (Jvm.Cond.laysFinal "java/lang/String" "java/lang/String" "value" "[B") ∈ lw_all := lw_g (lw_at lw_m3 39 rfl) rfl
theorem q668 : (Jvm.Cond.soleField "java/lang/String" "value") ∈ lw_all := lw_g (lw_at lw_m3 40 rfl) rfl
theorem q669 : (Jvm.Cond.laysFinal "java/lang/String" "java/lang/String" "coder" "B") ∈ lw_all := lw_g (lw_at lw_m3 41 rfl) rfl
theorem q670 : (Jvm.Cond.soleField "java/lang/String" "coder") ∈ lw_all := lw_g (lw_at lw_m3 42 rfl) rfl
theorem q671 : (Jvm.Cond.lays "java/lang/String" "java/lang/String" "hash" "I") ∈ lw_all := lw_g (lw_at lw_m3 43 rfl) rfl
theorem q672 : (Jvm.Cond.soleField "java/lang/String" "hash") ∈ lw_all := lw_g (lw_at lw_m3 44 rfl) rfl
theorem q673 : (Jvm.Cond.lays "java/lang/String" "java/lang/String" "hashIsZero" "Z") ∈ lw_all := lw_g (lw_at lw_m3 45 rfl) rfl
theorem q674 : (Jvm.Cond.soleField "java/lang/String" "hashIsZero") ∈ lw_all := lw_g (lw_at lw_m3 46 rfl) rfl
theorem q675 : (Jvm.Cond.superclass "java/lang/String" "java/lang/Object") ∈ lw_all := lw_g (lw_at lw_m3 47 rfl) rfl
theorem q1012 : (Jvm.Cond.static ({ cls := "java/lang/String", name := "checkIndex", desc := "(II)V" } : Jvm.MethodName)) ∈ lw_all := lw_g (lw_at lw_m4 144 rfl) rfl
theorem q1013 : (Jvm.Cond.code ({ cls := "java/lang/String", name := "checkIndex", desc := "(II)V" } : Jvm.MethodName) prog_34_method_155_code (2 : Nat) (Option.none : Option Jvm.ClassFile.FieldType)) ∈ lw_all := lw_g (lw_at lw_m4 145 rfl) rfl
theorem q1014 : (Jvm.Cond.methodLink "java/lang/String" (1059 : Nat) ({ cls := "jdk/internal/util/Preconditions", name := "checkIndex", desc := "(IILjava/util/function/BiFunction;)I" } : Jvm.MethodName)) ∈ lw_all := lw_g (lw_at lw_m4 146 rfl) rfl
theorem q1020 : (Jvm.Cond.instanceMethod ({ cls := "java/lang/String", name := "equals", desc := "(Ljava/lang/Object;)Z" } : Jvm.MethodName)) ∈ lw_all := lw_g (lw_at lw_m4 152 rfl) rfl
theorem q1021 : (Jvm.Cond.selects "java/lang/String" ({ cls := "java/lang/String", name := "equals", desc := "(Ljava/lang/Object;)Z" } : Jvm.MethodName) ({ cls := "java/lang/String", name := "equals", desc := "(Ljava/lang/Object;)Z" } : Jvm.MethodName)) ∈ lw_all := lw_g (lw_at lw_m4 153 rfl) rfl
theorem q1022 : (Jvm.Cond.code ({ cls := "java/lang/String", name := "equals", desc := "(Ljava/lang/Object;)Z" } : Jvm.MethodName) prog_34_method_66_code (3 : Nat) (Option.some Jvm.ClassFile.FieldType.boolean)) ∈ lw_all := lw_g (lw_at lw_m4 154 rfl) rfl
theorem q1023 : (Jvm.Cond.classLink "java/lang/String" (10 : Nat) "java/lang/String") ∈ lw_all := lw_g (lw_at lw_m4 155 rfl) rfl
theorem q1024 : (Jvm.Cond.methodLink "java/lang/String" (541 : Nat) ({ cls := "java/lang/StringLatin1", name := "equals", desc := "([B[B)Z" } : Jvm.MethodName)) ∈ lw_all := lw_g (lw_at lw_m4 156 rfl) rfl
theorem q1028 : (Jvm.Cond.instanceMethod ({ cls := "java/lang/String", name := "hashCode", desc := "()I" } : Jvm.MethodName)) ∈ lw_all := lw_g (lw_at lw_m4 160 rfl) rfl
theorem q1029 : (Jvm.Cond.selects "java/lang/String" ({ cls := "java/lang/String", name := "hashCode", desc := "()I" } : Jvm.MethodName) ({ cls := "java/lang/String", name := "hashCode", desc := "()I" } : Jvm.MethodName)) ∈ lw_all := lw_g (lw_at lw_m4 161 rfl) rfl
theorem q1030 : (Jvm.Cond.code ({ cls := "java/lang/String", name := "hashCode", desc := "()I" } : Jvm.MethodName) prog_34_method_78_code (2 : Nat) (Option.some Jvm.ClassFile.FieldType.int)) ∈ lw_all := lw_g (lw_at lw_m4 162 rfl) rfl
theorem q1031 : (Jvm.Cond.methodLink "java/lang/String" (492 : Nat) ({ cls := "java/lang/String", name := "isLatin1", desc := "()Z" } : Jvm.MethodName)) ∈ lw_all := lw_g (lw_at lw_m4 163 rfl) rfl
theorem q1032 : (Jvm.Cond.instanceMethod ({ cls := "java/lang/String", name := "isLatin1", desc := "()Z" } : Jvm.MethodName)) ∈ lw_all := lw_g (lw_at lw_m4 164 rfl) rfl
theorem q1033 : (Jvm.Cond.selects "java/lang/String" ({ cls := "java/lang/String", name := "isLatin1", desc := "()Z" } : Jvm.MethodName) ({ cls := "java/lang/String", name := "isLatin1", desc := "()Z" } : Jvm.MethodName)) ∈ lw_all := lw_g (lw_at lw_m4 165 rfl) rfl
theorem q1034 : (Jvm.Cond.code ({ cls := "java/lang/String", name := "isLatin1", desc := "()Z" } : Jvm.MethodName) prog_34_method_154_code (1 : Nat) (Option.some Jvm.ClassFile.FieldType.boolean)) ∈ lw_all := lw_g (lw_at lw_m4 166 rfl) rfl
theorem q1035 : (Jvm.Cond.methodLink "java/lang/String" (628 : Nat) ({ cls := "java/lang/StringLatin1", name := "hashCode", desc := "([B)I" } : Jvm.MethodName)) ∈ lw_all := lw_g (lw_at lw_m4 167 rfl) rfl
theorem q1084 : (Jvm.Cond.methodLink "java/lang/String" (632 : Nat) ({ cls := "java/lang/StringUTF16", name := "hashCode", desc := "([B)I" } : Jvm.MethodName)) ∈ lw_all := lw_g (lw_at lw_m4 216 rfl) rfl
theorem q1120 : (Jvm.Cond.instanceMethod ({ cls := "java/lang/String", name := "charAt", desc := "(I)C" } : Jvm.MethodName)) ∈ lw_all := lw_g (lw_at lw_m5 12 rfl) rfl
theorem q1121 : (Jvm.Cond.selects "java/lang/String" ({ cls := "java/lang/String", name := "charAt", desc := "(I)C" } : Jvm.MethodName) ({ cls := "java/lang/String", name := "charAt", desc := "(I)C" } : Jvm.MethodName)) ∈ lw_all := lw_g (lw_at lw_m5 13 rfl) rfl
theorem q1122 : (Jvm.Cond.code ({ cls := "java/lang/String", name := "charAt", desc := "(I)C" } : Jvm.MethodName) prog_34_method_56_code (2 : Nat) (Option.some Jvm.ClassFile.FieldType.char)) ∈ lw_all := lw_g (lw_at lw_m5 14 rfl) rfl
theorem q1123 : (Jvm.Cond.methodLink "java/lang/String" (495 : Nat) ({ cls := "java/lang/StringLatin1", name := "charAt", desc := "([BI)C" } : Jvm.MethodName)) ∈ lw_all := lw_g (lw_at lw_m5 15 rfl) rfl
theorem q1127 : (Jvm.Cond.methodLink "java/lang/String" (498 : Nat) ({ cls := "java/lang/StringUTF16", name := "charAt", desc := "([BI)C" } : Jvm.MethodName)) ∈ lw_all := lw_g (lw_at lw_m5 19 rfl) rfl
theorem q1210 : (Jvm.Cond.selects "java/lang/String" ({ cls := "java/lang/Object", name := "getClass", desc := "()Ljava/lang/Class;" } : Jvm.MethodName) ({ cls := "java/lang/Object", name := "getClass", desc := "()Ljava/lang/Class;" } : Jvm.MethodName)) ∈ lw_all := lw_g (lw_at lw_m5 102 rfl) rfl
theorem q1764 : (Jvm.Cond.castable "java/lang/String" "java/lang/Comparable") ∈ lw_tbl := lw_at lw_m7 176 rfl
theorem q1765 : (Jvm.Cond.selects "java/lang/String" ({ cls := "java/lang/Comparable", name := "compareTo", desc := "(Ljava/lang/Object;)I" } : Jvm.MethodName) ({ cls := "java/lang/String", name := "compareTo", desc := "(Ljava/lang/Object;)I" } : Jvm.MethodName)) ∈ lw_all := lw_g (lw_at lw_m7 177 rfl) rfl
theorem q1766 : (Jvm.Cond.unhidden "java/lang/String" "compareTo" "(Ljava/lang/Object;)I") ∈ lw_tbl := lw_at lw_m7 178 rfl
theorem q1767 : (Jvm.Cond.instanceMethod ({ cls := "java/lang/String", name := "compareTo", desc := "(Ljava/lang/Object;)I" } : Jvm.MethodName)) ∈ lw_all := lw_g (lw_at lw_m7 179 rfl) rfl
theorem q1768 : (Jvm.Cond.publicMethod ({ cls := "java/lang/String", name := "compareTo", desc := "(Ljava/lang/Object;)I" } : Jvm.MethodName)) ∈ lw_tbl := lw_at lw_m7 180 rfl
theorem q1769 : (Jvm.Cond.code ({ cls := "java/lang/String", name := "compareTo", desc := "(Ljava/lang/Object;)I" } : Jvm.MethodName) prog_34_method_162_code (2 : Nat) (Option.some Jvm.ClassFile.FieldType.int)) ∈ lw_all := lw_g (lw_at lw_m7 181 rfl) rfl
theorem q1770 : (Jvm.Cond.methodLink "java/lang/String" (1084 : Nat) ({ cls := "java/lang/String", name := "compareTo", desc := "(Ljava/lang/String;)I" } : Jvm.MethodName)) ∈ lw_all := lw_g (lw_at lw_m7 182 rfl) rfl
theorem q1771 : (Jvm.Cond.instanceMethod ({ cls := "java/lang/String", name := "compareTo", desc := "(Ljava/lang/String;)I" } : Jvm.MethodName)) ∈ lw_all := lw_g (lw_at lw_m7 183 rfl) rfl
theorem q1772 : (Jvm.Cond.selects "java/lang/String" ({ cls := "java/lang/String", name := "compareTo", desc := "(Ljava/lang/String;)I" } : Jvm.MethodName) ({ cls := "java/lang/String", name := "compareTo", desc := "(Ljava/lang/String;)I" } : Jvm.MethodName)) ∈ lw_all := lw_g (lw_at lw_m7 184 rfl) rfl
theorem q1773 : (Jvm.Cond.code ({ cls := "java/lang/String", name := "compareTo", desc := "(Ljava/lang/String;)I" } : Jvm.MethodName) prog_34_method_71_code (5 : Nat) (Option.some Jvm.ClassFile.FieldType.int)) ∈ lw_all := lw_g (lw_at lw_m7 185 rfl) rfl
theorem q1774 : (Jvm.Cond.methodLink "java/lang/String" (586 : Nat) ({ cls := "java/lang/StringLatin1", name := "compareTo", desc := "([B[B)I" } : Jvm.MethodName)) ∈ lw_all := lw_g (lw_at lw_m7 186 rfl) rfl
theorem q1888 : (Jvm.Cond.methodLink "java/lang/String" (590 : Nat) ({ cls := "java/lang/StringUTF16", name := "compareTo", desc := "([B[B)I" } : Jvm.MethodName)) ∈ lw_all := lw_g (lw_at lw_m8 60 rfl) rfl
theorem q1895 : (Jvm.Cond.methodLink "java/lang/String" (591 : Nat) ({ cls := "java/lang/StringLatin1", name := "compareToUTF16", desc := "([B[B)I" } : Jvm.MethodName)) ∈ lw_all := lw_g (lw_at lw_m8 67 rfl) rfl
theorem q1906 : (Jvm.Cond.methodLink "java/lang/String" (594 : Nat) ({ cls := "java/lang/StringUTF16", name := "compareToLatin1", desc := "([B[B)I" } : Jvm.MethodName)) ∈ lw_all := lw_g (lw_at lw_m8 78 rfl) rfl
theorem q1932 : (Jvm.Cond.static ({ cls := "java/lang/String", name := "checkOffset", desc := "(II)V" } : Jvm.MethodName)) ∈ lw_all := lw_g (lw_at lw_m8 104 rfl) rfl
theorem q1933 : (Jvm.Cond.code ({ cls := "java/lang/String", name := "checkOffset", desc := "(II)V" } : Jvm.MethodName) prog_34_method_156_code (2 : Nat) (Option.none : Option Jvm.ClassFile.FieldType)) ∈ lw_all := lw_g (lw_at lw_m8 105 rfl) rfl
theorem q3631 : (Jvm.Cond.castable "java/lang/String" "java/lang/Object") ∈ lw_tbl := lw_at lw_m15 123 rfl
theorem in_J11 : ∀ w ∈ wsJ110, w ∈ lw_all := lw_in wsJ110 [667, 669, 671, 673] (by decide +kernel) (by decide +kernel)
/-! java/lang/StringUTF16 -/
def RJ12 : String := "java/lang/StringUTF16"
abbrev cJ12_newBytesFor : ByteArray := prog_38_method_2_code
def yJ12_newBytesFor : MethodName := ⟨RJ12, "newBytesFor", "(I)[B"⟩
abbrev cJ12_newBytesLength : ByteArray := prog_38_method_3_code
def yJ12_newBytesLength : MethodName := ⟨RJ12, "newBytesLength", "(I)I"⟩
abbrev cJ12_putCharsAt : ByteArray := prog_38_method_81_code
def yJ12_putCharsAt : MethodName := ⟨RJ12, "putCharsAt", "([BICCCC)I"⟩
abbrev cJ12_checkBoundsBeginEnd : ByteArray := prog_38_method_93_code
def yJ12_checkBoundsBeginEnd : MethodName := ⟨RJ12, "checkBoundsBeginEnd", "(II[B)V"⟩
abbrev cJ12_length : ByteArray := prog_38_method_6_code
def yJ12_length : MethodName := ⟨RJ12, "length", "([B)I"⟩
abbrev cJ12_putChar : ByteArray := prog_38_method_4_code
def yJ12_putChar : MethodName := ⟨RJ12, "putChar", "([BII)V"⟩
abbrev cJ12_inflate : ByteArray := prog_38_method_86_code
def yJ12_inflate : MethodName := ⟨RJ12, "inflate", "([BI[BII)V"⟩
abbrev cJ12_checkBoundsOffCount : ByteArray := prog_38_method_94_code
def yJ12_checkBoundsOffCount : MethodName := ⟨RJ12, "checkBoundsOffCount", "(II[B)V"⟩
abbrev cJ12_getChars : ByteArray := prog_38_method_77_code
def yJ12_getChars : MethodName := ⟨RJ12, "getChars", "(III[B)I"⟩
abbrev cJ12_getChars_2 : ByteArray := prog_38_method_89_code
def yJ12_getChars_2 : MethodName := ⟨RJ12, "getChars", "(II[B)I"⟩
abbrev cJ12_compress : ByteArray := prog_38_method_17_code
def yJ12_compress : MethodName := ⟨RJ12, "compress", "([BII)[B"⟩
abbrev cJ12_compress_2 : ByteArray := prog_38_method_22_code
def yJ12_compress_2 : MethodName := ⟨RJ12, "compress", "([BI[BII)I"⟩
abbrev cJ12_getChar : ByteArray := prog_38_method_5_code
def yJ12_getChar : MethodName := ⟨RJ12, "getChar", "([BI)C"⟩
abbrev cJ12_coderFromArrayLen : ByteArray := prog_38_method_15_code
def yJ12_coderFromArrayLen : MethodName := ⟨RJ12, "coderFromArrayLen", "([BI)B"⟩
abbrev cJ12_putCharSB : ByteArray := prog_38_method_71_code
def yJ12_putCharSB : MethodName := ⟨RJ12, "putCharSB", "([BII)V"⟩
abbrev cJ12_checkIndex : ByteArray := prog_38_method_91_code
def yJ12_checkIndex : MethodName := ⟨RJ12, "checkIndex", "(I[B)V"⟩
abbrev cJ12_hashCode : ByteArray := prog_38_method_39_code
def yJ12_hashCode : MethodName := ⟨RJ12, "hashCode", "([B)I"⟩
abbrev cJ12_charAt : ByteArray := prog_38_method_83_code
def yJ12_charAt : MethodName := ⟨RJ12, "charAt", "([BI)C"⟩
abbrev cJ12_compareTo : ByteArray := prog_38_method_29_code
def yJ12_compareTo : MethodName := ⟨RJ12, "compareTo", "([B[B)I"⟩
abbrev cJ12_compareValues : ByteArray := prog_38_method_31_code
def yJ12_compareValues : MethodName := ⟨RJ12, "compareValues", "([B[BII)I"⟩
abbrev cJ12_compareToLatin1 : ByteArray := prog_38_method_32_code
def yJ12_compareToLatin1 : MethodName := ⟨RJ12, "compareToLatin1", "([B[B)I"⟩
abbrev cJ12_compareTo_2 : ByteArray := prog_38_method_30_code
def yJ12_compareTo_2 : MethodName := ⟨RJ12, "compareTo", "([B[BII)I"⟩
abbrev cJ12_checkOffset : ByteArray := prog_38_method_92_code
def yJ12_checkOffset : MethodName := ⟨RJ12, "checkOffset", "(I[B)V"⟩
abbrev cJ12_compareToLatin1_2 : ByteArray := prog_38_method_33_code
def yJ12_compareToLatin1_2 : MethodName := ⟨RJ12, "compareToLatin1", "([B[BII)I"⟩
abbrev cJ12_fillNull : ByteArray := prog_38_method_70_code
def yJ12_fillNull : MethodName := ⟨RJ12, "fillNull", "([BII)V"⟩
theorem q164 : (Jvm.Cond.initialized "java/lang/StringUTF16") ∈ lw_all := lw_g (lw_at lw_m1 16 rfl) rfl
theorem q415 : (Jvm.Cond.static ({ cls := "java/lang/StringUTF16", name := "newBytesFor", desc := "(I)[B" } : Jvm.MethodName)) ∈ lw_all := lw_g (lw_at lw_m2 27 rfl) rfl
theorem q416 : (Jvm.Cond.code ({ cls := "java/lang/StringUTF16", name := "newBytesFor", desc := "(I)[B" } : Jvm.MethodName) prog_38_method_2_code (1 : Nat) (Option.some (Jvm.ClassFile.FieldType.array Jvm.ClassFile.FieldType.byte))) ∈ lw_all := lw_g (lw_at lw_m2 28 rfl) rfl
theorem q417 : (Jvm.Cond.methodLink "java/lang/StringUTF16" (11 : Nat) ({ cls := "java/lang/StringUTF16", name := "newBytesLength", desc := "(I)I" } : Jvm.MethodName)) ∈ lw_all := lw_g (lw_at lw_m2 29 rfl) rfl
theorem q418 : (Jvm.Cond.static ({ cls := "java/lang/StringUTF16", name := "newBytesLength", desc := "(I)I" } : Jvm.MethodName)) ∈ lw_all := lw_g (lw_at lw_m2 30 rfl) rfl
theorem q419 : (Jvm.Cond.code ({ cls := "java/lang/StringUTF16", name := "newBytesLength", desc := "(I)I" } : Jvm.MethodName) prog_38_method_3_code (1 : Nat) (Option.some Jvm.ClassFile.FieldType.int)) ∈ lw_all := lw_g (lw_at lw_m2 31 rfl) rfl
theorem q420 : (Jvm.Cond.constant "java/lang/StringUTF16" (20 : Nat) (1073741823 : Int32)) ∈ lw_all := lw_g (lw_at lw_m2 32 rfl) rfl
theorem q489 : (Jvm.Cond.static ({ cls := "java/lang/StringUTF16", name := "putCharsAt", desc := "([BICCCC)I" } : Jvm.MethodName)) ∈ lw_all := lw_g (lw_at lw_m2 101 rfl) rfl
theorem q490 : (Jvm.Cond.code ({ cls := "java/lang/StringUTF16", name := "putCharsAt", desc := "([BICCCC)I" } : Jvm.MethodName) prog_38_method_81_code (7 : Nat) (Option.some Jvm.ClassFile.FieldType.int)) ∈ lw_all := lw_g (lw_at lw_m2 102 rfl) rfl
theorem q491 : (Jvm.Cond.methodLink "java/lang/StringUTF16" (96 : Nat) ({ cls := "java/lang/StringUTF16", name := "checkBoundsBeginEnd", desc := "(II[B)V" } : Jvm.MethodName)) ∈ lw_all := lw_g (lw_at lw_m2 103 rfl) rfl
theorem q492 : (Jvm.Cond.static ({ cls := "java/lang/StringUTF16", name := "checkBoundsBeginEnd", desc := "(II[B)V" } : Jvm.MethodName)) ∈ lw_all := lw_g (lw_at lw_m2 104 rfl) rfl
theorem q493 : (Jvm.Cond.code ({ cls := "java/lang/StringUTF16", name := "checkBoundsBeginEnd", desc := "(II[B)V" } : Jvm.MethodName) prog_38_method_93_code (3 : Nat) (Option.none : Option Jvm.ClassFile.FieldType)) ∈ lw_all := lw_g (lw_at lw_m2 105 rfl) rfl
theorem q494 : (Jvm.Cond.methodLink "java/lang/StringUTF16" (48 : Nat) ({ cls := "java/lang/StringUTF16", name := "length", desc := "([B)I" } : Jvm.MethodName)) ∈ lw_all := lw_g (lw_at lw_m2 106 rfl) rfl
theorem q495 : (Jvm.Cond.static ({ cls := "java/lang/StringUTF16", name := "length", desc := "([B)I" } : Jvm.MethodName)) ∈ lw_all := lw_g (lw_at lw_m2 107 rfl) rfl
theorem q496 : (Jvm.Cond.code ({ cls := "java/lang/StringUTF16", name := "length", desc := "([B)I" } : Jvm.MethodName) prog_38_method_6_code (1 : Nat) (Option.some Jvm.ClassFile.FieldType.int)) ∈ lw_all := lw_g (lw_at lw_m2 108 rfl) rfl
theorem q497 : (Jvm.Cond.methodLink "java/lang/StringUTF16" (241 : Nat) ({ cls := "java/lang/String", name := "checkBoundsBeginEnd", desc := "(III)V" } : Jvm.MethodName)) ∈ lw_all := lw_g (lw_at lw_m2 109 rfl) rfl
theorem q505 : (Jvm.Cond.methodLink "java/lang/StringUTF16" (111 : Nat) ({ cls := "java/lang/StringUTF16", name := "putChar", desc := "([BII)V" } : Jvm.MethodName)) ∈ lw_all := lw_g (lw_at lw_m2 117 rfl) rfl
theorem q506 : (Jvm.Cond.static ({ cls := "java/lang/StringUTF16", name := "putChar", desc := "([BII)V" } : Jvm.MethodName)) ∈ lw_all := lw_g (lw_at lw_m2 118 rfl) rfl
theorem q507 : (Jvm.Cond.code ({ cls := "java/lang/StringUTF16", name := "putChar", desc := "([BII)V" } : Jvm.MethodName) prog_38_method_4_code (3 : Nat) (Option.none : Option Jvm.ClassFile.FieldType)) ∈ lw_all := lw_g (lw_at lw_m2 119 rfl) rfl
theorem q508 : (Jvm.Cond.fieldLink "java/lang/StringUTF16" (44 : Nat) "java/lang/StringUTF16" "$assertionsDisabled" "Z") ∈ lw_all := lw_g (lw_at lw_m2 120 rfl) rfl
theorem q509 : (Jvm.Cond.laysStatic "java/lang/StringUTF16" "$assertionsDisabled" "Z") ∈ lw_tbl := lw_at lw_m2 121 rfl
theorem q510 : (Jvm.Cond.fieldLink "java/lang/StringUTF16" (59 : Nat) "java/lang/StringUTF16" "HI_BYTE_SHIFT" "I") ∈ lw_all := lw_g (lw_at lw_m2 122 rfl) rfl
theorem q511 : (Jvm.Cond.laysStatic "java/lang/StringUTF16" "HI_BYTE_SHIFT" "I") ∈ lw_tbl := lw_at lw_m2 123 rfl
theorem q512 : (Jvm.Cond.fieldLink "java/lang/StringUTF16" (63 : Nat) "java/lang/StringUTF16" "LO_BYTE_SHIFT" "I") ∈ lw_all := lw_g (lw_at lw_m2 124 rfl) rfl
theorem q513 : (Jvm.Cond.laysStatic "java/lang/StringUTF16" "LO_BYTE_SHIFT" "I") ∈ lw_tbl := lw_at lw_m2 125 rfl
theorem q540 : (Jvm.Cond.static ({ cls := "java/lang/StringUTF16", name := "inflate", desc := "([BI[BII)V" } : Jvm.MethodName)) ∈ lw_all := lw_g (lw_at lw_m2 152 rfl) rfl
theorem q541 : (Jvm.Cond.code ({ cls := "java/lang/StringUTF16", name := "inflate", desc := "([BI[BII)V" } : Jvm.MethodName) prog_38_method_86_code (6 : Nat) (Option.none : Option Jvm.ClassFile.FieldType)) ∈ lw_all := lw_g (lw_at lw_m2 153 rfl) rfl
theorem q542 : (Jvm.Cond.methodLink "java/lang/StringUTF16" (173 : Nat) ({ cls := "java/lang/StringUTF16", name := "checkBoundsOffCount", desc := "(II[B)V" } : Jvm.MethodName)) ∈ lw_all := lw_g (lw_at lw_m2 154 rfl) rfl
theorem q543 : (Jvm.Cond.static ({ cls := "java/lang/StringUTF16", name := "checkBoundsOffCount", desc := "(II[B)V" } : Jvm.MethodName)) ∈ lw_all := lw_g (lw_at lw_m2 155 rfl) rfl
theorem q544 : (Jvm.Cond.code ({ cls := "java/lang/StringUTF16", name := "checkBoundsOffCount", desc := "(II[B)V" } : Jvm.MethodName) prog_38_method_94_code (3 : Nat) (Option.none : Option Jvm.ClassFile.FieldType)) ∈ lw_all := lw_g (lw_at lw_m2 156 rfl) rfl
theorem q545 : (Jvm.Cond.methodLink "java/lang/StringUTF16" (419 : Nat) ({ cls := "java/lang/String", name := "checkBoundsOffCount", desc := "(III)I" } : Jvm.MethodName)) ∈ lw_all := lw_g (lw_at lw_m2 157 rfl) rfl
theorem q575 : (Jvm.Cond.static ({ cls := "java/lang/StringUTF16", name := "getChars", desc := "(III[B)I" } : Jvm.MethodName)) ∈ lw_all := lw_g (lw_at lw_m2 187 rfl) rfl
theorem q576 : (Jvm.Cond.code ({ cls := "java/lang/StringUTF16", name := "getChars", desc := "(III[B)I" } : Jvm.MethodName) prog_38_method_77_code (5 : Nat) (Option.some Jvm.ClassFile.FieldType.int)) ∈ lw_all := lw_g (lw_at lw_m2 188 rfl) rfl
theorem q577 : (Jvm.Cond.methodLink "java/lang/StringUTF16" (393 : Nat) ({ cls := "java/lang/StringUTF16", name := "getChars", desc := "(II[B)I" } : Jvm.MethodName)) ∈ lw_all := lw_g (lw_at lw_m2 189 rfl) rfl
theorem q578 : (Jvm.Cond.static ({ cls := "java/lang/StringUTF16", name := "getChars", desc := "(II[B)I" } : Jvm.MethodName)) ∈ lw_all := lw_g (lw_at lw_m2 190 rfl) rfl
theorem q579 : (Jvm.Cond.code ({ cls := "java/lang/StringUTF16", name := "getChars", desc := "(II[B)I" } : Jvm.MethodName) prog_38_method_89_code (7 : Nat) (Option.some Jvm.ClassFile.FieldType.int)) ∈ lw_all := lw_g (lw_at lw_m2 191 rfl) rfl
theorem q580 : (Jvm.Cond.fieldLink "java/lang/StringUTF16" (403 : Nat) "java/lang/Integer" "DigitOnes" "[B") ∈ lw_all := lw_g (lw_at lw_m2 192 rfl) rfl
theorem q581 : (Jvm.Cond.fieldLink "java/lang/StringUTF16" (407 : Nat) "java/lang/Integer" "DigitTens" "[B") ∈ lw_all := lw_g (lw_at lw_m2 193 rfl) rfl
theorem q651 : (Jvm.Cond.static ({ cls := "java/lang/StringUTF16", name := "compress", desc := "([BII)[B" } : Jvm.MethodName)) ∈ lw_all := lw_g (lw_at lw_m3 23 rfl) rfl
theorem q652 : (Jvm.Cond.code ({ cls := "java/lang/StringUTF16", name := "compress", desc := "([BII)[B" } : Jvm.MethodName) prog_38_method_17_code (6 : Nat) (Option.some (Jvm.ClassFile.FieldType.array Jvm.ClassFile.FieldType.byte))) ∈ lw_all := lw_g (lw_at lw_m3 24 rfl) rfl
theorem q653 : (Jvm.Cond.methodLink "java/lang/StringUTF16" (123 : Nat) ({ cls := "java/lang/StringUTF16", name := "compress", desc := "([BI[BII)I" } : Jvm.MethodName)) ∈ lw_all := lw_g (lw_at lw_m3 25 rfl) rfl
theorem q654 : (Jvm.Cond.static ({ cls := "java/lang/StringUTF16", name := "compress", desc := "([BI[BII)I" } : Jvm.MethodName)) ∈ lw_all := lw_g (lw_at lw_m3 26 rfl) rfl
theorem q655 : (Jvm.Cond.code ({ cls := "java/lang/StringUTF16", name := "compress", desc := "([BI[BII)I" } : Jvm.MethodName) prog_38_method_22_code (7 : Nat) (Option.some Jvm.ClassFile.FieldType.int)) ∈ lw_all := lw_g (lw_at lw_m3 27 rfl) rfl
theorem q656 : (Jvm.Cond.methodLink "java/lang/StringUTF16" (71 : Nat) ({ cls := "java/lang/StringUTF16", name := "getChar", desc := "([BI)C" } : Jvm.MethodName)) ∈ lw_all := lw_g (lw_at lw_m3 28 rfl) rfl
theorem q657 : (Jvm.Cond.static ({ cls := "java/lang/StringUTF16", name := "getChar", desc := "([BI)C" } : Jvm.MethodName)) ∈ lw_all := lw_g (lw_at lw_m3 29 rfl) rfl
theorem q658 : (Jvm.Cond.code ({ cls := "java/lang/StringUTF16", name := "getChar", desc := "([BI)C" } : Jvm.MethodName) prog_38_method_5_code (2 : Nat) (Option.some Jvm.ClassFile.FieldType.char)) ∈ lw_all := lw_g (lw_at lw_m3 30 rfl) rfl
theorem q659 : (Jvm.Cond.methodLink "java/lang/StringUTF16" (126 : Nat) ({ cls := "java/util/Arrays", name := "copyOfRange", desc := "([BII)[B" } : Jvm.MethodName)) ∈ lw_all := lw_g (lw_at lw_m3 31 rfl) rfl
theorem q661 : (Jvm.Cond.static ({ cls := "java/lang/StringUTF16", name := "coderFromArrayLen", desc := "([BI)B" } : Jvm.MethodName)) ∈ lw_all := lw_g (lw_at lw_m3 33 rfl) rfl
theorem q662 : (Jvm.Cond.code ({ cls := "java/lang/StringUTF16", name := "coderFromArrayLen", desc := "([BI)B" } : Jvm.MethodName) prog_38_method_15_code (2 : Nat) (Option.some Jvm.ClassFile.FieldType.byte)) ∈ lw_all := lw_g (lw_at lw_m3 34 rfl) rfl
theorem q1006 : (Jvm.Cond.static ({ cls := "java/lang/StringUTF16", name := "putCharSB", desc := "([BII)V" } : Jvm.MethodName)) ∈ lw_all := lw_g (lw_at lw_m4 138 rfl) rfl
theorem q1007 : (Jvm.Cond.code ({ cls := "java/lang/StringUTF16", name := "putCharSB", desc := "([BII)V" } : Jvm.MethodName) prog_38_method_71_code (3 : Nat) (Option.none : Option Jvm.ClassFile.FieldType)) ∈ lw_all := lw_g (lw_at lw_m4 139 rfl) rfl
theorem q1008 : (Jvm.Cond.methodLink "java/lang/StringUTF16" (67 : Nat) ({ cls := "java/lang/StringUTF16", name := "checkIndex", desc := "(I[B)V" } : Jvm.MethodName)) ∈ lw_all := lw_g (lw_at lw_m4 140 rfl) rfl
theorem q1009 : (Jvm.Cond.static ({ cls := "java/lang/StringUTF16", name := "checkIndex", desc := "(I[B)V" } : Jvm.MethodName)) ∈ lw_all := lw_g (lw_at lw_m4 141 rfl) rfl
theorem q1010 : (Jvm.Cond.code ({ cls := "java/lang/StringUTF16", name := "checkIndex", desc := "(I[B)V" } : Jvm.MethodName) prog_38_method_91_code (2 : Nat) (Option.none : Option Jvm.ClassFile.FieldType)) ∈ lw_all := lw_g (lw_at lw_m4 142 rfl) rfl
theorem q1011 : (Jvm.Cond.methodLink "java/lang/StringUTF16" (414 : Nat) ({ cls := "java/lang/String", name := "checkIndex", desc := "(II)V" } : Jvm.MethodName)) ∈ lw_all := lw_g (lw_at lw_m4 143 rfl) rfl
theorem q1085 : (Jvm.Cond.static ({ cls := "java/lang/StringUTF16", name := "hashCode", desc := "([B)I" } : Jvm.MethodName)) ∈ lw_all := lw_g (lw_at lw_m4 217 rfl) rfl
theorem q1086 : (Jvm.Cond.code ({ cls := "java/lang/StringUTF16", name := "hashCode", desc := "([B)I" } : Jvm.MethodName) prog_38_method_39_code (1 : Nat) (Option.some Jvm.ClassFile.FieldType.int)) ∈ lw_all := lw_g (lw_at lw_m4 218 rfl) rfl
theorem q1087 : (Jvm.Cond.methodLink "java/lang/StringUTF16" (220 : Nat) ({ cls := "jdk/internal/util/ArraysSupport", name := "vectorizedHashCode", desc := "(Ljava/lang/Object;IIII)I" } : Jvm.MethodName)) ∈ lw_all := lw_g (lw_at lw_m4 219 rfl) rfl
theorem q1128 : (Jvm.Cond.static ({ cls := "java/lang/StringUTF16", name := "charAt", desc := "([BI)C" } : Jvm.MethodName)) ∈ lw_all := lw_g (lw_at lw_m5 20 rfl) rfl
theorem q1129 : (Jvm.Cond.code ({ cls := "java/lang/StringUTF16", name := "charAt", desc := "([BI)C" } : Jvm.MethodName) prog_38_method_83_code (2 : Nat) (Option.some Jvm.ClassFile.FieldType.char)) ∈ lw_all := lw_g (lw_at lw_m5 21 rfl) rfl
theorem q1889 : (Jvm.Cond.static ({ cls := "java/lang/StringUTF16", name := "compareTo", desc := "([B[B)I" } : Jvm.MethodName)) ∈ lw_all := lw_g (lw_at lw_m8 61 rfl) rfl
theorem q1890 : (Jvm.Cond.code ({ cls := "java/lang/StringUTF16", name := "compareTo", desc := "([B[B)I" } : Jvm.MethodName) prog_38_method_29_code (4 : Nat) (Option.some Jvm.ClassFile.FieldType.int)) ∈ lw_all := lw_g (lw_at lw_m8 62 rfl) rfl
theorem q1891 : (Jvm.Cond.methodLink "java/lang/StringUTF16" (176 : Nat) ({ cls := "java/lang/StringUTF16", name := "compareValues", desc := "([B[BII)I" } : Jvm.MethodName)) ∈ lw_all := lw_g (lw_at lw_m8 63 rfl) rfl
theorem q1892 : (Jvm.Cond.static ({ cls := "java/lang/StringUTF16", name := "compareValues", desc := "([B[BII)I" } : Jvm.MethodName)) ∈ lw_all := lw_g (lw_at lw_m8 64 rfl) rfl
theorem q1893 : (Jvm.Cond.code ({ cls := "java/lang/StringUTF16", name := "compareValues", desc := "([B[BII)I" } : Jvm.MethodName) prog_38_method_31_code (8 : Nat) (Option.some Jvm.ClassFile.FieldType.int)) ∈ lw_all := lw_g (lw_at lw_m8 65 rfl) rfl
theorem q1894 : (Jvm.Cond.methodLink "java/lang/StringUTF16" (183 : Nat) ({ cls := "java/lang/Math", name := "min", desc := "(II)I" } : Jvm.MethodName)) ∈ lw_all := lw_g (lw_at lw_m8 66 rfl) rfl
theorem q1907 : (Jvm.Cond.static ({ cls := "java/lang/StringUTF16", name := "compareToLatin1", desc := "([B[B)I" } : Jvm.MethodName)) ∈ lw_all := lw_g (lw_at lw_m8 79 rfl) rfl
theorem q1908 : (Jvm.Cond.code ({ cls := "java/lang/StringUTF16", name := "compareToLatin1", desc := "([B[B)I" } : Jvm.MethodName) prog_38_method_32_code (2 : Nat) (Option.some Jvm.ClassFile.FieldType.int)) ∈ lw_all := lw_g (lw_at lw_m8 80 rfl) rfl
theorem q1909 : (Jvm.Cond.methodLink "java/lang/StringUTF16" (189 : Nat) ({ cls := "java/lang/StringLatin1", name := "compareToUTF16", desc := "([B[B)I" } : Jvm.MethodName)) ∈ lw_all := lw_g (lw_at lw_m8 81 rfl) rfl
theorem q1926 : (Jvm.Cond.static ({ cls := "java/lang/StringUTF16", name := "compareTo", desc := "([B[BII)I" } : Jvm.MethodName)) ∈ lw_all := lw_g (lw_at lw_m8 98 rfl) rfl
theorem q1927 : (Jvm.Cond.code ({ cls := "java/lang/StringUTF16", name := "compareTo", desc := "([B[BII)I" } : Jvm.MethodName) prog_38_method_30_code (4 : Nat) (Option.some Jvm.ClassFile.FieldType.int)) ∈ lw_all := lw_g (lw_at lw_m8 99 rfl) rfl
theorem q1928 : (Jvm.Cond.methodLink "java/lang/StringUTF16" (180 : Nat) ({ cls := "java/lang/StringUTF16", name := "checkOffset", desc := "(I[B)V" } : Jvm.MethodName)) ∈ lw_all := lw_g (lw_at lw_m8 100 rfl) rfl
theorem q1929 : (Jvm.Cond.static ({ cls := "java/lang/StringUTF16", name := "checkOffset", desc := "(I[B)V" } : Jvm.MethodName)) ∈ lw_all := lw_g (lw_at lw_m8 101 rfl) rfl
theorem q1930 : (Jvm.Cond.code ({ cls := "java/lang/StringUTF16", name := "checkOffset", desc := "(I[B)V" } : Jvm.MethodName) prog_38_method_92_code (2 : Nat) (Option.none : Option Jvm.ClassFile.FieldType)) ∈ lw_all := lw_g (lw_at lw_m8 102 rfl) rfl
theorem q1931 : (Jvm.Cond.methodLink "java/lang/StringUTF16" (417 : Nat) ({ cls := "java/lang/String", name := "checkOffset", desc := "(II)V" } : Jvm.MethodName)) ∈ lw_all := lw_g (lw_at lw_m8 103 rfl) rfl
theorem q1939 : (Jvm.Cond.static ({ cls := "java/lang/StringUTF16", name := "compareToLatin1", desc := "([B[BII)I" } : Jvm.MethodName)) ∈ lw_all := lw_g (lw_at lw_m8 111 rfl) rfl
theorem q1940 : (Jvm.Cond.code ({ cls := "java/lang/StringUTF16", name := "compareToLatin1", desc := "([B[BII)I" } : Jvm.MethodName) prog_38_method_33_code (4 : Nat) (Option.some Jvm.ClassFile.FieldType.int)) ∈ lw_all := lw_g (lw_at lw_m8 112 rfl) rfl
theorem q1941 : (Jvm.Cond.methodLink "java/lang/StringUTF16" (193 : Nat) ({ cls := "java/lang/StringLatin1", name := "compareToUTF16", desc := "([B[BII)I" } : Jvm.MethodName)) ∈ lw_all := lw_g (lw_at lw_m8 113 rfl) rfl
theorem q2939 : (Jvm.Cond.static ({ cls := "java/lang/StringUTF16", name := "fillNull", desc := "([BII)V" } : Jvm.MethodName)) ∈ lw_all := lw_g (lw_at lw_m12 151 rfl) rfl
theorem q2940 : (Jvm.Cond.code ({ cls := "java/lang/StringUTF16", name := "fillNull", desc := "([BII)V" } : Jvm.MethodName) prog_38_method_70_code (3 : Nat) (Option.none : Option Jvm.ClassFile.FieldType)) ∈ lw_all := lw_g (lw_at lw_m12 152 rfl) rfl
theorem q2941 : (Jvm.Cond.methodLink "java/lang/StringUTF16" (380 : Nat) ({ cls := "java/util/Arrays", name := "fill", desc := "([BIIB)V" } : Jvm.MethodName)) ∈ lw_all := lw_g (lw_at lw_m12 153 rfl) rfl
/-! jdk/internal/util/ArraysSupport -/
def RJ13 : String := "jdk/internal/util/ArraysSupport"
abbrev cJ13_newLength : ByteArray := prog_80_method_27_code
def yJ13_newLength : MethodName := ⟨RJ13, "newLength", "(III)I"⟩
abbrev cJ13_hugeLength : ByteArray := prog_80_method_28_code
def yJ13_hugeLength : MethodName := ⟨RJ13, "hugeLength", "(II)I"⟩
abbrev cJ13_vectorizedHashCode : ByteArray := prog_80_method_4_code
def yJ13_vectorizedHashCode : MethodName := ⟨RJ13, "vectorizedHashCode", "(Ljava/lang/Object;IIII)I"⟩
abbrev cJ13_signedHashCode : ByteArray := prog_80_method_5_code
def yJ13_signedHashCode : MethodName := ⟨RJ13, "signedHashCode", "(I[BII)I"⟩
abbrev cJ13_utf16hashCode : ByteArray := prog_80_method_10_code
def yJ13_utf16hashCode : MethodName := ⟨RJ13, "utf16hashCode", "(I[BII)I"⟩
abbrev cJ13_hashCode : ByteArray := prog_80_method_7_code
def yJ13_hashCode : MethodName := ⟨RJ13, "hashCode", "(I[CII)I"⟩
abbrev cJ13_hashCode_2 : ByteArray := prog_80_method_6_code
def yJ13_hashCode_2 : MethodName := ⟨RJ13, "hashCode", "(I[BII)I"⟩
abbrev cJ13_hashCode_3 : ByteArray := prog_80_method_8_code
def yJ13_hashCode_3 : MethodName := ⟨RJ13, "hashCode", "(I[SII)I"⟩
abbrev cJ13_hashCode_4 : ByteArray := prog_80_method_9_code
def yJ13_hashCode_4 : MethodName := ⟨RJ13, "hashCode", "(I[III)I"⟩
abbrev cJ13_mismatch : ByteArray := prog_80_method_13_code
def yJ13_mismatch : MethodName := ⟨RJ13, "mismatch", "([B[BI)I"⟩
abbrev cJ13_vectorizedMismatch : ByteArray := prog_80_method_3_code
def yJ13_vectorizedMismatch : MethodName := ⟨RJ13, "vectorizedMismatch", "(Ljava/lang/Object;JLjava/lang/Object;JII)I"⟩
theorem q165 : (Jvm.Cond.initialized "jdk/internal/util/ArraysSupport") ∈ lw_all := lw_g (lw_at lw_m1 17 rfl) rfl
theorem q457 : (Jvm.Cond.static ({ cls := "jdk/internal/util/ArraysSupport", name := "newLength", desc := "(III)I" } : Jvm.MethodName)) ∈ lw_all := lw_g (lw_at lw_m2 69 rfl) rfl
theorem q458 : (Jvm.Cond.code ({ cls := "jdk/internal/util/ArraysSupport", name := "newLength", desc := "(III)I" } : Jvm.MethodName) prog_80_method_27_code (4 : Nat) (Option.some Jvm.ClassFile.FieldType.int)) ∈ lw_all := lw_g (lw_at lw_m2 70 rfl) rfl
theorem q459 : (Jvm.Cond.methodLink "jdk/internal/util/ArraysSupport" (194 : Nat) ({ cls := "java/lang/Math", name := "max", desc := "(II)I" } : Jvm.MethodName)) ∈ lw_all := lw_g (lw_at lw_m2 71 rfl) rfl
theorem q462 : (Jvm.Cond.constant "jdk/internal/util/ArraysSupport" (200 : Nat) (2147483639 : Int32)) ∈ lw_all := lw_g (lw_at lw_m2 74 rfl) rfl
theorem q463 : (Jvm.Cond.methodLink "jdk/internal/util/ArraysSupport" (201 : Nat) ({ cls := "jdk/internal/util/ArraysSupport", name := "hugeLength", desc := "(II)I" } : Jvm.MethodName)) ∈ lw_all := lw_g (lw_at lw_m2 75 rfl) rfl
theorem q464 : (Jvm.Cond.static ({ cls := "jdk/internal/util/ArraysSupport", name := "hugeLength", desc := "(II)I" } : Jvm.MethodName)) ∈ lw_all := lw_g (lw_at lw_m2 76 rfl) rfl
theorem q465 : (Jvm.Cond.code ({ cls := "jdk/internal/util/ArraysSupport", name := "hugeLength", desc := "(II)I" } : Jvm.MethodName) prog_80_method_28_code (3 : Nat) (Option.some Jvm.ClassFile.FieldType.int)) ∈ lw_all := lw_g (lw_at lw_m2 77 rfl) rfl
theorem q1039 : (Jvm.Cond.static ({ cls := "jdk/internal/util/ArraysSupport", name := "vectorizedHashCode", desc := "(Ljava/lang/Object;IIII)I" } : Jvm.MethodName)) ∈ lw_all := lw_g (lw_at lw_m4 171 rfl) rfl
theorem q1040 : (Jvm.Cond.code ({ cls := "jdk/internal/util/ArraysSupport", name := "vectorizedHashCode", desc := "(Ljava/lang/Object;IIII)I" } : Jvm.MethodName) prog_80_method_4_code (5 : Nat) (Option.some Jvm.ClassFile.FieldType.int)) ∈ lw_all := lw_g (lw_at lw_m4 172 rfl) rfl
theorem q1041 : (Jvm.Cond.classLink "jdk/internal/util/ArraysSupport" (60 : Nat) "[B") ∈ lw_all := lw_g (lw_at lw_m4 173 rfl) rfl
theorem q1042 : (Jvm.Cond.methodLink "jdk/internal/util/ArraysSupport" (62 : Nat) ({ cls := "jdk/internal/util/ArraysSupport", name := "signedHashCode", desc := "(I[BII)I" } : Jvm.MethodName)) ∈ lw_all := lw_g (lw_at lw_m4 174 rfl) rfl
theorem q1043 : (Jvm.Cond.static ({ cls := "jdk/internal/util/ArraysSupport", name := "signedHashCode", desc := "(I[BII)I" } : Jvm.MethodName)) ∈ lw_all := lw_g (lw_at lw_m4 175 rfl) rfl
theorem q1044 : (Jvm.Cond.code ({ cls := "jdk/internal/util/ArraysSupport", name := "signedHashCode", desc := "(I[BII)I" } : Jvm.MethodName) prog_80_method_5_code (6 : Nat) (Option.some Jvm.ClassFile.FieldType.int)) ∈ lw_all := lw_g (lw_at lw_m4 176 rfl) rfl
theorem q1045 : (Jvm.Cond.methodLink "jdk/internal/util/ArraysSupport" (66 : Nat) ({ cls := "jdk/internal/util/ArraysSupport", name := "utf16hashCode", desc := "(I[BII)I" } : Jvm.MethodName)) ∈ lw_all := lw_g (lw_at lw_m4 177 rfl) rfl
theorem q1046 : (Jvm.Cond.static ({ cls := "jdk/internal/util/ArraysSupport", name := "utf16hashCode", desc := "(I[BII)I" } : Jvm.MethodName)) ∈ lw_all := lw_g (lw_at lw_m4 178 rfl) rfl
theorem q1047 : (Jvm.Cond.code ({ cls := "jdk/internal/util/ArraysSupport", name := "utf16hashCode", desc := "(I[BII)I" } : Jvm.MethodName) prog_80_method_10_code (6 : Nat) (Option.some Jvm.ClassFile.FieldType.int)) ∈ lw_all := lw_g (lw_at lw_m4 179 rfl) rfl
theorem q1048 : (Jvm.Cond.fieldLink "jdk/internal/util/ArraysSupport" (106 : Nat) "jdk/internal/util/ArraysSupport" "JLA" "Ljdk/internal/access/JavaLangAccess;") ∈ lw_all := lw_g (lw_at lw_m4 180 rfl) rfl
theorem q1049 : (Jvm.Cond.laysStatic "jdk/internal/util/ArraysSupport" "JLA" "Ljdk/internal/access/JavaLangAccess;") ∈ lw_tbl := lw_at lw_m4 181 rfl
theorem q1050 : (Jvm.Cond.interfaceEntry "jdk/internal/util/ArraysSupport" (110 : Nat)) ∈ lw_tbl := lw_at lw_m4 182 rfl
theorem q1051 : (Jvm.Cond.methodLink "jdk/internal/util/ArraysSupport" (110 : Nat) ({ cls := "jdk/internal/access/JavaLangAccess", name := "getUTF16Char", desc := "([BI)C" } : Jvm.MethodName)) ∈ lw_all := lw_g (lw_at lw_m4 183 rfl) rfl
theorem q1061 : (Jvm.Cond.classLink "jdk/internal/util/ArraysSupport" (69 : Nat) "[C") ∈ lw_all := lw_g (lw_at lw_m4 193 rfl) rfl
theorem q1062 : (Jvm.Cond.methodLink "jdk/internal/util/ArraysSupport" (71 : Nat) ({ cls := "jdk/internal/util/ArraysSupport", name := "hashCode", desc := "(I[CII)I" } : Jvm.MethodName)) ∈ lw_all := lw_g (lw_at lw_m4 194 rfl) rfl
theorem q1063 : (Jvm.Cond.static ({ cls := "jdk/internal/util/ArraysSupport", name := "hashCode", desc := "(I[CII)I" } : Jvm.MethodName)) ∈ lw_all := lw_g (lw_at lw_m4 195 rfl) rfl
theorem q1064 : (Jvm.Cond.code ({ cls := "jdk/internal/util/ArraysSupport", name := "hashCode", desc := "(I[CII)I" } : Jvm.MethodName) prog_80_method_7_code (6 : Nat) (Option.some Jvm.ClassFile.FieldType.int)) ∈ lw_all := lw_g (lw_at lw_m4 196 rfl) rfl
theorem q1065 : (Jvm.Cond.methodLink "jdk/internal/util/ArraysSupport" (75 : Nat) ({ cls := "jdk/internal/util/ArraysSupport", name := "hashCode", desc := "(I[BII)I" } : Jvm.MethodName)) ∈ lw_all := lw_g (lw_at lw_m4 197 rfl) rfl
theorem q1066 : (Jvm.Cond.static ({ cls := "jdk/internal/util/ArraysSupport", name := "hashCode", desc := "(I[BII)I" } : Jvm.MethodName)) ∈ lw_all := lw_g (lw_at lw_m4 198 rfl) rfl
theorem q1067 : (Jvm.Cond.code ({ cls := "jdk/internal/util/ArraysSupport", name := "hashCode", desc := "(I[BII)I" } : Jvm.MethodName) prog_80_method_6_code (6 : Nat) (Option.some Jvm.ClassFile.FieldType.int)) ∈ lw_all := lw_g (lw_at lw_m4 199 rfl) rfl
theorem q1068 : (Jvm.Cond.classLink "jdk/internal/util/ArraysSupport" (77 : Nat) "[S") ∈ lw_all := lw_g (lw_at lw_m4 200 rfl) rfl
theorem q1069 : (Jvm.Cond.methodLink "jdk/internal/util/ArraysSupport" (79 : Nat) ({ cls := "jdk/internal/util/ArraysSupport", name := "hashCode", desc := "(I[SII)I" } : Jvm.MethodName)) ∈ lw_all := lw_g (lw_at lw_m4 201 rfl) rfl
theorem q1070 : (Jvm.Cond.static ({ cls := "jdk/internal/util/ArraysSupport", name := "hashCode", desc := "(I[SII)I" } : Jvm.MethodName)) ∈ lw_all := lw_g (lw_at lw_m4 202 rfl) rfl
theorem q1071 : (Jvm.Cond.code ({ cls := "jdk/internal/util/ArraysSupport", name := "hashCode", desc := "(I[SII)I" } : Jvm.MethodName) prog_80_method_8_code (6 : Nat) (Option.some Jvm.ClassFile.FieldType.int)) ∈ lw_all := lw_g (lw_at lw_m4 203 rfl) rfl
theorem q1072 : (Jvm.Cond.classLink "jdk/internal/util/ArraysSupport" (82 : Nat) "[I") ∈ lw_all := lw_g (lw_at lw_m4 204 rfl) rfl
theorem q1073 : (Jvm.Cond.methodLink "jdk/internal/util/ArraysSupport" (84 : Nat) ({ cls := "jdk/internal/util/ArraysSupport", name := "hashCode", desc := "(I[III)I" } : Jvm.MethodName)) ∈ lw_all := lw_g (lw_at lw_m4 205 rfl) rfl
theorem q1074 : (Jvm.Cond.static ({ cls := "jdk/internal/util/ArraysSupport", name := "hashCode", desc := "(I[III)I" } : Jvm.MethodName)) ∈ lw_all := lw_g (lw_at lw_m4 206 rfl) rfl
theorem q1075 : (Jvm.Cond.code ({ cls := "jdk/internal/util/ArraysSupport", name := "hashCode", desc := "(I[III)I" } : Jvm.MethodName) prog_80_method_9_code (6 : Nat) (Option.some Jvm.ClassFile.FieldType.int)) ∈ lw_all := lw_g (lw_at lw_m4 207 rfl) rfl
theorem q1076 : (Jvm.Cond.classLink "jdk/internal/util/ArraysSupport" (87 : Nat) "java/lang/IllegalArgumentException") ∈ lw_all := lw_g (lw_at lw_m4 208 rfl) rfl
theorem q1077 : (Jvm.Cond.classLink "jdk/internal/util/ArraysSupport" (89 : Nat) "java/lang/StringBuilder") ∈ lw_all := lw_g (lw_at lw_m4 209 rfl) rfl
theorem q1078 : (Jvm.Cond.methodLink "jdk/internal/util/ArraysSupport" (91 : Nat) ({ cls := "java/lang/StringBuilder", name := "<init>", desc := "()V" } : Jvm.MethodName)) ∈ lw_all := lw_g (lw_at lw_m4 210 rfl) rfl
theorem q1079 : (Jvm.Cond.stringRef "jdk/internal/util/ArraysSupport" (92 : Nat) "unrecognized basic type: ") ∈ lw_tbl := lw_at lw_m4 211 rfl
theorem q1080 : (Jvm.Cond.methodLink "jdk/internal/util/ArraysSupport" (94 : Nat) ({ cls := "java/lang/StringBuilder", name := "append", desc := "(Ljava/lang/String;)Ljava/lang/StringBuilder;" } : Jvm.MethodName)) ∈ lw_all := lw_g (lw_at lw_m4 212 rfl) rfl
theorem q1081 : (Jvm.Cond.methodLink "jdk/internal/util/ArraysSupport" (98 : Nat) ({ cls := "java/lang/StringBuilder", name := "append", desc := "(I)Ljava/lang/StringBuilder;" } : Jvm.MethodName)) ∈ lw_all := lw_g (lw_at lw_m4 213 rfl) rfl
theorem q1082 : (Jvm.Cond.methodLink "jdk/internal/util/ArraysSupport" (101 : Nat) ({ cls := "java/lang/StringBuilder", name := "toString", desc := "()Ljava/lang/String;" } : Jvm.MethodName)) ∈ lw_all := lw_g (lw_at lw_m4 214 rfl) rfl
theorem q1083 : (Jvm.Cond.methodLink "jdk/internal/util/ArraysSupport" (105 : Nat) ({ cls := "java/lang/IllegalArgumentException", name := "<init>", desc := "(Ljava/lang/String;)V" } : Jvm.MethodName)) ∈ lw_all := lw_g (lw_at lw_m4 215 rfl) rfl
theorem q1782 : (Jvm.Cond.static ({ cls := "jdk/internal/util/ArraysSupport", name := "mismatch", desc := "([B[BI)I" } : Jvm.MethodName)) ∈ lw_all := lw_g (lw_at lw_m7 194 rfl) rfl
theorem q1783 : (Jvm.Cond.code ({ cls := "jdk/internal/util/ArraysSupport", name := "mismatch", desc := "([B[BI)I" } : Jvm.MethodName) prog_80_method_13_code (4 : Nat) (Option.some Jvm.ClassFile.FieldType.int)) ∈ lw_all := lw_g (lw_at lw_m7 195 rfl) rfl
theorem q1784 : (Jvm.Cond.fieldLink "jdk/internal/util/ArraysSupport" (126 : Nat) "jdk/internal/misc/Unsafe" "ARRAY_BYTE_BASE_OFFSET" "I") ∈ lw_all := lw_g (lw_at lw_m7 196 rfl) rfl
theorem q1786 : (Jvm.Cond.fieldLink "jdk/internal/util/ArraysSupport" (129 : Nat) "jdk/internal/util/ArraysSupport" "LOG2_ARRAY_BYTE_INDEX_SCALE" "I") ∈ lw_all := lw_g (lw_at lw_m7 198 rfl) rfl
theorem q1787 : (Jvm.Cond.laysStatic "jdk/internal/util/ArraysSupport" "LOG2_ARRAY_BYTE_INDEX_SCALE" "I") ∈ lw_tbl := lw_at lw_m7 199 rfl
theorem q1788 : (Jvm.Cond.methodLink "jdk/internal/util/ArraysSupport" (122 : Nat) ({ cls := "jdk/internal/util/ArraysSupport", name := "vectorizedMismatch", desc := "(Ljava/lang/Object;JLjava/lang/Object;JII)I" } : Jvm.MethodName)) ∈ lw_all := lw_g (lw_at lw_m7 200 rfl) rfl
theorem q1789 : (Jvm.Cond.static ({ cls := "jdk/internal/util/ArraysSupport", name := "vectorizedMismatch", desc := "(Ljava/lang/Object;JLjava/lang/Object;JII)I" } : Jvm.MethodName)) ∈ lw_all := lw_g (lw_at lw_m7 201 rfl) rfl
theorem q1790 : (Jvm.Cond.code ({ cls := "jdk/internal/util/ArraysSupport", name := "vectorizedMismatch", desc := "(Ljava/lang/Object;JLjava/lang/Object;JII)I" } : Jvm.MethodName) prog_80_method_3_code (19 : Nat) (Option.some Jvm.ClassFile.FieldType.int)) ∈ lw_all := lw_g (lw_at lw_m7 202 rfl) rfl
theorem q1791 : (Jvm.Cond.fieldLink "jdk/internal/util/ArraysSupport" (20 : Nat) "jdk/internal/util/ArraysSupport" "LOG2_ARRAY_LONG_INDEX_SCALE" "I") ∈ lw_all := lw_g (lw_at lw_m7 203 rfl) rfl
theorem q1792 : (Jvm.Cond.laysStatic "jdk/internal/util/ArraysSupport" "LOG2_ARRAY_LONG_INDEX_SCALE" "I") ∈ lw_tbl := lw_at lw_m7 204 rfl
theorem q1793 : (Jvm.Cond.fieldLink "jdk/internal/util/ArraysSupport" (26 : Nat) "jdk/internal/util/ArraysSupport" "U" "Ljdk/internal/misc/Unsafe;") ∈ lw_all := lw_g (lw_at lw_m7 205 rfl) rfl
theorem q1794 : (Jvm.Cond.laysStatic "jdk/internal/util/ArraysSupport" "U" "Ljdk/internal/misc/Unsafe;") ∈ lw_tbl := lw_at lw_m7 206 rfl
theorem q1795 : (Jvm.Cond.methodLink "jdk/internal/util/ArraysSupport" (30 : Nat) ({ cls := "jdk/internal/misc/Unsafe", name := "getLongUnaligned", desc := "(Ljava/lang/Object;J)J" } : Jvm.MethodName)) ∈ lw_all := lw_g (lw_at lw_m7 207 rfl) rfl
theorem q1847 : (Jvm.Cond.fieldLink "jdk/internal/util/ArraysSupport" (36 : Nat) "jdk/internal/util/ArraysSupport" "BIG_ENDIAN" "Z") ∈ lw_all := lw_g (lw_at lw_m8 19 rfl) rfl
theorem q1848 : (Jvm.Cond.laysStatic "jdk/internal/util/ArraysSupport" "BIG_ENDIAN" "Z") ∈ lw_tbl := lw_at lw_m8 20 rfl
theorem q1849 : (Jvm.Cond.methodLink "jdk/internal/util/ArraysSupport" (40 : Nat) ({ cls := "java/lang/Long", name := "numberOfLeadingZeros", desc := "(J)I" } : Jvm.MethodName)) ∈ lw_all := lw_g (lw_at lw_m8 21 rfl) rfl
theorem q1856 : (Jvm.Cond.fieldLink "jdk/internal/util/ArraysSupport" (46 : Nat) "jdk/internal/util/ArraysSupport" "LOG2_BYTE_BIT_SIZE" "I") ∈ lw_all := lw_g (lw_at lw_m8 28 rfl) rfl
theorem q1857 : (Jvm.Cond.laysStatic "jdk/internal/util/ArraysSupport" "LOG2_BYTE_BIT_SIZE" "I") ∈ lw_tbl := lw_at lw_m8 29 rfl
theorem q1858 : (Jvm.Cond.methodLink "jdk/internal/util/ArraysSupport" (49 : Nat) ({ cls := "java/lang/Long", name := "numberOfTrailingZeros", desc := "(J)I" } : Jvm.MethodName)) ∈ lw_all := lw_g (lw_at lw_m8 30 rfl) rfl
theorem q1864 : (Jvm.Cond.fieldLink "jdk/internal/util/ArraysSupport" (51 : Nat) "jdk/internal/util/ArraysSupport" "LOG2_ARRAY_INT_INDEX_SCALE" "I") ∈ lw_all := lw_g (lw_at lw_m8 36 rfl) rfl
theorem q1865 : (Jvm.Cond.laysStatic "jdk/internal/util/ArraysSupport" "LOG2_ARRAY_INT_INDEX_SCALE" "I") ∈ lw_tbl := lw_at lw_m8 37 rfl
theorem q1866 : (Jvm.Cond.methodLink "jdk/internal/util/ArraysSupport" (54 : Nat) ({ cls := "jdk/internal/misc/Unsafe", name := "getIntUnaligned", desc := "(Ljava/lang/Object;J)I" } : Jvm.MethodName)) ∈ lw_all := lw_g (lw_at lw_m8 38 rfl) rfl
theorem q1883 : (Jvm.Cond.methodLink "jdk/internal/util/ArraysSupport" (58 : Nat) ({ cls := "java/lang/Integer", name := "numberOfLeadingZeros", desc := "(I)I" } : Jvm.MethodName)) ∈ lw_all := lw_g (lw_at lw_m8 55 rfl) rfl
theorem q1884 : (Jvm.Cond.methodLink "jdk/internal/util/ArraysSupport" (11 : Nat) ({ cls := "java/lang/Integer", name := "numberOfTrailingZeros", desc := "(I)I" } : Jvm.MethodName)) ∈ lw_all := lw_g (lw_at lw_m8 56 rfl) rfl
/-! java/lang/Math -/
def RJ14 : String := "java/lang/Math"
abbrev cJ14_max : ByteArray := prog_30_method_65_code
def yJ14_max : MethodName := ⟨RJ14, "max", "(II)I"⟩
abbrev cJ14_min : ByteArray := prog_30_method_69_code
def yJ14_min : MethodName := ⟨RJ14, "min", "(II)I"⟩
theorem q166 : (Jvm.Cond.initialized "java/lang/Math") ∈ lw_all := lw_g (lw_at lw_m1 18 rfl) rfl
theorem q460 : (Jvm.Cond.static ({ cls := "java/lang/Math", name := "max", desc := "(II)I" } : Jvm.MethodName)) ∈ lw_all := lw_g (lw_at lw_m2 72 rfl) rfl
theorem q461 : (Jvm.Cond.code ({ cls := "java/lang/Math", name := "max", desc := "(II)I" } : Jvm.MethodName) prog_30_method_65_code (2 : Nat) (Option.some Jvm.ClassFile.FieldType.int)) ∈ lw_all := lw_g (lw_at lw_m2 73 rfl) rfl
theorem q478 : (Jvm.Cond.static ({ cls := "java/lang/Math", name := "min", desc := "(II)I" } : Jvm.MethodName)) ∈ lw_all := lw_g (lw_at lw_m2 90 rfl) rfl
theorem q479 : (Jvm.Cond.code ({ cls := "java/lang/Math", name := "min", desc := "(II)I" } : Jvm.MethodName) prog_30_method_69_code (2 : Nat) (Option.some Jvm.ClassFile.FieldType.int)) ∈ lw_all := lw_g (lw_at lw_m2 91 rfl) rfl
/-! java/util/Arrays -/
def RJ15 : String := "java/util/Arrays"
abbrev cJ15_copyOf : ByteArray := prog_54_method_121_code
def yJ15_copyOf : MethodName := ⟨RJ15, "copyOf", "([BI)[B"⟩
abbrev cJ15_copyOfRange : ByteArray := prog_54_method_132_code
def yJ15_copyOfRange : MethodName := ⟨RJ15, "copyOfRange", "([BII)[B"⟩
abbrev cJ15_copyOfRangeByte : ByteArray := prog_54_method_133_code
def yJ15_copyOfRangeByte : MethodName := ⟨RJ15, "copyOfRangeByte", "([BII)[B"⟩
abbrev cJ15_checkLength : ByteArray := prog_54_method_131_code
def yJ15_checkLength : MethodName := ⟨RJ15, "checkLength", "(II)V"⟩
abbrev cJ15_copyOf_2 : ByteArray := prog_54_method_119_code
def yJ15_copyOf_2 : MethodName := ⟨RJ15, "copyOf", "([Ljava/lang/Object;I)[Ljava/lang/Object;"⟩
abbrev cJ15_copyOf_3 : ByteArray := prog_54_method_120_code
def yJ15_copyOf_3 : MethodName := ⟨RJ15, "copyOf", "([Ljava/lang/Object;ILjava/lang/Class;)[Ljava/lang/Object;"⟩
abbrev cJ15_copyOf_4 : ByteArray := prog_54_method_124_code
def yJ15_copyOf_4 : MethodName := ⟨RJ15, "copyOf", "([JI)[J"⟩
abbrev cJ15_fill : ByteArray := prog_54_method_110_code
def yJ15_fill : MethodName := ⟨RJ15, "fill", "([BIIB)V"⟩
abbrev cJ15_rangeCheck : ByteArray := prog_54_method_30_code
def yJ15_rangeCheck : MethodName := ⟨RJ15, "rangeCheck", "(III)V"⟩
theorem q167 : (Jvm.Cond.initialized "java/util/Arrays") ∈ lw_all := lw_g (lw_at lw_m1 19 rfl) rfl
theorem q468 : (Jvm.Cond.static ({ cls := "java/util/Arrays", name := "copyOf", desc := "([BI)[B" } : Jvm.MethodName)) ∈ lw_all := lw_g (lw_at lw_m2 80 rfl) rfl
theorem q469 : (Jvm.Cond.code ({ cls := "java/util/Arrays", name := "copyOf", desc := "([BI)[B" } : Jvm.MethodName) prog_54_method_121_code (3 : Nat) (Option.some (Jvm.ClassFile.FieldType.array Jvm.ClassFile.FieldType.byte))) ∈ lw_all := lw_g (lw_at lw_m2 81 rfl) rfl
theorem q470 : (Jvm.Cond.methodLink "java/util/Arrays" (310 : Nat) ({ cls := "[B", name := "clone", desc := "()Ljava/lang/Object;" } : Jvm.MethodName)) ∈ lw_all := lw_g (lw_at lw_m2 82 rfl) rfl
theorem q476 : (Jvm.Cond.classLink "java/util/Arrays" (311 : Nat) "[B") ∈ lw_all := lw_g (lw_at lw_m2 88 rfl) rfl
theorem q477 : (Jvm.Cond.methodLink "java/util/Arrays" (304 : Nat) ({ cls := "java/lang/Math", name := "min", desc := "(II)I" } : Jvm.MethodName)) ∈ lw_all := lw_g (lw_at lw_m2 89 rfl) rfl
theorem q480 : (Jvm.Cond.methodLink "java/util/Arrays" (150 : Nat) ({ cls := "java/lang/System", name := "arraycopy", desc := "(Ljava/lang/Object;ILjava/lang/Object;II)V" } : Jvm.MethodName)) ∈ lw_all := lw_g (lw_at lw_m2 92 rfl) rfl
theorem q610 : (Jvm.Cond.static ({ cls := "java/util/Arrays", name := "copyOfRange", desc := "([BII)[B" } : Jvm.MethodName)) ∈ lw_all := lw_g (lw_at lw_m2 222 rfl) rfl
theorem q611 : (Jvm.Cond.code ({ cls := "java/util/Arrays", name := "copyOfRange", desc := "([BII)[B" } : Jvm.MethodName) prog_54_method_132_code (3 : Nat) (Option.some (Jvm.ClassFile.FieldType.array Jvm.ClassFile.FieldType.byte))) ∈ lw_all := lw_g (lw_at lw_m2 223 rfl) rfl
theorem q612 : (Jvm.Cond.methodLink "java/util/Arrays" (339 : Nat) ({ cls := "java/util/Arrays", name := "copyOfRangeByte", desc := "([BII)[B" } : Jvm.MethodName)) ∈ lw_all := lw_g (lw_at lw_m2 224 rfl) rfl
theorem q613 : (Jvm.Cond.static ({ cls := "java/util/Arrays", name := "copyOfRangeByte", desc := "([BII)[B" } : Jvm.MethodName)) ∈ lw_all := lw_g (lw_at lw_m2 225 rfl) rfl
theorem q614 : (Jvm.Cond.code ({ cls := "java/util/Arrays", name := "copyOfRangeByte", desc := "([BII)[B" } : Jvm.MethodName) prog_54_method_133_code (5 : Nat) (Option.some (Jvm.ClassFile.FieldType.array Jvm.ClassFile.FieldType.byte))) ∈ lw_all := lw_g (lw_at lw_m2 226 rfl) rfl
theorem q615 : (Jvm.Cond.methodLink "java/util/Arrays" (343 : Nat) ({ cls := "java/util/Arrays", name := "checkLength", desc := "(II)V" } : Jvm.MethodName)) ∈ lw_all := lw_g (lw_at lw_m2 227 rfl) rfl
theorem q616 : (Jvm.Cond.static ({ cls := "java/util/Arrays", name := "checkLength", desc := "(II)V" } : Jvm.MethodName)) ∈ lw_all := lw_g (lw_at lw_m2 228 rfl) rfl
theorem q617 : (Jvm.Cond.code ({ cls := "java/util/Arrays", name := "checkLength", desc := "(II)V" } : Jvm.MethodName) prog_54_method_131_code (2 : Nat) (Option.none : Option Jvm.ClassFile.FieldType)) ∈ lw_all := lw_g (lw_at lw_m2 229 rfl) rfl
theorem q618 : (Jvm.Cond.classLink "java/util/Arrays" (43 : Nat) "java/lang/IllegalArgumentException") ∈ lw_all := lw_g (lw_at lw_m2 230 rfl) rfl
theorem q619 : (Jvm.Cond.classLink "java/util/Arrays" (45 : Nat) "java/lang/StringBuilder") ∈ lw_all := lw_g (lw_at lw_m2 231 rfl) rfl
theorem q620 : (Jvm.Cond.methodLink "java/util/Arrays" (47 : Nat) ({ cls := "java/lang/StringBuilder", name := "<init>", desc := "()V" } : Jvm.MethodName)) ∈ lw_all := lw_g (lw_at lw_m2 232 rfl) rfl
theorem q621 : (Jvm.Cond.methodLink "java/util/Arrays" (54 : Nat) ({ cls := "java/lang/StringBuilder", name := "append", desc := "(I)Ljava/lang/StringBuilder;" } : Jvm.MethodName)) ∈ lw_all := lw_g (lw_at lw_m2 233 rfl) rfl
theorem q622 : (Jvm.Cond.stringRef "java/util/Arrays" (337 : Nat) " > ") ∈ lw_tbl := lw_at lw_m2 234 rfl
theorem q623 : (Jvm.Cond.methodLink "java/util/Arrays" (50 : Nat) ({ cls := "java/lang/StringBuilder", name := "append", desc := "(Ljava/lang/String;)Ljava/lang/StringBuilder;" } : Jvm.MethodName)) ∈ lw_all := lw_g (lw_at lw_m2 235 rfl) rfl
theorem q624 : (Jvm.Cond.methodLink "java/util/Arrays" (61 : Nat) ({ cls := "java/lang/StringBuilder", name := "toString", desc := "()Ljava/lang/String;" } : Jvm.MethodName)) ∈ lw_all := lw_g (lw_at lw_m2 236 rfl) rfl
theorem q625 : (Jvm.Cond.methodLink "java/util/Arrays" (65 : Nat) ({ cls := "java/lang/IllegalArgumentException", name := "<init>", desc := "(Ljava/lang/String;)V" } : Jvm.MethodName)) ∈ lw_all := lw_g (lw_at lw_m2 237 rfl) rfl
theorem q1188 : (Jvm.Cond.static ({ cls := "java/util/Arrays", name := "copyOf", desc := "([Ljava/lang/Object;I)[Ljava/lang/Object;" } : Jvm.MethodName)) ∈ lw_all := lw_g (lw_at lw_m5 80 rfl) rfl
theorem q1189 : (Jvm.Cond.code ({ cls := "java/util/Arrays", name := "copyOf", desc := "([Ljava/lang/Object;I)[Ljava/lang/Object;" } : Jvm.MethodName) prog_54_method_119_code (2 : Nat) (Option.some (Jvm.ClassFile.FieldType.array (Jvm.ClassFile.FieldType.object "java/lang/Object")))) ∈ lw_all := lw_g (lw_at lw_m5 81 rfl) rfl
theorem q1190 : (Jvm.Cond.methodLink "java/util/Arrays" (86 : Nat) ({ cls := "java/lang/Object", name := "getClass", desc := "()Ljava/lang/Class;" } : Jvm.MethodName)) ∈ lw_all := lw_g (lw_at lw_m5 82 rfl) rfl
theorem q1228 : (Jvm.Cond.methodLink "java/util/Arrays" (300 : Nat) ({ cls := "java/util/Arrays", name := "copyOf", desc := "([Ljava/lang/Object;ILjava/lang/Class;)[Ljava/lang/Object;" } : Jvm.MethodName)) ∈ lw_all := lw_g (lw_at lw_m5 120 rfl) rfl
theorem q1229 : (Jvm.Cond.static ({ cls := "java/util/Arrays", name := "copyOf", desc := "([Ljava/lang/Object;ILjava/lang/Class;)[Ljava/lang/Object;" } : Jvm.MethodName)) ∈ lw_all := lw_g (lw_at lw_m5 121 rfl) rfl
theorem q1230 : (Jvm.Cond.code ({ cls := "java/util/Arrays", name := "copyOf", desc := "([Ljava/lang/Object;ILjava/lang/Class;)[Ljava/lang/Object;" } : Jvm.MethodName) prog_54_method_120_code (4 : Nat) (Option.some (Jvm.ClassFile.FieldType.array (Jvm.ClassFile.FieldType.object "java/lang/Object")))) ∈ lw_all := lw_g (lw_at lw_m5 122 rfl) rfl
theorem q1231 : (Jvm.Cond.classLink "java/util/Arrays" (110 : Nat) "[Ljava/lang/Object;") ∈ lw_all := lw_g (lw_at lw_m5 123 rfl) rfl
theorem q1232 : (Jvm.Cond.classLink "java/util/Arrays" (2 : Nat) "java/lang/Object") ∈ lw_all := lw_g (lw_at lw_m5 124 rfl) rfl
theorem q2275 : (Jvm.Cond.static ({ cls := "java/util/Arrays", name := "copyOf", desc := "([JI)[J" } : Jvm.MethodName)) ∈ lw_all := lw_g (lw_at lw_m9 207 rfl) rfl
theorem q2276 : (Jvm.Cond.code ({ cls := "java/util/Arrays", name := "copyOf", desc := "([JI)[J" } : Jvm.MethodName) prog_54_method_124_code (3 : Nat) (Option.some (Jvm.ClassFile.FieldType.array Jvm.ClassFile.FieldType.long))) ∈ lw_all := lw_g (lw_at lw_m9 208 rfl) rfl
theorem q2277 : (Jvm.Cond.methodLink "java/util/Arrays" (319 : Nat) ({ cls := "[J", name := "clone", desc := "()Ljava/lang/Object;" } : Jvm.MethodName)) ∈ lw_all := lw_g (lw_at lw_m9 209 rfl) rfl
theorem q2281 : (Jvm.Cond.classLink "java/util/Arrays" (320 : Nat) "[J") ∈ lw_all := lw_g (lw_at lw_m9 213 rfl) rfl
theorem q2920 : (Jvm.Cond.static ({ cls := "java/util/Arrays", name := "fill", desc := "([BIIB)V" } : Jvm.MethodName)) ∈ lw_all := lw_g (lw_at lw_m12 132 rfl) rfl
theorem q2921 : (Jvm.Cond.code ({ cls := "java/util/Arrays", name := "fill", desc := "([BIIB)V" } : Jvm.MethodName) prog_54_method_110_code (5 : Nat) (Option.none : Option Jvm.ClassFile.FieldType)) ∈ lw_all := lw_g (lw_at lw_m12 133 rfl) rfl
theorem q2922 : (Jvm.Cond.methodLink "java/util/Arrays" (13 : Nat) ({ cls := "java/util/Arrays", name := "rangeCheck", desc := "(III)V" } : Jvm.MethodName)) ∈ lw_all := lw_g (lw_at lw_m12 134 rfl) rfl
theorem q2923 : (Jvm.Cond.static ({ cls := "java/util/Arrays", name := "rangeCheck", desc := "(III)V" } : Jvm.MethodName)) ∈ lw_all := lw_g (lw_at lw_m12 135 rfl) rfl
theorem q2924 : (Jvm.Cond.code ({ cls := "java/util/Arrays", name := "rangeCheck", desc := "(III)V" } : Jvm.MethodName) prog_54_method_30_code (3 : Nat) (Option.none : Option Jvm.ClassFile.FieldType)) ∈ lw_all := lw_g (lw_at lw_m12 136 rfl) rfl
theorem q2925 : (Jvm.Cond.stringRef "java/util/Arrays" (48 : Nat) "fromIndex(") ∈ lw_tbl := lw_at lw_m12 137 rfl
theorem q2926 : (Jvm.Cond.stringRef "java/util/Arrays" (57 : Nat) ") > toIndex(") ∈ lw_tbl := lw_at lw_m12 138 rfl
theorem q2927 : (Jvm.Cond.stringRef "java/util/Arrays" (59 : Nat) ")") ∈ lw_tbl := lw_at lw_m12 139 rfl
theorem q2928 : (Jvm.Cond.classLink "java/util/Arrays" (68 : Nat) "java/lang/ArrayIndexOutOfBoundsException") ∈ lw_all := lw_g (lw_at lw_m12 140 rfl) rfl
theorem q2929 : (Jvm.Cond.methodLink "java/util/Arrays" (70 : Nat) ({ cls := "java/lang/ArrayIndexOutOfBoundsException", name := "<init>", desc := "(I)V" } : Jvm.MethodName)) ∈ lw_all := lw_g (lw_at lw_m12 141 rfl) rfl
/-! jdk/internal/util/Preconditions -/
def RJ16 : String := "jdk/internal/util/Preconditions"
abbrev cJ16_checkFromToIndex : ByteArray := prog_81_method_12_code
def yJ16_checkFromToIndex : MethodName := ⟨RJ16, "checkFromToIndex", "(IIILjava/util/function/BiFunction;)I"⟩
abbrev cJ16_checkFromIndexSize : ByteArray := prog_81_method_13_code
def yJ16_checkFromIndexSize : MethodName := ⟨RJ16, "checkFromIndexSize", "(IIILjava/util/function/BiFunction;)I"⟩
abbrev cJ16_checkIndex : ByteArray := prog_81_method_11_code
def yJ16_checkIndex : MethodName := ⟨RJ16, "checkIndex", "(IILjava/util/function/BiFunction;)I"⟩
theorem q169 : (Jvm.Cond.initialized "jdk/internal/util/Preconditions") ∈ lw_all := lw_g (lw_at lw_m1 21 rfl) rfl
theorem q501 : (Jvm.Cond.laysStatic "jdk/internal/util/Preconditions" "SIOOBE_FORMATTER" "Ljava/util/function/BiFunction;") ∈ lw_tbl := lw_at lw_m2 113 rfl
theorem q503 : (Jvm.Cond.static ({ cls := "jdk/internal/util/Preconditions", name := "checkFromToIndex", desc := "(IIILjava/util/function/BiFunction;)I" } : Jvm.MethodName)) ∈ lw_all := lw_g (lw_at lw_m2 115 rfl) rfl
theorem q504 : (Jvm.Cond.code ({ cls := "jdk/internal/util/Preconditions", name := "checkFromToIndex", desc := "(IIILjava/util/function/BiFunction;)I" } : Jvm.MethodName) prog_81_method_12_code (4 : Nat) (Option.some Jvm.ClassFile.FieldType.int)) ∈ lw_all := lw_g (lw_at lw_m2 116 rfl) rfl
theorem q549 : (Jvm.Cond.static ({ cls := "jdk/internal/util/Preconditions", name := "checkFromIndexSize", desc := "(IIILjava/util/function/BiFunction;)I" } : Jvm.MethodName)) ∈ lw_all := lw_g (lw_at lw_m2 161 rfl) rfl
theorem q550 : (Jvm.Cond.code ({ cls := "jdk/internal/util/Preconditions", name := "checkFromIndexSize", desc := "(IIILjava/util/function/BiFunction;)I" } : Jvm.MethodName) prog_81_method_13_code (4 : Nat) (Option.some Jvm.ClassFile.FieldType.int)) ∈ lw_all := lw_g (lw_at lw_m2 162 rfl) rfl
theorem q1015 : (Jvm.Cond.static ({ cls := "jdk/internal/util/Preconditions", name := "checkIndex", desc := "(IILjava/util/function/BiFunction;)I" } : Jvm.MethodName)) ∈ lw_all := lw_g (lw_at lw_m4 147 rfl) rfl
theorem q1016 : (Jvm.Cond.code ({ cls := "jdk/internal/util/Preconditions", name := "checkIndex", desc := "(IILjava/util/function/BiFunction;)I" } : Jvm.MethodName) prog_81_method_11_code (3 : Nat) (Option.some Jvm.ClassFile.FieldType.int)) ∈ lw_all := lw_g (lw_at lw_m4 148 rfl) rfl
/-! java/lang/StringLatin1 -/
def RJ17 : String := "java/lang/StringLatin1"
abbrev cJ17_inflate : ByteArray := prog_37_method_50_code
def yJ17_inflate : MethodName := ⟨RJ17, "inflate", "([BI[BII)V"⟩
abbrev cJ17_canEncode : ByteArray := prog_37_method_3_code
def yJ17_canEncode : MethodName := ⟨RJ17, "canEncode", "(C)Z"⟩
abbrev cJ17_equals : ByteArray := prog_37_method_13_code
def yJ17_equals : MethodName := ⟨RJ17, "equals", "([B[B)Z"⟩
abbrev cJ17_hashCode : ByteArray := prog_37_method_21_code
def yJ17_hashCode : MethodName := ⟨RJ17, "hashCode", "([B)I"⟩
abbrev cJ17_charAt : ByteArray := prog_37_method_2_code
def yJ17_charAt : MethodName := ⟨RJ17, "charAt", "([BI)C"⟩
abbrev cJ17_compareTo : ByteArray := prog_37_method_14_code
def yJ17_compareTo : MethodName := ⟨RJ17, "compareTo", "([B[B)I"⟩
abbrev cJ17_compareTo_2 : ByteArray := prog_37_method_15_code
def yJ17_compareTo_2 : MethodName := ⟨RJ17, "compareTo", "([B[BII)I"⟩
abbrev cJ17_getChar : ByteArray := prog_37_method_44_code
def yJ17_getChar : MethodName := ⟨RJ17, "getChar", "([BI)C"⟩
abbrev cJ17_compareToUTF16 : ByteArray := prog_37_method_16_code
def yJ17_compareToUTF16 : MethodName := ⟨RJ17, "compareToUTF16", "([B[B)I"⟩
abbrev cJ17_length : ByteArray := prog_37_method_5_code
def yJ17_length : MethodName := ⟨RJ17, "length", "([B)I"⟩
abbrev cJ17_compareToUTF16Values : ByteArray := prog_37_method_18_code
def yJ17_compareToUTF16Values : MethodName := ⟨RJ17, "compareToUTF16Values", "([B[BII)I"⟩
abbrev cJ17_compareToUTF16_2 : ByteArray := prog_37_method_17_code
def yJ17_compareToUTF16_2 : MethodName := ⟨RJ17, "compareToUTF16", "([B[BII)I"⟩
abbrev cJ17_fillNull : ByteArray := prog_37_method_48_code
def yJ17_fillNull : MethodName := ⟨RJ17, "fillNull", "([BII)V"⟩
theorem q170 : (Jvm.Cond.initialized "java/lang/StringLatin1") ∈ lw_all := lw_g (lw_at lw_m1 22 rfl) rfl
theorem q537 : (Jvm.Cond.static ({ cls := "java/lang/StringLatin1", name := "inflate", desc := "([BI[BII)V" } : Jvm.MethodName)) ∈ lw_all := lw_g (lw_at lw_m2 149 rfl) rfl
theorem q538 : (Jvm.Cond.code ({ cls := "java/lang/StringLatin1", name := "inflate", desc := "([BI[BII)V" } : Jvm.MethodName) prog_37_method_50_code (5 : Nat) (Option.none : Option Jvm.ClassFile.FieldType)) ∈ lw_all := lw_g (lw_at lw_m2 150 rfl) rfl
theorem q539 : (Jvm.Cond.methodLink "java/lang/StringLatin1" (240 : Nat) ({ cls := "java/lang/StringUTF16", name := "inflate", desc := "([BI[BII)V" } : Jvm.MethodName)) ∈ lw_all := lw_g (lw_at lw_m2 151 rfl) rfl
theorem q1003 : (Jvm.Cond.static ({ cls := "java/lang/StringLatin1", name := "canEncode", desc := "(C)Z" } : Jvm.MethodName)) ∈ lw_all := lw_g (lw_at lw_m4 135 rfl) rfl
theorem q1004 : (Jvm.Cond.code ({ cls := "java/lang/StringLatin1", name := "canEncode", desc := "(C)Z" } : Jvm.MethodName) prog_37_method_3_code (1 : Nat) (Option.some Jvm.ClassFile.FieldType.boolean)) ∈ lw_all := lw_g (lw_at lw_m4 136 rfl) rfl
theorem q1025 : (Jvm.Cond.static ({ cls := "java/lang/StringLatin1", name := "equals", desc := "([B[B)Z" } : Jvm.MethodName)) ∈ lw_all := lw_g (lw_at lw_m4 157 rfl) rfl
theorem q1026 : (Jvm.Cond.code ({ cls := "java/lang/StringLatin1", name := "equals", desc := "([B[B)Z" } : Jvm.MethodName) prog_37_method_13_code (3 : Nat) (Option.some Jvm.ClassFile.FieldType.boolean)) ∈ lw_all := lw_g (lw_at lw_m4 158 rfl) rfl
theorem q1036 : (Jvm.Cond.static ({ cls := "java/lang/StringLatin1", name := "hashCode", desc := "([B)I" } : Jvm.MethodName)) ∈ lw_all := lw_g (lw_at lw_m4 168 rfl) rfl
theorem q1037 : (Jvm.Cond.code ({ cls := "java/lang/StringLatin1", name := "hashCode", desc := "([B)I" } : Jvm.MethodName) prog_37_method_21_code (1 : Nat) (Option.some Jvm.ClassFile.FieldType.int)) ∈ lw_all := lw_g (lw_at lw_m4 169 rfl) rfl
theorem q1038 : (Jvm.Cond.methodLink "java/lang/StringLatin1" (84 : Nat) ({ cls := "jdk/internal/util/ArraysSupport", name := "vectorizedHashCode", desc := "(Ljava/lang/Object;IIII)I" } : Jvm.MethodName)) ∈ lw_all := lw_g (lw_at lw_m4 170 rfl) rfl
theorem q1124 : (Jvm.Cond.static ({ cls := "java/lang/StringLatin1", name := "charAt", desc := "([BI)C" } : Jvm.MethodName)) ∈ lw_all := lw_g (lw_at lw_m5 16 rfl) rfl
theorem q1125 : (Jvm.Cond.code ({ cls := "java/lang/StringLatin1", name := "charAt", desc := "([BI)C" } : Jvm.MethodName) prog_37_method_2_code (2 : Nat) (Option.some Jvm.ClassFile.FieldType.char)) ∈ lw_all := lw_g (lw_at lw_m5 17 rfl) rfl
theorem q1126 : (Jvm.Cond.methodLink "java/lang/StringLatin1" (9 : Nat) ({ cls := "java/lang/String", name := "checkIndex", desc := "(II)V" } : Jvm.MethodName)) ∈ lw_all := lw_g (lw_at lw_m5 18 rfl) rfl
theorem q1775 : (Jvm.Cond.static ({ cls := "java/lang/StringLatin1", name := "compareTo", desc := "([B[B)I" } : Jvm.MethodName)) ∈ lw_all := lw_g (lw_at lw_m7 187 rfl) rfl
theorem q1776 : (Jvm.Cond.code ({ cls := "java/lang/StringLatin1", name := "compareTo", desc := "([B[B)I" } : Jvm.MethodName) prog_37_method_14_code (4 : Nat) (Option.some Jvm.ClassFile.FieldType.int)) ∈ lw_all := lw_g (lw_at lw_m7 188 rfl) rfl
theorem q1777 : (Jvm.Cond.methodLink "java/lang/StringLatin1" (34 : Nat) ({ cls := "java/lang/StringLatin1", name := "compareTo", desc := "([B[BII)I" } : Jvm.MethodName)) ∈ lw_all := lw_g (lw_at lw_m7 189 rfl) rfl
theorem q1778 : (Jvm.Cond.static ({ cls := "java/lang/StringLatin1", name := "compareTo", desc := "([B[BII)I" } : Jvm.MethodName)) ∈ lw_all := lw_g (lw_at lw_m7 190 rfl) rfl
theorem q1779 : (Jvm.Cond.code ({ cls := "java/lang/StringLatin1", name := "compareTo", desc := "([B[BII)I" } : Jvm.MethodName) prog_37_method_15_code (6 : Nat) (Option.some Jvm.ClassFile.FieldType.int)) ∈ lw_all := lw_g (lw_at lw_m7 191 rfl) rfl
theorem q1780 : (Jvm.Cond.methodLink "java/lang/StringLatin1" (38 : Nat) ({ cls := "java/lang/Math", name := "min", desc := "(II)I" } : Jvm.MethodName)) ∈ lw_all := lw_g (lw_at lw_m7 192 rfl) rfl
theorem q1781 : (Jvm.Cond.methodLink "java/lang/StringLatin1" (44 : Nat) ({ cls := "jdk/internal/util/ArraysSupport", name := "mismatch", desc := "([B[BI)I" } : Jvm.MethodName)) ∈ lw_all := lw_g (lw_at lw_m7 193 rfl) rfl
theorem q1885 : (Jvm.Cond.methodLink "java/lang/StringLatin1" (50 : Nat) ({ cls := "java/lang/StringLatin1", name := "getChar", desc := "([BI)C" } : Jvm.MethodName)) ∈ lw_all := lw_g (lw_at lw_m8 57 rfl) rfl
theorem q1886 : (Jvm.Cond.static ({ cls := "java/lang/StringLatin1", name := "getChar", desc := "([BI)C" } : Jvm.MethodName)) ∈ lw_all := lw_g (lw_at lw_m8 58 rfl) rfl
theorem q1887 : (Jvm.Cond.code ({ cls := "java/lang/StringLatin1", name := "getChar", desc := "([BI)C" } : Jvm.MethodName) prog_37_method_44_code (2 : Nat) (Option.some Jvm.ClassFile.FieldType.char)) ∈ lw_all := lw_g (lw_at lw_m8 59 rfl) rfl
theorem q1896 : (Jvm.Cond.static ({ cls := "java/lang/StringLatin1", name := "compareToUTF16", desc := "([B[B)I" } : Jvm.MethodName)) ∈ lw_all := lw_g (lw_at lw_m8 68 rfl) rfl
theorem q1897 : (Jvm.Cond.code ({ cls := "java/lang/StringLatin1", name := "compareToUTF16", desc := "([B[B)I" } : Jvm.MethodName) prog_37_method_16_code (4 : Nat) (Option.some Jvm.ClassFile.FieldType.int)) ∈ lw_all := lw_g (lw_at lw_m8 69 rfl) rfl
theorem q1898 : (Jvm.Cond.methodLink "java/lang/StringLatin1" (54 : Nat) ({ cls := "java/lang/StringLatin1", name := "length", desc := "([B)I" } : Jvm.MethodName)) ∈ lw_all := lw_g (lw_at lw_m8 70 rfl) rfl
theorem q1899 : (Jvm.Cond.static ({ cls := "java/lang/StringLatin1", name := "length", desc := "([B)I" } : Jvm.MethodName)) ∈ lw_all := lw_g (lw_at lw_m8 71 rfl) rfl
theorem q1900 : (Jvm.Cond.code ({ cls := "java/lang/StringLatin1", name := "length", desc := "([B)I" } : Jvm.MethodName) prog_37_method_5_code (1 : Nat) (Option.some Jvm.ClassFile.FieldType.int)) ∈ lw_all := lw_g (lw_at lw_m8 72 rfl) rfl
theorem q1901 : (Jvm.Cond.methodLink "java/lang/StringLatin1" (58 : Nat) ({ cls := "java/lang/StringUTF16", name := "length", desc := "([B)I" } : Jvm.MethodName)) ∈ lw_all := lw_g (lw_at lw_m8 73 rfl) rfl
theorem q1902 : (Jvm.Cond.methodLink "java/lang/StringLatin1" (59 : Nat) ({ cls := "java/lang/StringLatin1", name := "compareToUTF16Values", desc := "([B[BII)I" } : Jvm.MethodName)) ∈ lw_all := lw_g (lw_at lw_m8 74 rfl) rfl
theorem q1903 : (Jvm.Cond.static ({ cls := "java/lang/StringLatin1", name := "compareToUTF16Values", desc := "([B[BII)I" } : Jvm.MethodName)) ∈ lw_all := lw_g (lw_at lw_m8 75 rfl) rfl
theorem q1904 : (Jvm.Cond.code ({ cls := "java/lang/StringLatin1", name := "compareToUTF16Values", desc := "([B[BII)I" } : Jvm.MethodName) prog_37_method_18_code (8 : Nat) (Option.some Jvm.ClassFile.FieldType.int)) ∈ lw_all := lw_g (lw_at lw_m8 76 rfl) rfl
theorem q1905 : (Jvm.Cond.methodLink "java/lang/StringLatin1" (65 : Nat) ({ cls := "java/lang/StringUTF16", name := "getChar", desc := "([BI)C" } : Jvm.MethodName)) ∈ lw_all := lw_g (lw_at lw_m8 77 rfl) rfl
theorem q1935 : (Jvm.Cond.static ({ cls := "java/lang/StringLatin1", name := "compareToUTF16", desc := "([B[BII)I" } : Jvm.MethodName)) ∈ lw_all := lw_g (lw_at lw_m8 107 rfl) rfl
theorem q1936 : (Jvm.Cond.code ({ cls := "java/lang/StringLatin1", name := "compareToUTF16", desc := "([B[BII)I" } : Jvm.MethodName) prog_37_method_17_code (4 : Nat) (Option.some Jvm.ClassFile.FieldType.int)) ∈ lw_all := lw_g (lw_at lw_m8 108 rfl) rfl
theorem q1937 : (Jvm.Cond.methodLink "java/lang/StringLatin1" (62 : Nat) ({ cls := "java/lang/String", name := "checkOffset", desc := "(II)V" } : Jvm.MethodName)) ∈ lw_all := lw_g (lw_at lw_m8 109 rfl) rfl
theorem q2917 : (Jvm.Cond.static ({ cls := "java/lang/StringLatin1", name := "fillNull", desc := "([BII)V" } : Jvm.MethodName)) ∈ lw_all := lw_g (lw_at lw_m12 129 rfl) rfl
theorem q2918 : (Jvm.Cond.code ({ cls := "java/lang/StringLatin1", name := "fillNull", desc := "([BII)V" } : Jvm.MethodName) prog_37_method_48_code (3 : Nat) (Option.none : Option Jvm.ClassFile.FieldType)) ∈ lw_all := lw_g (lw_at lw_m12 130 rfl) rfl
theorem q2919 : (Jvm.Cond.methodLink "java/lang/StringLatin1" (236 : Nat) ({ cls := "java/util/Arrays", name := "fill", desc := "([BIIB)V" } : Jvm.MethodName)) ∈ lw_all := lw_g (lw_at lw_m12 131 rfl) rfl
/-! java/lang/Number -/
def RJ18 : String := "java/lang/Number"
abbrev cJ18_init : ByteArray := prog_31_method_1_code
def yJ18_init : MethodName := ⟨RJ18, "<init>", "()V"⟩
theorem q171 : (Jvm.Cond.initialized "java/lang/Number") ∈ lw_all := lw_g (lw_at lw_m1 23 rfl) rfl
theorem q1720 : (Jvm.Cond.instanceMethod ({ cls := "java/lang/Number", name := "<init>", desc := "()V" } : Jvm.MethodName)) ∈ lw_all := lw_g (lw_at lw_m7 132 rfl) rfl
theorem q1721 : (Jvm.Cond.code ({ cls := "java/lang/Number", name := "<init>", desc := "()V" } : Jvm.MethodName) prog_31_method_1_code (1 : Nat) (Option.none : Option Jvm.ClassFile.FieldType)) ∈ lw_all := lw_g (lw_at lw_m7 133 rfl) rfl
theorem q1722 : (Jvm.Cond.methodLink "java/lang/Number" (1 : Nat) ({ cls := "java/lang/Object", name := "<init>", desc := "()V" } : Jvm.MethodName)) ∈ lw_all := lw_g (lw_at lw_m7 134 rfl) rfl
/-! java/lang/Integer -/
def RJ19 : String := "java/lang/Integer"
def TJ19 : u_T := fun k => match k with
  | _ => ("java/lang/Integer", "value", "I", true)
def tyJ19 : Nat → FieldType := fun k => match k with
  | _ => .int
abbrev wsJ190 : List Cond := u_ws RJ19 TJ19 1
theorem nmJ19 : ∀ a, a < 1 → ∀ b, b < 1 → a ≠ b → (TJ19 a).2.1 ≠ (TJ19 b).2.1 := by decide +kernel
theorem tyJ19_ok : ∀ k, k < 1 → parseFieldDescriptor (TJ19 k).2.2.1 = some (tyJ19 k) := by decide +kernel
abbrev cJ19_stringSize : ByteArray := prog_26_method_13_code
def yJ19_stringSize : MethodName := ⟨RJ19, "stringSize", "(I)I"⟩
abbrev cJ19_getChars : ByteArray := prog_26_method_12_code
def yJ19_getChars : MethodName := ⟨RJ19, "getChars", "(II[B)I"⟩
abbrev cJ19_valueOf : ByteArray := prog_26_method_22_code
def yJ19_valueOf : MethodName := ⟨RJ19, "valueOf", "(I)Ljava/lang/Integer;"⟩
abbrev cJ19_init : ByteArray := prog_26_method_23_code
def yJ19_init : MethodName := ⟨RJ19, "<init>", "(I)V"⟩
abbrev cJ19_compareTo : ByteArray := prog_26_method_63_code
def yJ19_compareTo : MethodName := ⟨RJ19, "compareTo", "(Ljava/lang/Object;)I"⟩
abbrev cJ19_compareTo_2 : ByteArray := prog_26_method_39_code
def yJ19_compareTo_2 : MethodName := ⟨RJ19, "compareTo", "(Ljava/lang/Integer;)I"⟩
abbrev cJ19_compare : ByteArray := prog_26_method_40_code
def yJ19_compare : MethodName := ⟨RJ19, "compare", "(II)I"⟩
abbrev cJ19_numberOfLeadingZeros : ByteArray := prog_26_method_47_code
def yJ19_numberOfLeadingZeros : MethodName := ⟨RJ19, "numberOfLeadingZeros", "(I)I"⟩
abbrev cJ19_numberOfTrailingZeros : ByteArray := prog_26_method_48_code
def yJ19_numberOfTrailingZeros : MethodName := ⟨RJ19, "numberOfTrailingZeros", "(I)I"⟩
abbrev cJ19_intValue : ByteArray := prog_26_method_27_code
def yJ19_intValue : MethodName := ⟨RJ19, "intValue", "()I"⟩
abbrev cJ19_bitCount : ByteArray := prog_26_method_49_code
def yJ19_bitCount : MethodName := ⟨RJ19, "bitCount", "(I)I"⟩
theorem q172 : (Jvm.Cond.initialized "java/lang/Integer") ∈ lw_all := lw_g (lw_at lw_m1 24 rfl) rfl
theorem q565 : (Jvm.Cond.static ({ cls := "java/lang/Integer", name := "stringSize", desc := "(I)I" } : Jvm.MethodName)) ∈ lw_all := lw_g (lw_at lw_m2 177 rfl) rfl
theorem q566 : (Jvm.Cond.code ({ cls := "java/lang/Integer", name := "stringSize", desc := "(I)I" } : Jvm.MethodName) prog_26_method_13_code (4 : Nat) (Option.some Jvm.ClassFile.FieldType.int)) ∈ lw_all := lw_g (lw_at lw_m2 178 rfl) rfl
theorem q568 : (Jvm.Cond.static ({ cls := "java/lang/Integer", name := "getChars", desc := "(II[B)I" } : Jvm.MethodName)) ∈ lw_all := lw_g (lw_at lw_m2 180 rfl) rfl
theorem q569 : (Jvm.Cond.code ({ cls := "java/lang/Integer", name := "getChars", desc := "(II[B)I" } : Jvm.MethodName) prog_26_method_12_code (7 : Nat) (Option.some Jvm.ClassFile.FieldType.int)) ∈ lw_all := lw_g (lw_at lw_m2 181 rfl) rfl
theorem q570 : (Jvm.Cond.fieldLink "java/lang/Integer" (83 : Nat) "java/lang/Integer" "DigitOnes" "[B") ∈ lw_all := lw_g (lw_at lw_m2 182 rfl) rfl
theorem q571 : (Jvm.Cond.laysStatic "java/lang/Integer" "DigitOnes" "[B") ∈ lw_tbl := lw_at lw_m2 183 rfl
theorem q572 : (Jvm.Cond.fieldLink "java/lang/Integer" (87 : Nat) "java/lang/Integer" "DigitTens" "[B") ∈ lw_all := lw_g (lw_at lw_m2 184 rfl) rfl
theorem q573 : (Jvm.Cond.laysStatic "java/lang/Integer" "DigitTens" "[B") ∈ lw_tbl := lw_at lw_m2 185 rfl
theorem q1209 : (Jvm.Cond.selects "java/lang/Integer" ({ cls := "java/lang/Object", name := "getClass", desc := "()Ljava/lang/Class;" } : Jvm.MethodName) ({ cls := "java/lang/Object", name := "getClass", desc := "()Ljava/lang/Class;" } : Jvm.MethodName)) ∈ lw_all := lw_g (lw_at lw_m5 101 rfl) rfl
theorem q1708 : (Jvm.Cond.static ({ cls := "java/lang/Integer", name := "valueOf", desc := "(I)Ljava/lang/Integer;" } : Jvm.MethodName)) ∈ lw_all := lw_g (lw_at lw_m7 120 rfl) rfl
theorem q1709 : (Jvm.Cond.code ({ cls := "java/lang/Integer", name := "valueOf", desc := "(I)Ljava/lang/Integer;" } : Jvm.MethodName) prog_26_method_22_code (1 : Nat) (Option.some (Jvm.ClassFile.FieldType.object "java/lang/Integer"))) ∈ lw_all := lw_g (lw_at lw_m7 121 rfl) rfl
theorem q1710 : (Jvm.Cond.fieldLink "java/lang/Integer" (191 : Nat) "java/lang/Integer$IntegerCache" "high" "I") ∈ lw_all := lw_g (lw_at lw_m7 122 rfl) rfl
theorem q1712 : (Jvm.Cond.fieldLink "java/lang/Integer" (195 : Nat) "java/lang/Integer$IntegerCache" "cache" "[Ljava/lang/Integer;") ∈ lw_all := lw_g (lw_at lw_m7 124 rfl) rfl
theorem q1714 : (Jvm.Cond.classLink "java/lang/Integer" (1 : Nat) "java/lang/Integer") ∈ lw_all := lw_g (lw_at lw_m7 126 rfl) rfl
theorem q1715 : (Jvm.Cond.instantiable "java/lang/Integer" (1 : Nat)) ∈ lw_all := lw_g (lw_at lw_m7 127 rfl) rfl
theorem q1716 : (Jvm.Cond.methodLink "java/lang/Integer" (199 : Nat) ({ cls := "java/lang/Integer", name := "<init>", desc := "(I)V" } : Jvm.MethodName)) ∈ lw_all := lw_g (lw_at lw_m7 128 rfl) rfl
theorem q1717 : (Jvm.Cond.instanceMethod ({ cls := "java/lang/Integer", name := "<init>", desc := "(I)V" } : Jvm.MethodName)) ∈ lw_all := lw_g (lw_at lw_m7 129 rfl) rfl
theorem q1718 : (Jvm.Cond.code ({ cls := "java/lang/Integer", name := "<init>", desc := "(I)V" } : Jvm.MethodName) prog_26_method_23_code (2 : Nat) (Option.none : Option Jvm.ClassFile.FieldType)) ∈ lw_all := lw_g (lw_at lw_m7 130 rfl) rfl
theorem q1719 : (Jvm.Cond.methodLink "java/lang/Integer" (202 : Nat) ({ cls := "java/lang/Number", name := "<init>", desc := "()V" } : Jvm.MethodName)) ∈ lw_all := lw_g (lw_at lw_m7 131 rfl) rfl
theorem q1723 : (Jvm.Cond.fieldLink "java/lang/Integer" (205 : Nat) "java/lang/Integer" "value" "I") ∈ lw_all := lw_g (lw_at lw_m7 135 rfl) rfl
theorem q1724 : (Jvm.Cond.laysFinal "java/lang/Integer" "java/lang/Integer" "value" "I") ∈ lw_all := lw_g (lw_at lw_m7 136 rfl) rfl
theorem q1725 : (Jvm.Cond.soleField "java/lang/Integer" "value") ∈ lw_all := lw_g (lw_at lw_m7 137 rfl) rfl
theorem q1726 : (Jvm.Cond.superclass "java/lang/Integer" "java/lang/Number") ∈ lw_all := lw_g (lw_at lw_m7 138 rfl) rfl
theorem q1751 : (Jvm.Cond.castable "java/lang/Integer" "java/lang/Comparable") ∈ lw_tbl := lw_at lw_m7 163 rfl
theorem q1752 : (Jvm.Cond.selects "java/lang/Integer" ({ cls := "java/lang/Comparable", name := "compareTo", desc := "(Ljava/lang/Object;)I" } : Jvm.MethodName) ({ cls := "java/lang/Integer", name := "compareTo", desc := "(Ljava/lang/Object;)I" } : Jvm.MethodName)) ∈ lw_all := lw_g (lw_at lw_m7 164 rfl) rfl
theorem q1753 : (Jvm.Cond.unhidden "java/lang/Integer" "compareTo" "(Ljava/lang/Object;)I") ∈ lw_tbl := lw_at lw_m7 165 rfl
theorem q1754 : (Jvm.Cond.instanceMethod ({ cls := "java/lang/Integer", name := "compareTo", desc := "(Ljava/lang/Object;)I" } : Jvm.MethodName)) ∈ lw_all := lw_g (lw_at lw_m7 166 rfl) rfl
theorem q1755 : (Jvm.Cond.publicMethod ({ cls := "java/lang/Integer", name := "compareTo", desc := "(Ljava/lang/Object;)I" } : Jvm.MethodName)) ∈ lw_tbl := lw_at lw_m7 167 rfl
theorem q1756 : (Jvm.Cond.code ({ cls := "java/lang/Integer", name := "compareTo", desc := "(Ljava/lang/Object;)I" } : Jvm.MethodName) prog_26_method_63_code (2 : Nat) (Option.some Jvm.ClassFile.FieldType.int)) ∈ lw_all := lw_g (lw_at lw_m7 168 rfl) rfl
theorem q1757 : (Jvm.Cond.methodLink "java/lang/Integer" (284 : Nat) ({ cls := "java/lang/Integer", name := "compareTo", desc := "(Ljava/lang/Integer;)I" } : Jvm.MethodName)) ∈ lw_all := lw_g (lw_at lw_m7 169 rfl) rfl
theorem q1758 : (Jvm.Cond.instanceMethod ({ cls := "java/lang/Integer", name := "compareTo", desc := "(Ljava/lang/Integer;)I" } : Jvm.MethodName)) ∈ lw_all := lw_g (lw_at lw_m7 170 rfl) rfl
theorem q1759 : (Jvm.Cond.selects "java/lang/Integer" ({ cls := "java/lang/Integer", name := "compareTo", desc := "(Ljava/lang/Integer;)I" } : Jvm.MethodName) ({ cls := "java/lang/Integer", name := "compareTo", desc := "(Ljava/lang/Integer;)I" } : Jvm.MethodName)) ∈ lw_all := lw_g (lw_at lw_m7 171 rfl) rfl
theorem q1760 : (Jvm.Cond.code ({ cls := "java/lang/Integer", name := "compareTo", desc := "(Ljava/lang/Integer;)I" } : Jvm.MethodName) prog_26_method_39_code (2 : Nat) (Option.some Jvm.ClassFile.FieldType.int)) ∈ lw_all := lw_g (lw_at lw_m7 172 rfl) rfl
theorem q1761 : (Jvm.Cond.methodLink "java/lang/Integer" (259 : Nat) ({ cls := "java/lang/Integer", name := "compare", desc := "(II)I" } : Jvm.MethodName)) ∈ lw_all := lw_g (lw_at lw_m7 173 rfl) rfl
theorem q1762 : (Jvm.Cond.static ({ cls := "java/lang/Integer", name := "compare", desc := "(II)I" } : Jvm.MethodName)) ∈ lw_all := lw_g (lw_at lw_m7 174 rfl) rfl
theorem q1763 : (Jvm.Cond.code ({ cls := "java/lang/Integer", name := "compare", desc := "(II)I" } : Jvm.MethodName) prog_26_method_40_code (2 : Nat) (Option.some Jvm.ClassFile.FieldType.int)) ∈ lw_all := lw_g (lw_at lw_m7 175 rfl) rfl
theorem q1853 : (Jvm.Cond.static ({ cls := "java/lang/Integer", name := "numberOfLeadingZeros", desc := "(I)I" } : Jvm.MethodName)) ∈ lw_all := lw_g (lw_at lw_m8 25 rfl) rfl
theorem q1854 : (Jvm.Cond.code ({ cls := "java/lang/Integer", name := "numberOfLeadingZeros", desc := "(I)I" } : Jvm.MethodName) prog_26_method_47_code (2 : Nat) (Option.some Jvm.ClassFile.FieldType.int)) ∈ lw_all := lw_g (lw_at lw_m8 26 rfl) rfl
theorem q1855 : (Jvm.Cond.constant "java/lang/Integer" (264 : Nat) (65536 : Int32)) ∈ lw_all := lw_g (lw_at lw_m8 27 rfl) rfl
theorem q1862 : (Jvm.Cond.static ({ cls := "java/lang/Integer", name := "numberOfTrailingZeros", desc := "(I)I" } : Jvm.MethodName)) ∈ lw_all := lw_g (lw_at lw_m8 34 rfl) rfl
theorem q1863 : (Jvm.Cond.code ({ cls := "java/lang/Integer", name := "numberOfTrailingZeros", desc := "(I)I" } : Jvm.MethodName) prog_26_method_48_code (2 : Nat) (Option.some Jvm.ClassFile.FieldType.int)) ∈ lw_all := lw_g (lw_at lw_m8 35 rfl) rfl
theorem q1944 : (Jvm.Cond.instanceMethod ({ cls := "java/lang/Integer", name := "intValue", desc := "()I" } : Jvm.MethodName)) ∈ lw_all := lw_g (lw_at lw_m8 116 rfl) rfl
theorem q1945 : (Jvm.Cond.selects "java/lang/Integer" ({ cls := "java/lang/Integer", name := "intValue", desc := "()I" } : Jvm.MethodName) ({ cls := "java/lang/Integer", name := "intValue", desc := "()I" } : Jvm.MethodName)) ∈ lw_all := lw_g (lw_at lw_m8 117 rfl) rfl
theorem q1946 : (Jvm.Cond.code ({ cls := "java/lang/Integer", name := "intValue", desc := "()I" } : Jvm.MethodName) prog_26_method_27_code (1 : Nat) (Option.some Jvm.ClassFile.FieldType.int)) ∈ lw_all := lw_g (lw_at lw_m8 118 rfl) rfl
theorem q2432 : (Jvm.Cond.static ({ cls := "java/lang/Integer", name := "bitCount", desc := "(I)I" } : Jvm.MethodName)) ∈ lw_all := lw_g (lw_at lw_m10 124 rfl) rfl
theorem q2433 : (Jvm.Cond.code ({ cls := "java/lang/Integer", name := "bitCount", desc := "(I)I" } : Jvm.MethodName) prog_26_method_49_code (1 : Nat) (Option.some Jvm.ClassFile.FieldType.int)) ∈ lw_all := lw_g (lw_at lw_m10 125 rfl) rfl
theorem q2434 : (Jvm.Cond.constant "java/lang/Integer" (265 : Nat) (1431655765 : Int32)) ∈ lw_all := lw_g (lw_at lw_m10 126 rfl) rfl
theorem q2435 : (Jvm.Cond.constant "java/lang/Integer" (266 : Nat) (858993459 : Int32)) ∈ lw_all := lw_g (lw_at lw_m10 127 rfl) rfl
theorem q2436 : (Jvm.Cond.constant "java/lang/Integer" (267 : Nat) (252645135 : Int32)) ∈ lw_all := lw_g (lw_at lw_m10 128 rfl) rfl
theorem q3649 : (Jvm.Cond.castable "java/lang/Integer" "java/lang/Object") ∈ lw_tbl := lw_at lw_m15 141 rfl
theorem in_J19 : ∀ w ∈ wsJ190, w ∈ lw_all := lw_in wsJ190 [1724] (by decide +kernel) (by decide +kernel)
/-! java/util/AbstractSequentialList -/
def RJ20 : String := "java/util/AbstractSequentialList"
abbrev cJ20_init : ByteArray := prog_49_method_1_code
def yJ20_init : MethodName := ⟨RJ20, "<init>", "()V"⟩
abbrev cJ20_iterator : ByteArray := prog_49_method_7_code
def yJ20_iterator : MethodName := ⟨RJ20, "iterator", "()Ljava/util/Iterator;"⟩
theorem q173 : (Jvm.Cond.initialized "java/util/AbstractSequentialList") ∈ lw_all := lw_g (lw_at lw_m1 25 rfl) rfl
theorem q683 : (Jvm.Cond.instanceMethod ({ cls := "java/util/AbstractSequentialList", name := "<init>", desc := "()V" } : Jvm.MethodName)) ∈ lw_all := lw_g (lw_at lw_m3 55 rfl) rfl
theorem q684 : (Jvm.Cond.code ({ cls := "java/util/AbstractSequentialList", name := "<init>", desc := "()V" } : Jvm.MethodName) prog_49_method_1_code (1 : Nat) (Option.none : Option Jvm.ClassFile.FieldType)) ∈ lw_all := lw_g (lw_at lw_m3 56 rfl) rfl
theorem q685 : (Jvm.Cond.methodLink "java/util/AbstractSequentialList" (1 : Nat) ({ cls := "java/util/AbstractList", name := "<init>", desc := "()V" } : Jvm.MethodName)) ∈ lw_all := lw_g (lw_at lw_m3 57 rfl) rfl
theorem q1415 : (Jvm.Cond.instanceMethod ({ cls := "java/util/AbstractSequentialList", name := "iterator", desc := "()Ljava/util/Iterator;" } : Jvm.MethodName)) ∈ lw_all := lw_g (lw_at lw_m6 67 rfl) rfl
theorem q1416 : (Jvm.Cond.publicMethod ({ cls := "java/util/AbstractSequentialList", name := "iterator", desc := "()Ljava/util/Iterator;" } : Jvm.MethodName)) ∈ lw_tbl := lw_at lw_m6 68 rfl
theorem q1417 : (Jvm.Cond.code ({ cls := "java/util/AbstractSequentialList", name := "iterator", desc := "()Ljava/util/Iterator;" } : Jvm.MethodName) prog_49_method_7_code (1 : Nat) (Option.some (Jvm.ClassFile.FieldType.object "java/util/Iterator"))) ∈ lw_all := lw_g (lw_at lw_m6 69 rfl) rfl
theorem q1418 : (Jvm.Cond.methodLink "java/util/AbstractSequentialList" (65 : Nat) ({ cls := "java/util/AbstractSequentialList", name := "listIterator", desc := "()Ljava/util/ListIterator;" } : Jvm.MethodName)) ∈ lw_all := lw_g (lw_at lw_m6 70 rfl) rfl
theorem q1419 : (Jvm.Cond.sameMethod "java/util/AbstractSequentialList" "java/util/AbstractList" "listIterator" "()Ljava/util/ListIterator;") ∈ lw_all := lw_g (lw_at lw_m6 71 rfl) rfl
theorem q2159 : (Jvm.Cond.declares ({ cls := "java/util/AbstractSequentialList", name := "iterator", desc := "()Ljava/util/Iterator;" } : Jvm.MethodName)) ∈ lw_tbl := lw_at lw_m9 91 rfl
/-! java/util/LinkedList -/
def RJ21 : String := "java/util/LinkedList"
def TJ21 : u_T := fun k => match k with
  | 0 => ("java/util/AbstractList", "modCount", "I", false)
  | 1 => ("java/util/LinkedList", "size", "I", false)
  | 2 => ("java/util/LinkedList", "first", "Ljava/util/LinkedList$Node;", false)
  | _ => ("java/util/LinkedList", "last", "Ljava/util/LinkedList$Node;", false)
def tyJ21 : Nat → FieldType := fun k => match k with
  | 0 => .int
  | 1 => .int
  | 2 => .object "java/util/LinkedList$Node"
  | _ => .object "java/util/LinkedList$Node"
abbrev wsJ210 : List Cond := u_ws RJ21 TJ21 4
theorem nmJ21 : ∀ a, a < 4 → ∀ b, b < 4 → a ≠ b → (TJ21 a).2.1 ≠ (TJ21 b).2.1 := by decide +kernel
theorem tyJ21_ok : ∀ k, k < 4 → parseFieldDescriptor (TJ21 k).2.2.1 = some (tyJ21 k) := by decide +kernel
abbrev cJ21_init : ByteArray := prog_60_method_1_code
def yJ21_init : MethodName := ⟨RJ21, "<init>", "()V"⟩
abbrev cJ21_size : ByteArray := prog_60_method_16_code
def yJ21_size : MethodName := ⟨RJ21, "size", "()I"⟩
abbrev cJ21_add : ByteArray := prog_60_method_17_code
def yJ21_add : MethodName := ⟨RJ21, "add", "(Ljava/lang/Object;)Z"⟩
abbrev cJ21_linkLast : ByteArray := prog_60_method_4_code
def yJ21_linkLast : MethodName := ⟨RJ21, "linkLast", "(Ljava/lang/Object;)V"⟩
abbrev cJ21_get : ByteArray := prog_60_method_22_code
def yJ21_get : MethodName := ⟨RJ21, "get", "(I)Ljava/lang/Object;"⟩
abbrev cJ21_checkElementIndex : ByteArray := prog_60_method_29_code
def yJ21_checkElementIndex : MethodName := ⟨RJ21, "checkElementIndex", "(I)V"⟩
abbrev cJ21_isElementIndex : ByteArray := prog_60_method_26_code
def yJ21_isElementIndex : MethodName := ⟨RJ21, "isElementIndex", "(I)Z"⟩
abbrev cJ21_outOfBoundsMsg : ByteArray := prog_60_method_28_code
def yJ21_outOfBoundsMsg : MethodName := ⟨RJ21, "outOfBoundsMsg", "(I)Ljava/lang/String;"⟩
abbrev cJ21_node : ByteArray := prog_60_method_31_code
def yJ21_node : MethodName := ⟨RJ21, "node", "(I)Ljava/util/LinkedList$Node;"⟩
abbrev cJ21_set : ByteArray := prog_60_method_23_code
def yJ21_set : MethodName := ⟨RJ21, "set", "(ILjava/lang/Object;)Ljava/lang/Object;"⟩
abbrev cJ21_listIterator : ByteArray := prog_60_method_49_code
def yJ21_listIterator : MethodName := ⟨RJ21, "listIterator", "(I)Ljava/util/ListIterator;"⟩
abbrev cJ21_checkPositionIndex : ByteArray := prog_60_method_30_code
def yJ21_checkPositionIndex : MethodName := ⟨RJ21, "checkPositionIndex", "(I)V"⟩
abbrev cJ21_isPositionIndex : ByteArray := prog_60_method_27_code
def yJ21_isPositionIndex : MethodName := ⟨RJ21, "isPositionIndex", "(I)Z"⟩
abbrev cJ21_addLast : ByteArray := prog_60_method_14_code
def yJ21_addLast : MethodName := ⟨RJ21, "addLast", "(Ljava/lang/Object;)V"⟩
abbrev cJ21_removeFirst : ByteArray := prog_60_method_11_code
def yJ21_removeFirst : MethodName := ⟨RJ21, "removeFirst", "()Ljava/lang/Object;"⟩
abbrev cJ21_unlinkFirst : ByteArray := prog_60_method_6_code
def yJ21_unlinkFirst : MethodName := ⟨RJ21, "unlinkFirst", "(Ljava/util/LinkedList$Node;)Ljava/lang/Object;"⟩
abbrev cJ21_remove : ByteArray := prog_60_method_25_code
def yJ21_remove : MethodName := ⟨RJ21, "remove", "(I)Ljava/lang/Object;"⟩
abbrev cJ21_unlink : ByteArray := prog_60_method_8_code
def yJ21_unlink : MethodName := ⟨RJ21, "unlink", "(Ljava/util/LinkedList$Node;)Ljava/lang/Object;"⟩
theorem q174 : (Jvm.Cond.initialized "java/util/LinkedList") ∈ lw_all := lw_g (lw_at lw_m1 26 rfl) rfl
theorem q241 : (Jvm.Cond.sameField "java/util/LinkedList" "java/util/AbstractList" "modCount" "I") ∈ lw_all := lw_g (lw_at lw_m1 93 rfl) rfl
theorem q245 : (Jvm.Cond.fieldLink "java/util/LinkedList" (33 : Nat) "java/util/LinkedList" "modCount" "I") ∈ lw_all := lw_g (lw_at lw_m1 97 rfl) rfl
theorem q678 : (Jvm.Cond.instantiable "java/util/LinkedList" (4 : Nat)) ∈ lw_all := lw_g (lw_at lw_m3 50 rfl) rfl
theorem q680 : (Jvm.Cond.instanceMethod ({ cls := "java/util/LinkedList", name := "<init>", desc := "()V" } : Jvm.MethodName)) ∈ lw_all := lw_g (lw_at lw_m3 52 rfl) rfl
theorem q681 : (Jvm.Cond.code ({ cls := "java/util/LinkedList", name := "<init>", desc := "()V" } : Jvm.MethodName) prog_60_method_1_code (1 : Nat) (Option.none : Option Jvm.ClassFile.FieldType)) ∈ lw_all := lw_g (lw_at lw_m3 53 rfl) rfl
theorem q682 : (Jvm.Cond.methodLink "java/util/LinkedList" (1 : Nat) ({ cls := "java/util/AbstractSequentialList", name := "<init>", desc := "()V" } : Jvm.MethodName)) ∈ lw_all := lw_g (lw_at lw_m3 54 rfl) rfl
theorem q686 : (Jvm.Cond.fieldLink "java/util/LinkedList" (7 : Nat) "java/util/LinkedList" "size" "I") ∈ lw_all := lw_g (lw_at lw_m3 58 rfl) rfl
theorem q688 : (Jvm.Cond.fieldLink "java/util/LinkedList" (18 : Nat) "java/util/LinkedList" "first" "Ljava/util/LinkedList$Node;") ∈ lw_all := lw_g (lw_at lw_m3 60 rfl) rfl
theorem q689 : (Jvm.Cond.fieldLink "java/util/LinkedList" (27 : Nat) "java/util/LinkedList" "last" "Ljava/util/LinkedList$Node;") ∈ lw_all := lw_g (lw_at lw_m3 61 rfl) rfl
theorem q690 : (Jvm.Cond.lays "java/util/LinkedList" "java/util/LinkedList" "size" "I") ∈ lw_all := lw_g (lw_at lw_m3 62 rfl) rfl
theorem q691 : (Jvm.Cond.soleField "java/util/LinkedList" "size") ∈ lw_all := lw_g (lw_at lw_m3 63 rfl) rfl
theorem q692 : (Jvm.Cond.lays "java/util/LinkedList" "java/util/LinkedList" "first" "Ljava/util/LinkedList$Node;") ∈ lw_all := lw_g (lw_at lw_m3 64 rfl) rfl
theorem q693 : (Jvm.Cond.soleField "java/util/LinkedList" "first") ∈ lw_all := lw_g (lw_at lw_m3 65 rfl) rfl
theorem q694 : (Jvm.Cond.lays "java/util/LinkedList" "java/util/LinkedList" "last" "Ljava/util/LinkedList$Node;") ∈ lw_all := lw_g (lw_at lw_m3 66 rfl) rfl
theorem q695 : (Jvm.Cond.soleField "java/util/LinkedList" "last") ∈ lw_all := lw_g (lw_at lw_m3 67 rfl) rfl
theorem q696 : (Jvm.Cond.lays "java/util/LinkedList" "java/util/AbstractList" "modCount" "I") ∈ lw_all := lw_g (lw_at lw_m3 68 rfl) rfl
theorem q697 : (Jvm.Cond.superclass "java/util/LinkedList" "java/util/AbstractSequentialList") ∈ lw_all := lw_g (lw_at lw_m3 69 rfl) rfl
theorem q1140 : (Jvm.Cond.castable "java/util/LinkedList" "java/util/List") ∈ lw_tbl := lw_at lw_m5 32 rfl
theorem q1141 : (Jvm.Cond.selects "java/util/LinkedList" ({ cls := "java/util/List", name := "size", desc := "()I" } : Jvm.MethodName) ({ cls := "java/util/LinkedList", name := "size", desc := "()I" } : Jvm.MethodName)) ∈ lw_all := lw_g (lw_at lw_m5 33 rfl) rfl
theorem q1142 : (Jvm.Cond.unhidden "java/util/LinkedList" "size" "()I") ∈ lw_tbl := lw_at lw_m5 34 rfl
theorem q1143 : (Jvm.Cond.instanceMethod ({ cls := "java/util/LinkedList", name := "size", desc := "()I" } : Jvm.MethodName)) ∈ lw_all := lw_g (lw_at lw_m5 35 rfl) rfl
theorem q1144 : (Jvm.Cond.publicMethod ({ cls := "java/util/LinkedList", name := "size", desc := "()I" } : Jvm.MethodName)) ∈ lw_tbl := lw_at lw_m5 36 rfl
theorem q1145 : (Jvm.Cond.code ({ cls := "java/util/LinkedList", name := "size", desc := "()I" } : Jvm.MethodName) prog_60_method_16_code (1 : Nat) (Option.some Jvm.ClassFile.FieldType.int)) ∈ lw_all := lw_g (lw_at lw_m5 37 rfl) rfl
theorem q1220 : (Jvm.Cond.selects "java/util/LinkedList" ({ cls := "java/lang/Object", name := "getClass", desc := "()Ljava/lang/Class;" } : Jvm.MethodName) ({ cls := "java/lang/Object", name := "getClass", desc := "()Ljava/lang/Class;" } : Jvm.MethodName)) ∈ lw_all := lw_g (lw_at lw_m5 112 rfl) rfl
theorem q1234 : (Jvm.Cond.selects "java/util/LinkedList" ({ cls := "java/util/List", name := "add", desc := "(Ljava/lang/Object;)Z" } : Jvm.MethodName) ({ cls := "java/util/LinkedList", name := "add", desc := "(Ljava/lang/Object;)Z" } : Jvm.MethodName)) ∈ lw_all := lw_g (lw_at lw_m5 126 rfl) rfl
theorem q1235 : (Jvm.Cond.unhidden "java/util/LinkedList" "add" "(Ljava/lang/Object;)Z") ∈ lw_tbl := lw_at lw_m5 127 rfl
theorem q1236 : (Jvm.Cond.instanceMethod ({ cls := "java/util/LinkedList", name := "add", desc := "(Ljava/lang/Object;)Z" } : Jvm.MethodName)) ∈ lw_all := lw_g (lw_at lw_m5 128 rfl) rfl
theorem q1237 : (Jvm.Cond.publicMethod ({ cls := "java/util/LinkedList", name := "add", desc := "(Ljava/lang/Object;)Z" } : Jvm.MethodName)) ∈ lw_tbl := lw_at lw_m5 129 rfl
theorem q1238 : (Jvm.Cond.code ({ cls := "java/util/LinkedList", name := "add", desc := "(Ljava/lang/Object;)Z" } : Jvm.MethodName) prog_60_method_17_code (2 : Nat) (Option.some Jvm.ClassFile.FieldType.boolean)) ∈ lw_all := lw_g (lw_at lw_m5 130 rfl) rfl
theorem q1239 : (Jvm.Cond.methodLink "java/util/LinkedList" (57 : Nat) ({ cls := "java/util/LinkedList", name := "linkLast", desc := "(Ljava/lang/Object;)V" } : Jvm.MethodName)) ∈ lw_all := lw_g (lw_at lw_m5 131 rfl) rfl
theorem q1240 : (Jvm.Cond.instanceMethod ({ cls := "java/util/LinkedList", name := "linkLast", desc := "(Ljava/lang/Object;)V" } : Jvm.MethodName)) ∈ lw_all := lw_g (lw_at lw_m5 132 rfl) rfl
theorem q1241 : (Jvm.Cond.selects "java/util/LinkedList" ({ cls := "java/util/LinkedList", name := "linkLast", desc := "(Ljava/lang/Object;)V" } : Jvm.MethodName) ({ cls := "java/util/LinkedList", name := "linkLast", desc := "(Ljava/lang/Object;)V" } : Jvm.MethodName)) ∈ lw_all := lw_g (lw_at lw_m5 133 rfl) rfl
theorem q1242 : (Jvm.Cond.code ({ cls := "java/util/LinkedList", name := "linkLast", desc := "(Ljava/lang/Object;)V" } : Jvm.MethodName) prog_60_method_4_code (4 : Nat) (Option.none : Option Jvm.ClassFile.FieldType)) ∈ lw_all := lw_g (lw_at lw_m5 134 rfl) rfl
theorem q1243 : (Jvm.Cond.classLink "java/util/LinkedList" (22 : Nat) "java/util/LinkedList$Node") ∈ lw_all := lw_g (lw_at lw_m5 135 rfl) rfl
theorem q1245 : (Jvm.Cond.methodLink "java/util/LinkedList" (24 : Nat) ({ cls := "java/util/LinkedList$Node", name := "<init>", desc := "(Ljava/util/LinkedList$Node;Ljava/lang/Object;Ljava/util/LinkedList$Node;)V" } : Jvm.MethodName)) ∈ lw_all := lw_g (lw_at lw_m5 137 rfl) rfl
theorem q1251 : (Jvm.Cond.fieldLink "java/util/LinkedList" (39 : Nat) "java/util/LinkedList$Node" "item" "Ljava/lang/Object;") ∈ lw_all := lw_g (lw_at lw_m5 143 rfl) rfl
theorem q1254 : (Jvm.Cond.fieldLink "java/util/LinkedList" (36 : Nat) "java/util/LinkedList$Node" "next" "Ljava/util/LinkedList$Node;") ∈ lw_all := lw_g (lw_at lw_m5 146 rfl) rfl
theorem q1256 : (Jvm.Cond.fieldLink "java/util/LinkedList" (30 : Nat) "java/util/LinkedList$Node" "prev" "Ljava/util/LinkedList$Node;") ∈ lw_all := lw_g (lw_at lw_m5 148 rfl) rfl
theorem q1314 : (Jvm.Cond.selects "java/util/LinkedList" ({ cls := "java/util/List", name := "get", desc := "(I)Ljava/lang/Object;" } : Jvm.MethodName) ({ cls := "java/util/LinkedList", name := "get", desc := "(I)Ljava/lang/Object;" } : Jvm.MethodName)) ∈ lw_all := lw_g (lw_at lw_m5 206 rfl) rfl
theorem q1315 : (Jvm.Cond.unhidden "java/util/LinkedList" "get" "(I)Ljava/lang/Object;") ∈ lw_tbl := lw_at lw_m5 207 rfl
theorem q1316 : (Jvm.Cond.instanceMethod ({ cls := "java/util/LinkedList", name := "get", desc := "(I)Ljava/lang/Object;" } : Jvm.MethodName)) ∈ lw_all := lw_g (lw_at lw_m5 208 rfl) rfl
theorem q1317 : (Jvm.Cond.publicMethod ({ cls := "java/util/LinkedList", name := "get", desc := "(I)Ljava/lang/Object;" } : Jvm.MethodName)) ∈ lw_tbl := lw_at lw_m5 209 rfl
theorem q1318 : (Jvm.Cond.code ({ cls := "java/util/LinkedList", name := "get", desc := "(I)Ljava/lang/Object;" } : Jvm.MethodName) prog_60_method_22_code (2 : Nat) (Option.some (Jvm.ClassFile.FieldType.object "java/lang/Object"))) ∈ lw_all := lw_g (lw_at lw_m5 210 rfl) rfl
theorem q1319 : (Jvm.Cond.methodLink "java/util/LinkedList" (90 : Nat) ({ cls := "java/util/LinkedList", name := "checkElementIndex", desc := "(I)V" } : Jvm.MethodName)) ∈ lw_all := lw_g (lw_at lw_m5 211 rfl) rfl
theorem q1320 : (Jvm.Cond.privateMethod ({ cls := "java/util/LinkedList", name := "checkElementIndex", desc := "(I)V" } : Jvm.MethodName)) ∈ lw_tbl := lw_at lw_m5 212 rfl
theorem q1321 : (Jvm.Cond.instanceMethod ({ cls := "java/util/LinkedList", name := "checkElementIndex", desc := "(I)V" } : Jvm.MethodName)) ∈ lw_all := lw_g (lw_at lw_m5 213 rfl) rfl
theorem q1322 : (Jvm.Cond.code ({ cls := "java/util/LinkedList", name := "checkElementIndex", desc := "(I)V" } : Jvm.MethodName) prog_60_method_29_code (2 : Nat) (Option.none : Option Jvm.ClassFile.FieldType)) ∈ lw_all := lw_g (lw_at lw_m5 214 rfl) rfl
theorem q1323 : (Jvm.Cond.methodLink "java/util/LinkedList" (115 : Nat) ({ cls := "java/util/LinkedList", name := "isElementIndex", desc := "(I)Z" } : Jvm.MethodName)) ∈ lw_all := lw_g (lw_at lw_m5 215 rfl) rfl
theorem q1324 : (Jvm.Cond.privateMethod ({ cls := "java/util/LinkedList", name := "isElementIndex", desc := "(I)Z" } : Jvm.MethodName)) ∈ lw_tbl := lw_at lw_m5 216 rfl
theorem q1325 : (Jvm.Cond.instanceMethod ({ cls := "java/util/LinkedList", name := "isElementIndex", desc := "(I)Z" } : Jvm.MethodName)) ∈ lw_all := lw_g (lw_at lw_m5 217 rfl) rfl
theorem q1326 : (Jvm.Cond.code ({ cls := "java/util/LinkedList", name := "isElementIndex", desc := "(I)Z" } : Jvm.MethodName) prog_60_method_26_code (2 : Nat) (Option.some Jvm.ClassFile.FieldType.boolean)) ∈ lw_all := lw_g (lw_at lw_m5 218 rfl) rfl
theorem q1327 : (Jvm.Cond.classLink "java/util/LinkedList" (119 : Nat) "java/lang/IndexOutOfBoundsException") ∈ lw_all := lw_g (lw_at lw_m5 219 rfl) rfl
theorem q1336 : (Jvm.Cond.methodLink "java/util/LinkedList" (121 : Nat) ({ cls := "java/util/LinkedList", name := "outOfBoundsMsg", desc := "(I)Ljava/lang/String;" } : Jvm.MethodName)) ∈ lw_all := lw_g (lw_at lw_m5 228 rfl) rfl
theorem q1337 : (Jvm.Cond.privateMethod ({ cls := "java/util/LinkedList", name := "outOfBoundsMsg", desc := "(I)Ljava/lang/String;" } : Jvm.MethodName)) ∈ lw_tbl := lw_at lw_m5 229 rfl
theorem q1338 : (Jvm.Cond.instanceMethod ({ cls := "java/util/LinkedList", name := "outOfBoundsMsg", desc := "(I)Ljava/lang/String;" } : Jvm.MethodName)) ∈ lw_all := lw_g (lw_at lw_m5 230 rfl) rfl
theorem q1339 : (Jvm.Cond.code ({ cls := "java/util/LinkedList", name := "outOfBoundsMsg", desc := "(I)Ljava/lang/String;" } : Jvm.MethodName) prog_60_method_28_code (2 : Nat) (Option.some (Jvm.ClassFile.FieldType.object "java/lang/String"))) ∈ lw_all := lw_g (lw_at lw_m5 231 rfl) rfl
theorem q1340 : (Jvm.Cond.classLink "java/util/LinkedList" (97 : Nat) "java/lang/StringBuilder") ∈ lw_all := lw_g (lw_at lw_m5 232 rfl) rfl
theorem q1341 : (Jvm.Cond.methodLink "java/util/LinkedList" (99 : Nat) ({ cls := "java/lang/StringBuilder", name := "<init>", desc := "()V" } : Jvm.MethodName)) ∈ lw_all := lw_g (lw_at lw_m5 233 rfl) rfl
theorem q1342 : (Jvm.Cond.stringRef "java/util/LinkedList" (100 : Nat) "Index: ") ∈ lw_tbl := lw_at lw_m5 234 rfl
theorem q1343 : (Jvm.Cond.methodLink "java/util/LinkedList" (102 : Nat) ({ cls := "java/lang/StringBuilder", name := "append", desc := "(Ljava/lang/String;)Ljava/lang/StringBuilder;" } : Jvm.MethodName)) ∈ lw_all := lw_g (lw_at lw_m5 235 rfl) rfl
theorem q1344 : (Jvm.Cond.methodLink "java/util/LinkedList" (106 : Nat) ({ cls := "java/lang/StringBuilder", name := "append", desc := "(I)Ljava/lang/StringBuilder;" } : Jvm.MethodName)) ∈ lw_all := lw_g (lw_at lw_m5 236 rfl) rfl
theorem q1345 : (Jvm.Cond.stringRef "java/util/LinkedList" (109 : Nat) ", Size: ") ∈ lw_tbl := lw_at lw_m5 237 rfl
theorem q1346 : (Jvm.Cond.methodLink "java/util/LinkedList" (111 : Nat) ({ cls := "java/lang/StringBuilder", name := "toString", desc := "()Ljava/lang/String;" } : Jvm.MethodName)) ∈ lw_all := lw_g (lw_at lw_m5 238 rfl) rfl
theorem q1347 : (Jvm.Cond.methodLink "java/util/LinkedList" (125 : Nat) ({ cls := "java/lang/IndexOutOfBoundsException", name := "<init>", desc := "(Ljava/lang/String;)V" } : Jvm.MethodName)) ∈ lw_all := lw_g (lw_at lw_m5 239 rfl) rfl
theorem q1353 : (Jvm.Cond.methodLink "java/util/LinkedList" (86 : Nat) ({ cls := "java/util/LinkedList", name := "node", desc := "(I)Ljava/util/LinkedList$Node;" } : Jvm.MethodName)) ∈ lw_all := lw_g (lw_at lw_m6 5 rfl) rfl
theorem q1354 : (Jvm.Cond.instanceMethod ({ cls := "java/util/LinkedList", name := "node", desc := "(I)Ljava/util/LinkedList$Node;" } : Jvm.MethodName)) ∈ lw_all := lw_g (lw_at lw_m6 6 rfl) rfl
theorem q1355 : (Jvm.Cond.selects "java/util/LinkedList" ({ cls := "java/util/LinkedList", name := "node", desc := "(I)Ljava/util/LinkedList$Node;" } : Jvm.MethodName) ({ cls := "java/util/LinkedList", name := "node", desc := "(I)Ljava/util/LinkedList$Node;" } : Jvm.MethodName)) ∈ lw_all := lw_g (lw_at lw_m6 7 rfl) rfl
theorem q1356 : (Jvm.Cond.code ({ cls := "java/util/LinkedList", name := "node", desc := "(I)Ljava/util/LinkedList$Node;" } : Jvm.MethodName) prog_60_method_31_code (4 : Nat) (Option.some (Jvm.ClassFile.FieldType.object "java/util/LinkedList$Node"))) ∈ lw_all := lw_g (lw_at lw_m6 8 rfl) rfl
theorem q1366 : (Jvm.Cond.selects "java/util/LinkedList" ({ cls := "java/util/List", name := "set", desc := "(ILjava/lang/Object;)Ljava/lang/Object;" } : Jvm.MethodName) ({ cls := "java/util/LinkedList", name := "set", desc := "(ILjava/lang/Object;)Ljava/lang/Object;" } : Jvm.MethodName)) ∈ lw_all := lw_g (lw_at lw_m6 18 rfl) rfl
theorem q1367 : (Jvm.Cond.unhidden "java/util/LinkedList" "set" "(ILjava/lang/Object;)Ljava/lang/Object;") ∈ lw_tbl := lw_at lw_m6 19 rfl
theorem q1368 : (Jvm.Cond.instanceMethod ({ cls := "java/util/LinkedList", name := "set", desc := "(ILjava/lang/Object;)Ljava/lang/Object;" } : Jvm.MethodName)) ∈ lw_all := lw_g (lw_at lw_m6 20 rfl) rfl
theorem q1369 : (Jvm.Cond.publicMethod ({ cls := "java/util/LinkedList", name := "set", desc := "(ILjava/lang/Object;)Ljava/lang/Object;" } : Jvm.MethodName)) ∈ lw_tbl := lw_at lw_m6 21 rfl
theorem q1370 : (Jvm.Cond.code ({ cls := "java/util/LinkedList", name := "set", desc := "(ILjava/lang/Object;)Ljava/lang/Object;" } : Jvm.MethodName) prog_60_method_23_code (5 : Nat) (Option.some (Jvm.ClassFile.FieldType.object "java/lang/Object"))) ∈ lw_all := lw_g (lw_at lw_m6 22 rfl) rfl
theorem q1413 : (Jvm.Cond.selects "java/util/LinkedList" ({ cls := "java/util/List", name := "iterator", desc := "()Ljava/util/Iterator;" } : Jvm.MethodName) ({ cls := "java/util/AbstractSequentialList", name := "iterator", desc := "()Ljava/util/Iterator;" } : Jvm.MethodName)) ∈ lw_all := lw_g (lw_at lw_m6 65 rfl) rfl
theorem q1414 : (Jvm.Cond.unhidden "java/util/LinkedList" "iterator" "()Ljava/util/Iterator;") ∈ lw_tbl := lw_at lw_m6 66 rfl
theorem q1421 : (Jvm.Cond.selects "java/util/LinkedList" ({ cls := "java/util/AbstractSequentialList", name := "listIterator", desc := "()Ljava/util/ListIterator;" } : Jvm.MethodName) ({ cls := "java/util/AbstractList", name := "listIterator", desc := "()Ljava/util/ListIterator;" } : Jvm.MethodName)) ∈ lw_all := lw_g (lw_at lw_m6 73 rfl) rfl
theorem q1456 : (Jvm.Cond.selects "java/util/LinkedList" ({ cls := "java/util/AbstractList", name := "listIterator", desc := "(I)Ljava/util/ListIterator;" } : Jvm.MethodName) ({ cls := "java/util/LinkedList", name := "listIterator", desc := "(I)Ljava/util/ListIterator;" } : Jvm.MethodName)) ∈ lw_all := lw_g (lw_at lw_m6 108 rfl) rfl
theorem q1457 : (Jvm.Cond.instanceMethod ({ cls := "java/util/LinkedList", name := "listIterator", desc := "(I)Ljava/util/ListIterator;" } : Jvm.MethodName)) ∈ lw_all := lw_g (lw_at lw_m6 109 rfl) rfl
theorem q1458 : (Jvm.Cond.code ({ cls := "java/util/LinkedList", name := "listIterator", desc := "(I)Ljava/util/ListIterator;" } : Jvm.MethodName) prog_60_method_49_code (2 : Nat) (Option.some (Jvm.ClassFile.FieldType.object "java/util/ListIterator"))) ∈ lw_all := lw_g (lw_at lw_m6 110 rfl) rfl
theorem q1459 : (Jvm.Cond.methodLink "java/util/LinkedList" (76 : Nat) ({ cls := "java/util/LinkedList", name := "checkPositionIndex", desc := "(I)V" } : Jvm.MethodName)) ∈ lw_all := lw_g (lw_at lw_m6 111 rfl) rfl
theorem q1460 : (Jvm.Cond.privateMethod ({ cls := "java/util/LinkedList", name := "checkPositionIndex", desc := "(I)V" } : Jvm.MethodName)) ∈ lw_tbl := lw_at lw_m6 112 rfl
theorem q1461 : (Jvm.Cond.instanceMethod ({ cls := "java/util/LinkedList", name := "checkPositionIndex", desc := "(I)V" } : Jvm.MethodName)) ∈ lw_all := lw_g (lw_at lw_m6 113 rfl) rfl
theorem q1462 : (Jvm.Cond.code ({ cls := "java/util/LinkedList", name := "checkPositionIndex", desc := "(I)V" } : Jvm.MethodName) prog_60_method_30_code (2 : Nat) (Option.none : Option Jvm.ClassFile.FieldType)) ∈ lw_all := lw_g (lw_at lw_m6 114 rfl) rfl
theorem q1463 : (Jvm.Cond.methodLink "java/util/LinkedList" (128 : Nat) ({ cls := "java/util/LinkedList", name := "isPositionIndex", desc := "(I)Z" } : Jvm.MethodName)) ∈ lw_all := lw_g (lw_at lw_m6 115 rfl) rfl
theorem q1464 : (Jvm.Cond.privateMethod ({ cls := "java/util/LinkedList", name := "isPositionIndex", desc := "(I)Z" } : Jvm.MethodName)) ∈ lw_tbl := lw_at lw_m6 116 rfl
theorem q1465 : (Jvm.Cond.instanceMethod ({ cls := "java/util/LinkedList", name := "isPositionIndex", desc := "(I)Z" } : Jvm.MethodName)) ∈ lw_all := lw_g (lw_at lw_m6 117 rfl) rfl
theorem q1466 : (Jvm.Cond.code ({ cls := "java/util/LinkedList", name := "isPositionIndex", desc := "(I)Z" } : Jvm.MethodName) prog_60_method_27_code (2 : Nat) (Option.some Jvm.ClassFile.FieldType.boolean)) ∈ lw_all := lw_g (lw_at lw_m6 118 rfl) rfl
theorem q1467 : (Jvm.Cond.classLink "java/util/LinkedList" (150 : Nat) "java/util/LinkedList$ListItr") ∈ lw_all := lw_g (lw_at lw_m6 119 rfl) rfl
theorem q1469 : (Jvm.Cond.methodLink "java/util/LinkedList" (152 : Nat) ({ cls := "java/util/LinkedList$ListItr", name := "<init>", desc := "(Ljava/util/LinkedList;I)V" } : Jvm.MethodName)) ∈ lw_all := lw_g (lw_at lw_m6 121 rfl) rfl
theorem q1511 : (Jvm.Cond.selects "java/util/LinkedList" ({ cls := "java/util/AbstractList", name := "size", desc := "()I" } : Jvm.MethodName) ({ cls := "java/util/LinkedList", name := "size", desc := "()I" } : Jvm.MethodName)) ∈ lw_all := lw_g (lw_at lw_m6 163 rfl) rfl
theorem q1629 : (Jvm.Cond.selects "java/util/LinkedList" ({ cls := "java/util/AbstractList", name := "get", desc := "(I)Ljava/lang/Object;" } : Jvm.MethodName) ({ cls := "java/util/LinkedList", name := "get", desc := "(I)Ljava/lang/Object;" } : Jvm.MethodName)) ∈ lw_all := lw_g (lw_at lw_m7 41 rfl) rfl
theorem q2063 : (Jvm.Cond.instanceMethod ({ cls := "java/util/LinkedList", name := "addLast", desc := "(Ljava/lang/Object;)V" } : Jvm.MethodName)) ∈ lw_all := lw_g (lw_at lw_m8 235 rfl) rfl
theorem q2064 : (Jvm.Cond.selects "java/util/LinkedList" ({ cls := "java/util/LinkedList", name := "addLast", desc := "(Ljava/lang/Object;)V" } : Jvm.MethodName) ({ cls := "java/util/LinkedList", name := "addLast", desc := "(Ljava/lang/Object;)V" } : Jvm.MethodName)) ∈ lw_all := lw_g (lw_at lw_m8 236 rfl) rfl
theorem q2065 : (Jvm.Cond.code ({ cls := "java/util/LinkedList", name := "addLast", desc := "(Ljava/lang/Object;)V" } : Jvm.MethodName) prog_60_method_14_code (2 : Nat) (Option.none : Option Jvm.ClassFile.FieldType)) ∈ lw_all := lw_g (lw_at lw_m8 237 rfl) rfl
theorem q2121 : (Jvm.Cond.sameMethod "java/util/LinkedList" "java/util/AbstractCollection" "isEmpty" "()Z") ∈ lw_all := lw_g (lw_at lw_m9 53 rfl) rfl
theorem q2123 : (Jvm.Cond.selects "java/util/LinkedList" ({ cls := "java/util/LinkedList", name := "isEmpty", desc := "()Z" } : Jvm.MethodName) ({ cls := "java/util/AbstractCollection", name := "isEmpty", desc := "()Z" } : Jvm.MethodName)) ∈ lw_all := lw_g (lw_at lw_m9 55 rfl) rfl
theorem q2158 : (Jvm.Cond.sameMethod "java/util/LinkedList" "java/util/AbstractSequentialList" "iterator" "()Ljava/util/Iterator;") ∈ lw_all := lw_g (lw_at lw_m9 90 rfl) rfl
theorem q2160 : (Jvm.Cond.selects "java/util/LinkedList" ({ cls := "java/util/LinkedList", name := "iterator", desc := "()Ljava/util/Iterator;" } : Jvm.MethodName) ({ cls := "java/util/AbstractSequentialList", name := "iterator", desc := "()Ljava/util/Iterator;" } : Jvm.MethodName)) ∈ lw_all := lw_g (lw_at lw_m9 92 rfl) rfl
theorem q2197 : (Jvm.Cond.instanceMethod ({ cls := "java/util/LinkedList", name := "removeFirst", desc := "()Ljava/lang/Object;" } : Jvm.MethodName)) ∈ lw_all := lw_g (lw_at lw_m9 129 rfl) rfl
theorem q2198 : (Jvm.Cond.selects "java/util/LinkedList" ({ cls := "java/util/LinkedList", name := "removeFirst", desc := "()Ljava/lang/Object;" } : Jvm.MethodName) ({ cls := "java/util/LinkedList", name := "removeFirst", desc := "()Ljava/lang/Object;" } : Jvm.MethodName)) ∈ lw_all := lw_g (lw_at lw_m9 130 rfl) rfl
theorem q2199 : (Jvm.Cond.code ({ cls := "java/util/LinkedList", name := "removeFirst", desc := "()Ljava/lang/Object;" } : Jvm.MethodName) prog_60_method_11_code (2 : Nat) (Option.some (Jvm.ClassFile.FieldType.object "java/lang/Object"))) ∈ lw_all := lw_g (lw_at lw_m9 131 rfl) rfl
theorem q2200 : (Jvm.Cond.methodLink "java/util/LinkedList" (46 : Nat) ({ cls := "java/util/LinkedList", name := "unlinkFirst", desc := "(Ljava/util/LinkedList$Node;)Ljava/lang/Object;" } : Jvm.MethodName)) ∈ lw_all := lw_g (lw_at lw_m9 132 rfl) rfl
theorem q2201 : (Jvm.Cond.privateMethod ({ cls := "java/util/LinkedList", name := "unlinkFirst", desc := "(Ljava/util/LinkedList$Node;)Ljava/lang/Object;" } : Jvm.MethodName)) ∈ lw_tbl := lw_at lw_m9 133 rfl
theorem q2202 : (Jvm.Cond.instanceMethod ({ cls := "java/util/LinkedList", name := "unlinkFirst", desc := "(Ljava/util/LinkedList$Node;)Ljava/lang/Object;" } : Jvm.MethodName)) ∈ lw_all := lw_g (lw_at lw_m9 134 rfl) rfl
theorem q2203 : (Jvm.Cond.code ({ cls := "java/util/LinkedList", name := "unlinkFirst", desc := "(Ljava/util/LinkedList$Node;)Ljava/lang/Object;" } : Jvm.MethodName) prog_60_method_6_code (4 : Nat) (Option.some (Jvm.ClassFile.FieldType.object "java/lang/Object"))) ∈ lw_all := lw_g (lw_at lw_m9 135 rfl) rfl
theorem q2394 : (Jvm.Cond.instanceMethod ({ cls := "java/util/LinkedList", name := "remove", desc := "(I)Ljava/lang/Object;" } : Jvm.MethodName)) ∈ lw_all := lw_g (lw_at lw_m10 86 rfl) rfl
theorem q2395 : (Jvm.Cond.selects "java/util/LinkedList" ({ cls := "java/util/LinkedList", name := "remove", desc := "(I)Ljava/lang/Object;" } : Jvm.MethodName) ({ cls := "java/util/LinkedList", name := "remove", desc := "(I)Ljava/lang/Object;" } : Jvm.MethodName)) ∈ lw_all := lw_g (lw_at lw_m10 87 rfl) rfl
theorem q2396 : (Jvm.Cond.code ({ cls := "java/util/LinkedList", name := "remove", desc := "(I)Ljava/lang/Object;" } : Jvm.MethodName) prog_60_method_25_code (2 : Nat) (Option.some (Jvm.ClassFile.FieldType.object "java/lang/Object"))) ∈ lw_all := lw_g (lw_at lw_m10 88 rfl) rfl
theorem q2397 : (Jvm.Cond.methodLink "java/util/LinkedList" (64 : Nat) ({ cls := "java/util/LinkedList", name := "unlink", desc := "(Ljava/util/LinkedList$Node;)Ljava/lang/Object;" } : Jvm.MethodName)) ∈ lw_all := lw_g (lw_at lw_m10 89 rfl) rfl
theorem q2398 : (Jvm.Cond.instanceMethod ({ cls := "java/util/LinkedList", name := "unlink", desc := "(Ljava/util/LinkedList$Node;)Ljava/lang/Object;" } : Jvm.MethodName)) ∈ lw_all := lw_g (lw_at lw_m10 90 rfl) rfl
theorem q2399 : (Jvm.Cond.selects "java/util/LinkedList" ({ cls := "java/util/LinkedList", name := "unlink", desc := "(Ljava/util/LinkedList$Node;)Ljava/lang/Object;" } : Jvm.MethodName) ({ cls := "java/util/LinkedList", name := "unlink", desc := "(Ljava/util/LinkedList$Node;)Ljava/lang/Object;" } : Jvm.MethodName)) ∈ lw_all := lw_g (lw_at lw_m10 91 rfl) rfl
theorem q2400 : (Jvm.Cond.code ({ cls := "java/util/LinkedList", name := "unlink", desc := "(Ljava/util/LinkedList$Node;)Ljava/lang/Object;" } : Jvm.MethodName) prog_60_method_8_code (5 : Nat) (Option.some (Jvm.ClassFile.FieldType.object "java/lang/Object"))) ∈ lw_all := lw_g (lw_at lw_m10 92 rfl) rfl
theorem q3608 : (Jvm.Cond.selects "java/util/LinkedList" ({ cls := "java/util/LinkedList", name := "size", desc := "()I" } : Jvm.MethodName) ({ cls := "java/util/LinkedList", name := "size", desc := "()I" } : Jvm.MethodName)) ∈ lw_all := lw_g (lw_at lw_m15 100 rfl) rfl
theorem q3609 : (Jvm.Cond.selects "java/util/LinkedList" ({ cls := "java/util/LinkedList", name := "get", desc := "(I)Ljava/lang/Object;" } : Jvm.MethodName) ({ cls := "java/util/LinkedList", name := "get", desc := "(I)Ljava/lang/Object;" } : Jvm.MethodName)) ∈ lw_all := lw_g (lw_at lw_m15 101 rfl) rfl
theorem q3615 : (Jvm.Cond.selects "java/util/LinkedList" ({ cls := "java/util/AbstractCollection", name := "size", desc := "()I" } : Jvm.MethodName) ({ cls := "java/util/LinkedList", name := "size", desc := "()I" } : Jvm.MethodName)) ∈ lw_all := lw_g (lw_at lw_m15 107 rfl) rfl
theorem q3617 : (Jvm.Cond.selects "java/util/LinkedList" ({ cls := "java/util/LinkedList", name := "add", desc := "(Ljava/lang/Object;)Z" } : Jvm.MethodName) ({ cls := "java/util/LinkedList", name := "add", desc := "(Ljava/lang/Object;)Z" } : Jvm.MethodName)) ∈ lw_all := lw_g (lw_at lw_m15 109 rfl) rfl
theorem q3632 : (Jvm.Cond.castable "java/util/LinkedList" "java/lang/Object") ∈ lw_tbl := lw_at lw_m15 124 rfl
theorem in_J21 : ∀ w ∈ wsJ210, w ∈ lw_all := lw_in wsJ210 [696, 690, 692, 694] (by decide +kernel) (by decide +kernel)
/-! java/util/ArrayDeque -/
def RJ22 : String := "java/util/ArrayDeque"
def TJ22 : u_T := fun k => match k with
  | 0 => ("java/util/ArrayDeque", "elements", "[Ljava/lang/Object;", false)
  | 1 => ("java/util/ArrayDeque", "head", "I", false)
  | _ => ("java/util/ArrayDeque", "tail", "I", false)
def tyJ22 : Nat → FieldType := fun k => match k with
  | 0 => .array (.object "java/lang/Object")
  | 1 => .int
  | _ => .int
abbrev wsJ220 : List Cond := u_ws RJ22 TJ22 3
theorem nmJ22 : ∀ a, a < 3 → ∀ b, b < 3 → a ≠ b → (TJ22 a).2.1 ≠ (TJ22 b).2.1 := by decide +kernel
theorem tyJ22_ok : ∀ k, k < 3 → parseFieldDescriptor (TJ22 k).2.2.1 = some (tyJ22 k) := by decide +kernel
abbrev cJ22_init : ByteArray := prog_50_method_4_code
def yJ22_init : MethodName := ⟨RJ22, "<init>", "(I)V"⟩
abbrev cJ22_clear : ByteArray := prog_50_method_53_code
def yJ22_clear : MethodName := ⟨RJ22, "clear", "()V"⟩
abbrev cJ22_circularClear : ByteArray := prog_50_method_54_code
def yJ22_circularClear : MethodName := ⟨RJ22, "circularClear", "([Ljava/lang/Object;II)V"⟩
abbrev cJ22_size : ByteArray := prog_50_method_37_code
def yJ22_size : MethodName := ⟨RJ22, "size", "()I"⟩
abbrev cJ22_sub : ByteArray := prog_50_method_9_code
def yJ22_sub : MethodName := ⟨RJ22, "sub", "(III)I"⟩
abbrev cJ22_removeFirst : ByteArray := prog_50_method_18_code
def yJ22_removeFirst : MethodName := ⟨RJ22, "removeFirst", "()Ljava/lang/Object;"⟩
abbrev cJ22_pollFirst : ByteArray := prog_50_method_20_code
def yJ22_pollFirst : MethodName := ⟨RJ22, "pollFirst", "()Ljava/lang/Object;"⟩
abbrev cJ22_elementAt : ByteArray := prog_50_method_10_code
def yJ22_elementAt : MethodName := ⟨RJ22, "elementAt", "([Ljava/lang/Object;I)Ljava/lang/Object;"⟩
abbrev cJ22_inc : ByteArray := prog_50_method_6_code
def yJ22_inc : MethodName := ⟨RJ22, "inc", "(II)I"⟩
abbrev cJ22_addLast : ByteArray := prog_50_method_13_code
def yJ22_addLast : MethodName := ⟨RJ22, "addLast", "(Ljava/lang/Object;)V"⟩
abbrev cJ22_grow : ByteArray := prog_50_method_1_code
def yJ22_grow : MethodName := ⟨RJ22, "grow", "(I)V"⟩
abbrev cJ22_newCapacity : ByteArray := prog_50_method_2_code
def yJ22_newCapacity : MethodName := ⟨RJ22, "newCapacity", "(II)I"⟩
abbrev cJ22_isEmpty : ByteArray := prog_50_method_38_code
def yJ22_isEmpty : MethodName := ⟨RJ22, "isEmpty", "()Z"⟩
abbrev cJ22_removeLast : ByteArray := prog_50_method_19_code
def yJ22_removeLast : MethodName := ⟨RJ22, "removeLast", "()Ljava/lang/Object;"⟩
abbrev cJ22_pollLast : ByteArray := prog_50_method_21_code
def yJ22_pollLast : MethodName := ⟨RJ22, "pollLast", "()Ljava/lang/Object;"⟩
abbrev cJ22_dec : ByteArray := prog_50_method_7_code
def yJ22_dec : MethodName := ⟨RJ22, "dec", "(II)I"⟩
theorem q175 : (Jvm.Cond.initialized "java/util/ArrayDeque") ∈ lw_all := lw_g (lw_at lw_m1 27 rfl) rfl
theorem q767 : (Jvm.Cond.instantiable "java/util/ArrayDeque" (3 : Nat)) ∈ lw_all := lw_g (lw_at lw_m3 139 rfl) rfl
theorem q769 : (Jvm.Cond.instanceMethod ({ cls := "java/util/ArrayDeque", name := "<init>", desc := "(I)V" } : Jvm.MethodName)) ∈ lw_all := lw_g (lw_at lw_m3 141 rfl) rfl
theorem q770 : (Jvm.Cond.code ({ cls := "java/util/ArrayDeque", name := "<init>", desc := "(I)V" } : Jvm.MethodName) prog_50_method_4_code (2 : Nat) (Option.none : Option Jvm.ClassFile.FieldType)) ∈ lw_all := lw_g (lw_at lw_m3 142 rfl) rfl
theorem q771 : (Jvm.Cond.methodLink "java/util/ArrayDeque" (42 : Nat) ({ cls := "java/util/AbstractCollection", name := "<init>", desc := "()V" } : Jvm.MethodName)) ∈ lw_all := lw_g (lw_at lw_m3 143 rfl) rfl
theorem q772 : (Jvm.Cond.constant "java/util/ArrayDeque" (41 : Nat) (2147483647 : Int32)) ∈ lw_all := lw_g (lw_at lw_m3 144 rfl) rfl
theorem q773 : (Jvm.Cond.classLink "java/util/ArrayDeque" (47 : Nat) "java/lang/Object") ∈ lw_all := lw_g (lw_at lw_m3 145 rfl) rfl
theorem q774 : (Jvm.Cond.fieldLink "java/util/ArrayDeque" (3 : Nat) "java/util/ArrayDeque" "elements" "[Ljava/lang/Object;") ∈ lw_all := lw_g (lw_at lw_m3 146 rfl) rfl
theorem q775 : (Jvm.Cond.fieldLink "java/util/ArrayDeque" (24 : Nat) "java/util/ArrayDeque" "head" "I") ∈ lw_all := lw_g (lw_at lw_m3 147 rfl) rfl
theorem q776 : (Jvm.Cond.fieldLink "java/util/ArrayDeque" (20 : Nat) "java/util/ArrayDeque" "tail" "I") ∈ lw_all := lw_g (lw_at lw_m3 148 rfl) rfl
theorem q777 : (Jvm.Cond.lays "java/util/ArrayDeque" "java/util/ArrayDeque" "elements" "[Ljava/lang/Object;") ∈ lw_all := lw_g (lw_at lw_m3 149 rfl) rfl
theorem q778 : (Jvm.Cond.soleField "java/util/ArrayDeque" "elements") ∈ lw_all := lw_g (lw_at lw_m3 150 rfl) rfl
theorem q779 : (Jvm.Cond.lays "java/util/ArrayDeque" "java/util/ArrayDeque" "head" "I") ∈ lw_all := lw_g (lw_at lw_m3 151 rfl) rfl
theorem q780 : (Jvm.Cond.soleField "java/util/ArrayDeque" "head") ∈ lw_all := lw_g (lw_at lw_m3 152 rfl) rfl
theorem q781 : (Jvm.Cond.lays "java/util/ArrayDeque" "java/util/ArrayDeque" "tail" "I") ∈ lw_all := lw_g (lw_at lw_m3 153 rfl) rfl
theorem q782 : (Jvm.Cond.soleField "java/util/ArrayDeque" "tail") ∈ lw_all := lw_g (lw_at lw_m3 154 rfl) rfl
theorem q783 : (Jvm.Cond.superclass "java/util/ArrayDeque" "java/util/AbstractCollection") ∈ lw_all := lw_g (lw_at lw_m3 155 rfl) rfl
theorem q1215 : (Jvm.Cond.selects "java/util/ArrayDeque" ({ cls := "java/lang/Object", name := "getClass", desc := "()Ljava/lang/Class;" } : Jvm.MethodName) ({ cls := "java/lang/Object", name := "getClass", desc := "()Ljava/lang/Class;" } : Jvm.MethodName)) ∈ lw_all := lw_g (lw_at lw_m5 107 rfl) rfl
theorem q2067 : (Jvm.Cond.instanceMethod ({ cls := "java/util/ArrayDeque", name := "clear", desc := "()V" } : Jvm.MethodName)) ∈ lw_all := lw_g (lw_at lw_m8 239 rfl) rfl
theorem q2068 : (Jvm.Cond.selects "java/util/ArrayDeque" ({ cls := "java/util/ArrayDeque", name := "clear", desc := "()V" } : Jvm.MethodName) ({ cls := "java/util/ArrayDeque", name := "clear", desc := "()V" } : Jvm.MethodName)) ∈ lw_all := lw_g (lw_at lw_m9 0 rfl) rfl
theorem q2069 : (Jvm.Cond.code ({ cls := "java/util/ArrayDeque", name := "clear", desc := "()V" } : Jvm.MethodName) prog_50_method_53_code (1 : Nat) (Option.none : Option Jvm.ClassFile.FieldType)) ∈ lw_all := lw_g (lw_at lw_m9 1 rfl) rfl
theorem q2070 : (Jvm.Cond.methodLink "java/util/ArrayDeque" (181 : Nat) ({ cls := "java/util/ArrayDeque", name := "circularClear", desc := "([Ljava/lang/Object;II)V" } : Jvm.MethodName)) ∈ lw_all := lw_g (lw_at lw_m9 2 rfl) rfl
theorem q2071 : (Jvm.Cond.static ({ cls := "java/util/ArrayDeque", name := "circularClear", desc := "([Ljava/lang/Object;II)V" } : Jvm.MethodName)) ∈ lw_all := lw_g (lw_at lw_m9 3 rfl) rfl
theorem q2072 : (Jvm.Cond.code ({ cls := "java/util/ArrayDeque", name := "circularClear", desc := "([Ljava/lang/Object;II)V" } : Jvm.MethodName) prog_50_method_54_code (4 : Nat) (Option.none : Option Jvm.ClassFile.FieldType)) ∈ lw_all := lw_g (lw_at lw_m9 4 rfl) rfl
theorem q2127 : (Jvm.Cond.instanceMethod ({ cls := "java/util/ArrayDeque", name := "size", desc := "()I" } : Jvm.MethodName)) ∈ lw_all := lw_g (lw_at lw_m9 59 rfl) rfl
theorem q2128 : (Jvm.Cond.code ({ cls := "java/util/ArrayDeque", name := "size", desc := "()I" } : Jvm.MethodName) prog_50_method_37_code (1 : Nat) (Option.some Jvm.ClassFile.FieldType.int)) ∈ lw_all := lw_g (lw_at lw_m9 60 rfl) rfl
theorem q2129 : (Jvm.Cond.methodLink "java/util/ArrayDeque" (127 : Nat) ({ cls := "java/util/ArrayDeque", name := "sub", desc := "(III)I" } : Jvm.MethodName)) ∈ lw_all := lw_g (lw_at lw_m9 61 rfl) rfl
theorem q2130 : (Jvm.Cond.static ({ cls := "java/util/ArrayDeque", name := "sub", desc := "(III)I" } : Jvm.MethodName)) ∈ lw_all := lw_g (lw_at lw_m9 62 rfl) rfl
theorem q2131 : (Jvm.Cond.code ({ cls := "java/util/ArrayDeque", name := "sub", desc := "(III)I" } : Jvm.MethodName) prog_50_method_9_code (3 : Nat) (Option.some Jvm.ClassFile.FieldType.int)) ∈ lw_all := lw_g (lw_at lw_m9 63 rfl) rfl
theorem q2138 : (Jvm.Cond.instanceMethod ({ cls := "java/util/ArrayDeque", name := "removeFirst", desc := "()Ljava/lang/Object;" } : Jvm.MethodName)) ∈ lw_all := lw_g (lw_at lw_m9 70 rfl) rfl
theorem q2139 : (Jvm.Cond.selects "java/util/ArrayDeque" ({ cls := "java/util/ArrayDeque", name := "removeFirst", desc := "()Ljava/lang/Object;" } : Jvm.MethodName) ({ cls := "java/util/ArrayDeque", name := "removeFirst", desc := "()Ljava/lang/Object;" } : Jvm.MethodName)) ∈ lw_all := lw_g (lw_at lw_m9 71 rfl) rfl
theorem q2140 : (Jvm.Cond.code ({ cls := "java/util/ArrayDeque", name := "removeFirst", desc := "()Ljava/lang/Object;" } : Jvm.MethodName) prog_50_method_18_code (2 : Nat) (Option.some (Jvm.ClassFile.FieldType.object "java/lang/Object"))) ∈ lw_all := lw_g (lw_at lw_m9 72 rfl) rfl
theorem q2141 : (Jvm.Cond.methodLink "java/util/ArrayDeque" (93 : Nat) ({ cls := "java/util/ArrayDeque", name := "pollFirst", desc := "()Ljava/lang/Object;" } : Jvm.MethodName)) ∈ lw_all := lw_g (lw_at lw_m9 73 rfl) rfl
theorem q2142 : (Jvm.Cond.instanceMethod ({ cls := "java/util/ArrayDeque", name := "pollFirst", desc := "()Ljava/lang/Object;" } : Jvm.MethodName)) ∈ lw_all := lw_g (lw_at lw_m9 74 rfl) rfl
theorem q2143 : (Jvm.Cond.selects "java/util/ArrayDeque" ({ cls := "java/util/ArrayDeque", name := "pollFirst", desc := "()Ljava/lang/Object;" } : Jvm.MethodName) ({ cls := "java/util/ArrayDeque", name := "pollFirst", desc := "()Ljava/lang/Object;" } : Jvm.MethodName)) ∈ lw_all := lw_g (lw_at lw_m9 75 rfl) rfl
theorem q2144 : (Jvm.Cond.code ({ cls := "java/util/ArrayDeque", name := "pollFirst", desc := "()Ljava/lang/Object;" } : Jvm.MethodName) prog_50_method_20_code (4 : Nat) (Option.some (Jvm.ClassFile.FieldType.object "java/lang/Object"))) ∈ lw_all := lw_g (lw_at lw_m9 76 rfl) rfl
theorem q2145 : (Jvm.Cond.methodLink "java/util/ArrayDeque" (103 : Nat) ({ cls := "java/util/ArrayDeque", name := "elementAt", desc := "([Ljava/lang/Object;I)Ljava/lang/Object;" } : Jvm.MethodName)) ∈ lw_all := lw_g (lw_at lw_m9 77 rfl) rfl
theorem q2146 : (Jvm.Cond.static ({ cls := "java/util/ArrayDeque", name := "elementAt", desc := "([Ljava/lang/Object;I)Ljava/lang/Object;" } : Jvm.MethodName)) ∈ lw_all := lw_g (lw_at lw_m9 78 rfl) rfl
theorem q2147 : (Jvm.Cond.code ({ cls := "java/util/ArrayDeque", name := "elementAt", desc := "([Ljava/lang/Object;I)Ljava/lang/Object;" } : Jvm.MethodName) prog_50_method_10_code (2 : Nat) (Option.some (Jvm.ClassFile.FieldType.object "java/lang/Object"))) ∈ lw_all := lw_g (lw_at lw_m9 79 rfl) rfl
theorem q2148 : (Jvm.Cond.methodLink "java/util/ArrayDeque" (74 : Nat) ({ cls := "java/util/ArrayDeque", name := "inc", desc := "(II)I" } : Jvm.MethodName)) ∈ lw_all := lw_g (lw_at lw_m9 80 rfl) rfl
theorem q2149 : (Jvm.Cond.static ({ cls := "java/util/ArrayDeque", name := "inc", desc := "(II)I" } : Jvm.MethodName)) ∈ lw_all := lw_g (lw_at lw_m9 81 rfl) rfl
theorem q2150 : (Jvm.Cond.code ({ cls := "java/util/ArrayDeque", name := "inc", desc := "(II)I" } : Jvm.MethodName) prog_50_method_6_code (2 : Nat) (Option.some Jvm.ClassFile.FieldType.int)) ∈ lw_all := lw_g (lw_at lw_m9 82 rfl) rfl
theorem q2174 : (Jvm.Cond.instanceMethod ({ cls := "java/util/ArrayDeque", name := "addLast", desc := "(Ljava/lang/Object;)V" } : Jvm.MethodName)) ∈ lw_all := lw_g (lw_at lw_m9 106 rfl) rfl
theorem q2175 : (Jvm.Cond.selects "java/util/ArrayDeque" ({ cls := "java/util/ArrayDeque", name := "addLast", desc := "(Ljava/lang/Object;)V" } : Jvm.MethodName) ({ cls := "java/util/ArrayDeque", name := "addLast", desc := "(Ljava/lang/Object;)V" } : Jvm.MethodName)) ∈ lw_all := lw_g (lw_at lw_m9 107 rfl) rfl
theorem q2176 : (Jvm.Cond.code ({ cls := "java/util/ArrayDeque", name := "addLast", desc := "(Ljava/lang/Object;)V" } : Jvm.MethodName) prog_50_method_13_code (3 : Nat) (Option.none : Option Jvm.ClassFile.FieldType)) ∈ lw_all := lw_g (lw_at lw_m9 108 rfl) rfl
theorem q2177 : (Jvm.Cond.methodLink "java/util/ArrayDeque" (71 : Nat) ({ cls := "java/util/ArrayDeque", name := "grow", desc := "(I)V" } : Jvm.MethodName)) ∈ lw_all := lw_g (lw_at lw_m9 109 rfl) rfl
theorem q2178 : (Jvm.Cond.privateMethod ({ cls := "java/util/ArrayDeque", name := "grow", desc := "(I)V" } : Jvm.MethodName)) ∈ lw_tbl := lw_at lw_m9 110 rfl
theorem q2179 : (Jvm.Cond.instanceMethod ({ cls := "java/util/ArrayDeque", name := "grow", desc := "(I)V" } : Jvm.MethodName)) ∈ lw_all := lw_g (lw_at lw_m9 111 rfl) rfl
theorem q2180 : (Jvm.Cond.code ({ cls := "java/util/ArrayDeque", name := "grow", desc := "(I)V" } : Jvm.MethodName) prog_50_method_1_code (9 : Nat) (Option.none : Option Jvm.ClassFile.FieldType)) ∈ lw_all := lw_g (lw_at lw_m9 112 rfl) rfl
theorem q2181 : (Jvm.Cond.constant "java/util/ArrayDeque" (9 : Nat) (2147483639 : Int32)) ∈ lw_all := lw_g (lw_at lw_m9 113 rfl) rfl
theorem q2182 : (Jvm.Cond.methodLink "java/util/ArrayDeque" (10 : Nat) ({ cls := "java/util/ArrayDeque", name := "newCapacity", desc := "(II)I" } : Jvm.MethodName)) ∈ lw_all := lw_g (lw_at lw_m9 114 rfl) rfl
theorem q2183 : (Jvm.Cond.privateMethod ({ cls := "java/util/ArrayDeque", name := "newCapacity", desc := "(II)I" } : Jvm.MethodName)) ∈ lw_tbl := lw_at lw_m9 115 rfl
theorem q2184 : (Jvm.Cond.instanceMethod ({ cls := "java/util/ArrayDeque", name := "newCapacity", desc := "(II)I" } : Jvm.MethodName)) ∈ lw_all := lw_g (lw_at lw_m9 116 rfl) rfl
theorem q2185 : (Jvm.Cond.code ({ cls := "java/util/ArrayDeque", name := "newCapacity", desc := "(II)I" } : Jvm.MethodName) prog_50_method_2_code (5 : Nat) (Option.some Jvm.ClassFile.FieldType.int)) ∈ lw_all := lw_g (lw_at lw_m9 117 rfl) rfl
theorem q2186 : (Jvm.Cond.methodLink "java/util/ArrayDeque" (14 : Nat) ({ cls := "java/util/Arrays", name := "copyOf", desc := "([Ljava/lang/Object;I)[Ljava/lang/Object;" } : Jvm.MethodName)) ∈ lw_all := lw_g (lw_at lw_m9 118 rfl) rfl
theorem q2187 : (Jvm.Cond.methodLink "java/util/ArrayDeque" (27 : Nat) ({ cls := "java/lang/System", name := "arraycopy", desc := "(Ljava/lang/Object;ILjava/lang/Object;II)V" } : Jvm.MethodName)) ∈ lw_all := lw_g (lw_at lw_m9 119 rfl) rfl
theorem q2453 : (Jvm.Cond.instanceMethod ({ cls := "java/util/ArrayDeque", name := "isEmpty", desc := "()Z" } : Jvm.MethodName)) ∈ lw_all := lw_g (lw_at lw_m10 145 rfl) rfl
theorem q2454 : (Jvm.Cond.selects "java/util/ArrayDeque" ({ cls := "java/util/ArrayDeque", name := "isEmpty", desc := "()Z" } : Jvm.MethodName) ({ cls := "java/util/ArrayDeque", name := "isEmpty", desc := "()Z" } : Jvm.MethodName)) ∈ lw_all := lw_g (lw_at lw_m10 146 rfl) rfl
theorem q2455 : (Jvm.Cond.code ({ cls := "java/util/ArrayDeque", name := "isEmpty", desc := "()Z" } : Jvm.MethodName) prog_50_method_38_code (1 : Nat) (Option.some Jvm.ClassFile.FieldType.boolean)) ∈ lw_all := lw_g (lw_at lw_m10 147 rfl) rfl
theorem q2457 : (Jvm.Cond.instanceMethod ({ cls := "java/util/ArrayDeque", name := "removeLast", desc := "()Ljava/lang/Object;" } : Jvm.MethodName)) ∈ lw_all := lw_g (lw_at lw_m10 149 rfl) rfl
theorem q2458 : (Jvm.Cond.selects "java/util/ArrayDeque" ({ cls := "java/util/ArrayDeque", name := "removeLast", desc := "()Ljava/lang/Object;" } : Jvm.MethodName) ({ cls := "java/util/ArrayDeque", name := "removeLast", desc := "()Ljava/lang/Object;" } : Jvm.MethodName)) ∈ lw_all := lw_g (lw_at lw_m10 150 rfl) rfl
theorem q2459 : (Jvm.Cond.code ({ cls := "java/util/ArrayDeque", name := "removeLast", desc := "()Ljava/lang/Object;" } : Jvm.MethodName) prog_50_method_19_code (2 : Nat) (Option.some (Jvm.ClassFile.FieldType.object "java/lang/Object"))) ∈ lw_all := lw_g (lw_at lw_m10 151 rfl) rfl
theorem q2460 : (Jvm.Cond.methodLink "java/util/ArrayDeque" (100 : Nat) ({ cls := "java/util/ArrayDeque", name := "pollLast", desc := "()Ljava/lang/Object;" } : Jvm.MethodName)) ∈ lw_all := lw_g (lw_at lw_m10 152 rfl) rfl
theorem q2461 : (Jvm.Cond.instanceMethod ({ cls := "java/util/ArrayDeque", name := "pollLast", desc := "()Ljava/lang/Object;" } : Jvm.MethodName)) ∈ lw_all := lw_g (lw_at lw_m10 153 rfl) rfl
theorem q2462 : (Jvm.Cond.selects "java/util/ArrayDeque" ({ cls := "java/util/ArrayDeque", name := "pollLast", desc := "()Ljava/lang/Object;" } : Jvm.MethodName) ({ cls := "java/util/ArrayDeque", name := "pollLast", desc := "()Ljava/lang/Object;" } : Jvm.MethodName)) ∈ lw_all := lw_g (lw_at lw_m10 154 rfl) rfl
theorem q2463 : (Jvm.Cond.code ({ cls := "java/util/ArrayDeque", name := "pollLast", desc := "()Ljava/lang/Object;" } : Jvm.MethodName) prog_50_method_21_code (4 : Nat) (Option.some (Jvm.ClassFile.FieldType.object "java/lang/Object"))) ∈ lw_all := lw_g (lw_at lw_m10 155 rfl) rfl
theorem q2464 : (Jvm.Cond.methodLink "java/util/ArrayDeque" (68 : Nat) ({ cls := "java/util/ArrayDeque", name := "dec", desc := "(II)I" } : Jvm.MethodName)) ∈ lw_all := lw_g (lw_at lw_m10 156 rfl) rfl
theorem q2465 : (Jvm.Cond.static ({ cls := "java/util/ArrayDeque", name := "dec", desc := "(II)I" } : Jvm.MethodName)) ∈ lw_all := lw_g (lw_at lw_m10 157 rfl) rfl
theorem q2466 : (Jvm.Cond.code ({ cls := "java/util/ArrayDeque", name := "dec", desc := "(II)I" } : Jvm.MethodName) prog_50_method_7_code (2 : Nat) (Option.some Jvm.ClassFile.FieldType.int)) ∈ lw_all := lw_g (lw_at lw_m10 158 rfl) rfl
theorem q3613 : (Jvm.Cond.selects "java/util/ArrayDeque" ({ cls := "java/util/AbstractCollection", name := "size", desc := "()I" } : Jvm.MethodName) ({ cls := "java/util/ArrayDeque", name := "size", desc := "()I" } : Jvm.MethodName)) ∈ lw_all := lw_g (lw_at lw_m15 105 rfl) rfl
theorem q3616 : (Jvm.Cond.selects "java/util/ArrayDeque" ({ cls := "java/util/ArrayDeque", name := "size", desc := "()I" } : Jvm.MethodName) ({ cls := "java/util/ArrayDeque", name := "size", desc := "()I" } : Jvm.MethodName)) ∈ lw_all := lw_g (lw_at lw_m15 108 rfl) rfl
theorem q3633 : (Jvm.Cond.castable "java/util/ArrayDeque" "java/lang/Object") ∈ lw_tbl := lw_at lw_m15 125 rfl
theorem in_J22 : ∀ w ∈ wsJ220, w ∈ lw_all := lw_in wsJ220 [777, 779, 781] (by decide +kernel) (by decide +kernel)
/-! java/util/BitSet -/
def RJ23 : String := "java/util/BitSet"
def TJ23 : u_T := fun k => match k with
  | 0 => ("java/util/BitSet", "words", "[J", false)
  | 1 => ("java/util/BitSet", "wordsInUse", "I", false)
  | _ => ("java/util/BitSet", "sizeIsSticky", "Z", false)
def tyJ23 : Nat → FieldType := fun k => match k with
  | 0 => .array .long
  | 1 => .int
  | _ => .boolean
abbrev wsJ230 : List Cond := u_ws RJ23 TJ23 3
theorem nmJ23 : ∀ a, a < 3 → ∀ b, b < 3 → a ≠ b → (TJ23 a).2.1 ≠ (TJ23 b).2.1 := by decide +kernel
theorem tyJ23_ok : ∀ k, k < 3 → parseFieldDescriptor (TJ23 k).2.2.1 = some (tyJ23 k) := by decide +kernel
abbrev cJ23_init : ByteArray := prog_55_method_5_code
def yJ23_init : MethodName := ⟨RJ23, "<init>", "(I)V"⟩
abbrev cJ23_initWords : ByteArray := prog_55_method_6_code
def yJ23_initWords : MethodName := ⟨RJ23, "initWords", "(I)V"⟩
abbrev cJ23_wordIndex : ByteArray := prog_55_method_1_code
def yJ23_wordIndex : MethodName := ⟨RJ23, "wordIndex", "(I)I"⟩
abbrev cJ23_clear : ByteArray := prog_55_method_25_code
def yJ23_clear : MethodName := ⟨RJ23, "clear", "()V"⟩
abbrev cJ23_set : ByteArray := prog_55_method_19_code
def yJ23_set : MethodName := ⟨RJ23, "set", "(I)V"⟩
abbrev cJ23_expandTo : ByteArray := prog_55_method_15_code
def yJ23_expandTo : MethodName := ⟨RJ23, "expandTo", "(I)V"⟩
abbrev cJ23_ensureCapacity : ByteArray := prog_55_method_14_code
def yJ23_ensureCapacity : MethodName := ⟨RJ23, "ensureCapacity", "(I)V"⟩
abbrev cJ23_checkInvariants : ByteArray := prog_55_method_2_code
def yJ23_checkInvariants : MethodName := ⟨RJ23, "checkInvariants", "()V"⟩
abbrev cJ23_isEmpty : ByteArray := prog_55_method_33_code
def yJ23_isEmpty : MethodName := ⟨RJ23, "isEmpty", "()Z"⟩
abbrev cJ23_nextSetBit : ByteArray := prog_55_method_28_code
def yJ23_nextSetBit : MethodName := ⟨RJ23, "nextSetBit", "(I)I"⟩
abbrev cJ23_cardinality : ByteArray := prog_55_method_35_code
def yJ23_cardinality : MethodName := ⟨RJ23, "cardinality", "()I"⟩
theorem q176 : (Jvm.Cond.initialized "java/util/BitSet") ∈ lw_all := lw_g (lw_at lw_m1 28 rfl) rfl
theorem q786 : (Jvm.Cond.instantiable "java/util/BitSet" (3 : Nat)) ∈ lw_all := lw_g (lw_at lw_m3 158 rfl) rfl
theorem q788 : (Jvm.Cond.instanceMethod ({ cls := "java/util/BitSet", name := "<init>", desc := "(I)V" } : Jvm.MethodName)) ∈ lw_all := lw_g (lw_at lw_m3 160 rfl) rfl
theorem q789 : (Jvm.Cond.code ({ cls := "java/util/BitSet", name := "<init>", desc := "(I)V" } : Jvm.MethodName) prog_55_method_5_code (2 : Nat) (Option.none : Option Jvm.ClassFile.FieldType)) ∈ lw_all := lw_g (lw_at lw_m3 161 rfl) rfl
theorem q790 : (Jvm.Cond.methodLink "java/util/BitSet" (21 : Nat) ({ cls := "java/lang/Object", name := "<init>", desc := "()V" } : Jvm.MethodName)) ∈ lw_all := lw_g (lw_at lw_m3 162 rfl) rfl
theorem q791 : (Jvm.Cond.methodLink "java/util/BitSet" (27 : Nat) ({ cls := "java/util/BitSet", name := "initWords", desc := "(I)V" } : Jvm.MethodName)) ∈ lw_all := lw_g (lw_at lw_m3 163 rfl) rfl
theorem q792 : (Jvm.Cond.privateMethod ({ cls := "java/util/BitSet", name := "initWords", desc := "(I)V" } : Jvm.MethodName)) ∈ lw_tbl := lw_at lw_m3 164 rfl
theorem q793 : (Jvm.Cond.instanceMethod ({ cls := "java/util/BitSet", name := "initWords", desc := "(I)V" } : Jvm.MethodName)) ∈ lw_all := lw_g (lw_at lw_m3 165 rfl) rfl
theorem q794 : (Jvm.Cond.code ({ cls := "java/util/BitSet", name := "initWords", desc := "(I)V" } : Jvm.MethodName) prog_55_method_6_code (2 : Nat) (Option.none : Option Jvm.ClassFile.FieldType)) ∈ lw_all := lw_g (lw_at lw_m3 166 rfl) rfl
theorem q795 : (Jvm.Cond.methodLink "java/util/BitSet" (52 : Nat) ({ cls := "java/util/BitSet", name := "wordIndex", desc := "(I)I" } : Jvm.MethodName)) ∈ lw_all := lw_g (lw_at lw_m3 167 rfl) rfl
theorem q796 : (Jvm.Cond.static ({ cls := "java/util/BitSet", name := "wordIndex", desc := "(I)I" } : Jvm.MethodName)) ∈ lw_all := lw_g (lw_at lw_m3 168 rfl) rfl
theorem q797 : (Jvm.Cond.code ({ cls := "java/util/BitSet", name := "wordIndex", desc := "(I)I" } : Jvm.MethodName) prog_55_method_1_code (1 : Nat) (Option.some Jvm.ClassFile.FieldType.int)) ∈ lw_all := lw_g (lw_at lw_m3 169 rfl) rfl
theorem q798 : (Jvm.Cond.fieldLink "java/util/BitSet" (11 : Nat) "java/util/BitSet" "words" "[J") ∈ lw_all := lw_g (lw_at lw_m3 170 rfl) rfl
theorem q799 : (Jvm.Cond.fieldLink "java/util/BitSet" (7 : Nat) "java/util/BitSet" "wordsInUse" "I") ∈ lw_all := lw_g (lw_at lw_m3 171 rfl) rfl
theorem q800 : (Jvm.Cond.fieldLink "java/util/BitSet" (24 : Nat) "java/util/BitSet" "sizeIsSticky" "Z") ∈ lw_all := lw_g (lw_at lw_m3 172 rfl) rfl
theorem q801 : (Jvm.Cond.lays "java/util/BitSet" "java/util/BitSet" "words" "[J") ∈ lw_all := lw_g (lw_at lw_m3 173 rfl) rfl
theorem q802 : (Jvm.Cond.soleField "java/util/BitSet" "words") ∈ lw_all := lw_g (lw_at lw_m3 174 rfl) rfl
theorem q803 : (Jvm.Cond.lays "java/util/BitSet" "java/util/BitSet" "wordsInUse" "I") ∈ lw_all := lw_g (lw_at lw_m3 175 rfl) rfl
theorem q804 : (Jvm.Cond.soleField "java/util/BitSet" "wordsInUse") ∈ lw_all := lw_g (lw_at lw_m3 176 rfl) rfl
theorem q805 : (Jvm.Cond.lays "java/util/BitSet" "java/util/BitSet" "sizeIsSticky" "Z") ∈ lw_all := lw_g (lw_at lw_m3 177 rfl) rfl
theorem q806 : (Jvm.Cond.soleField "java/util/BitSet" "sizeIsSticky") ∈ lw_all := lw_g (lw_at lw_m3 178 rfl) rfl
theorem q807 : (Jvm.Cond.superclass "java/util/BitSet" "java/lang/Object") ∈ lw_all := lw_g (lw_at lw_m3 179 rfl) rfl
theorem q1219 : (Jvm.Cond.selects "java/util/BitSet" ({ cls := "java/lang/Object", name := "getClass", desc := "()Ljava/lang/Class;" } : Jvm.MethodName) ({ cls := "java/lang/Object", name := "getClass", desc := "()Ljava/lang/Class;" } : Jvm.MethodName)) ∈ lw_all := lw_g (lw_at lw_m5 111 rfl) rfl
theorem q2233 : (Jvm.Cond.instanceMethod ({ cls := "java/util/BitSet", name := "clear", desc := "()V" } : Jvm.MethodName)) ∈ lw_all := lw_g (lw_at lw_m9 165 rfl) rfl
theorem q2234 : (Jvm.Cond.selects "java/util/BitSet" ({ cls := "java/util/BitSet", name := "clear", desc := "()V" } : Jvm.MethodName) ({ cls := "java/util/BitSet", name := "clear", desc := "()V" } : Jvm.MethodName)) ∈ lw_all := lw_g (lw_at lw_m9 166 rfl) rfl
theorem q2235 : (Jvm.Cond.code ({ cls := "java/util/BitSet", name := "clear", desc := "()V" } : Jvm.MethodName) prog_55_method_25_code (1 : Nat) (Option.none : Option Jvm.ClassFile.FieldType)) ∈ lw_all := lw_g (lw_at lw_m9 167 rfl) rfl
theorem q2254 : (Jvm.Cond.instanceMethod ({ cls := "java/util/BitSet", name := "set", desc := "(I)V" } : Jvm.MethodName)) ∈ lw_all := lw_g (lw_at lw_m9 186 rfl) rfl
theorem q2255 : (Jvm.Cond.selects "java/util/BitSet" ({ cls := "java/util/BitSet", name := "set", desc := "(I)V" } : Jvm.MethodName) ({ cls := "java/util/BitSet", name := "set", desc := "(I)V" } : Jvm.MethodName)) ∈ lw_all := lw_g (lw_at lw_m9 187 rfl) rfl
theorem q2256 : (Jvm.Cond.code ({ cls := "java/util/BitSet", name := "set", desc := "(I)V" } : Jvm.MethodName) prog_55_method_19_code (3 : Nat) (Option.none : Option Jvm.ClassFile.FieldType)) ∈ lw_all := lw_g (lw_at lw_m9 188 rfl) rfl
theorem q2257 : (Jvm.Cond.classLink "java/util/BitSet" (142 : Nat) "java/lang/IndexOutOfBoundsException") ∈ lw_all := lw_g (lw_at lw_m9 189 rfl) rfl
theorem q2258 : (Jvm.Cond.classLink "java/util/BitSet" (33 : Nat) "java/lang/StringBuilder") ∈ lw_all := lw_g (lw_at lw_m9 190 rfl) rfl
theorem q2259 : (Jvm.Cond.methodLink "java/util/BitSet" (35 : Nat) ({ cls := "java/lang/StringBuilder", name := "<init>", desc := "()V" } : Jvm.MethodName)) ∈ lw_all := lw_g (lw_at lw_m9 191 rfl) rfl
theorem q2260 : (Jvm.Cond.stringRef "java/util/BitSet" (153 : Nat) "bitIndex < 0: ") ∈ lw_tbl := lw_at lw_m9 192 rfl
theorem q2261 : (Jvm.Cond.methodLink "java/util/BitSet" (38 : Nat) ({ cls := "java/lang/StringBuilder", name := "append", desc := "(Ljava/lang/String;)Ljava/lang/StringBuilder;" } : Jvm.MethodName)) ∈ lw_all := lw_g (lw_at lw_m9 193 rfl) rfl
theorem q2262 : (Jvm.Cond.methodLink "java/util/BitSet" (42 : Nat) ({ cls := "java/lang/StringBuilder", name := "append", desc := "(I)Ljava/lang/StringBuilder;" } : Jvm.MethodName)) ∈ lw_all := lw_g (lw_at lw_m9 194 rfl) rfl
theorem q2263 : (Jvm.Cond.methodLink "java/util/BitSet" (45 : Nat) ({ cls := "java/lang/StringBuilder", name := "toString", desc := "()Ljava/lang/String;" } : Jvm.MethodName)) ∈ lw_all := lw_g (lw_at lw_m9 195 rfl) rfl
theorem q2264 : (Jvm.Cond.methodLink "java/util/BitSet" (146 : Nat) ({ cls := "java/lang/IndexOutOfBoundsException", name := "<init>", desc := "(Ljava/lang/String;)V" } : Jvm.MethodName)) ∈ lw_all := lw_g (lw_at lw_m9 196 rfl) rfl
theorem q2265 : (Jvm.Cond.methodLink "java/util/BitSet" (155 : Nat) ({ cls := "java/util/BitSet", name := "expandTo", desc := "(I)V" } : Jvm.MethodName)) ∈ lw_all := lw_g (lw_at lw_m9 197 rfl) rfl
theorem q2266 : (Jvm.Cond.privateMethod ({ cls := "java/util/BitSet", name := "expandTo", desc := "(I)V" } : Jvm.MethodName)) ∈ lw_tbl := lw_at lw_m9 198 rfl
theorem q2267 : (Jvm.Cond.instanceMethod ({ cls := "java/util/BitSet", name := "expandTo", desc := "(I)V" } : Jvm.MethodName)) ∈ lw_all := lw_g (lw_at lw_m9 199 rfl) rfl
theorem q2268 : (Jvm.Cond.code ({ cls := "java/util/BitSet", name := "expandTo", desc := "(I)V" } : Jvm.MethodName) prog_55_method_15_code (3 : Nat) (Option.none : Option Jvm.ClassFile.FieldType)) ∈ lw_all := lw_g (lw_at lw_m9 200 rfl) rfl
theorem q2269 : (Jvm.Cond.methodLink "java/util/BitSet" (139 : Nat) ({ cls := "java/util/BitSet", name := "ensureCapacity", desc := "(I)V" } : Jvm.MethodName)) ∈ lw_all := lw_g (lw_at lw_m9 201 rfl) rfl
theorem q2270 : (Jvm.Cond.privateMethod ({ cls := "java/util/BitSet", name := "ensureCapacity", desc := "(I)V" } : Jvm.MethodName)) ∈ lw_tbl := lw_at lw_m9 202 rfl
theorem q2271 : (Jvm.Cond.instanceMethod ({ cls := "java/util/BitSet", name := "ensureCapacity", desc := "(I)V" } : Jvm.MethodName)) ∈ lw_all := lw_g (lw_at lw_m9 203 rfl) rfl
theorem q2272 : (Jvm.Cond.code ({ cls := "java/util/BitSet", name := "ensureCapacity", desc := "(I)V" } : Jvm.MethodName) prog_55_method_14_code (3 : Nat) (Option.none : Option Jvm.ClassFile.FieldType)) ∈ lw_all := lw_g (lw_at lw_m9 204 rfl) rfl
theorem q2273 : (Jvm.Cond.methodLink "java/util/BitSet" (133 : Nat) ({ cls := "java/lang/Math", name := "max", desc := "(II)I" } : Jvm.MethodName)) ∈ lw_all := lw_g (lw_at lw_m9 205 rfl) rfl
theorem q2274 : (Jvm.Cond.methodLink "java/util/BitSet" (59 : Nat) ({ cls := "java/util/Arrays", name := "copyOf", desc := "([JI)[J" } : Jvm.MethodName)) ∈ lw_all := lw_g (lw_at lw_m9 206 rfl) rfl
theorem q2282 : (Jvm.Cond.methodLink "java/util/BitSet" (56 : Nat) ({ cls := "java/util/BitSet", name := "checkInvariants", desc := "()V" } : Jvm.MethodName)) ∈ lw_all := lw_g (lw_at lw_m9 214 rfl) rfl
theorem q2283 : (Jvm.Cond.privateMethod ({ cls := "java/util/BitSet", name := "checkInvariants", desc := "()V" } : Jvm.MethodName)) ∈ lw_tbl := lw_at lw_m9 215 rfl
theorem q2284 : (Jvm.Cond.instanceMethod ({ cls := "java/util/BitSet", name := "checkInvariants", desc := "()V" } : Jvm.MethodName)) ∈ lw_all := lw_g (lw_at lw_m9 216 rfl) rfl
theorem q2285 : (Jvm.Cond.code ({ cls := "java/util/BitSet", name := "checkInvariants", desc := "()V" } : Jvm.MethodName) prog_55_method_2_code (1 : Nat) (Option.none : Option Jvm.ClassFile.FieldType)) ∈ lw_all := lw_g (lw_at lw_m9 217 rfl) rfl
theorem q2286 : (Jvm.Cond.fieldLink "java/util/BitSet" (3 : Nat) "java/util/BitSet" "$assertionsDisabled" "Z") ∈ lw_all := lw_g (lw_at lw_m9 218 rfl) rfl
theorem q2287 : (Jvm.Cond.laysStatic "java/util/BitSet" "$assertionsDisabled" "Z") ∈ lw_tbl := lw_at lw_m9 219 rfl
theorem q2289 : (Jvm.Cond.instanceMethod ({ cls := "java/util/BitSet", name := "isEmpty", desc := "()Z" } : Jvm.MethodName)) ∈ lw_all := lw_g (lw_at lw_m9 221 rfl) rfl
theorem q2290 : (Jvm.Cond.selects "java/util/BitSet" ({ cls := "java/util/BitSet", name := "isEmpty", desc := "()Z" } : Jvm.MethodName) ({ cls := "java/util/BitSet", name := "isEmpty", desc := "()Z" } : Jvm.MethodName)) ∈ lw_all := lw_g (lw_at lw_m9 222 rfl) rfl
theorem q2291 : (Jvm.Cond.code ({ cls := "java/util/BitSet", name := "isEmpty", desc := "()Z" } : Jvm.MethodName) prog_55_method_33_code (1 : Nat) (Option.some Jvm.ClassFile.FieldType.boolean)) ∈ lw_all := lw_g (lw_at lw_m9 223 rfl) rfl
theorem q2293 : (Jvm.Cond.instanceMethod ({ cls := "java/util/BitSet", name := "nextSetBit", desc := "(I)I" } : Jvm.MethodName)) ∈ lw_all := lw_g (lw_at lw_m9 225 rfl) rfl
theorem q2294 : (Jvm.Cond.selects "java/util/BitSet" ({ cls := "java/util/BitSet", name := "nextSetBit", desc := "(I)I" } : Jvm.MethodName) ({ cls := "java/util/BitSet", name := "nextSetBit", desc := "(I)I" } : Jvm.MethodName)) ∈ lw_all := lw_g (lw_at lw_m9 226 rfl) rfl
theorem q2295 : (Jvm.Cond.code ({ cls := "java/util/BitSet", name := "nextSetBit", desc := "(I)I" } : Jvm.MethodName) prog_55_method_28_code (5 : Nat) (Option.some Jvm.ClassFile.FieldType.int)) ∈ lw_all := lw_g (lw_at lw_m9 227 rfl) rfl
theorem q2296 : (Jvm.Cond.stringRef "java/util/BitSet" (144 : Nat) "fromIndex < 0: ") ∈ lw_tbl := lw_at lw_m9 228 rfl
theorem q2297 : (Jvm.Cond.constantLong "java/util/BitSet" (165 : Nat) (-1 : Int64)) ∈ lw_all := lw_g (lw_at lw_m9 229 rfl) rfl
theorem q2298 : (Jvm.Cond.methodLink "java/util/BitSet" (182 : Nat) ({ cls := "java/lang/Long", name := "numberOfTrailingZeros", desc := "(J)I" } : Jvm.MethodName)) ∈ lw_all := lw_g (lw_at lw_m9 230 rfl) rfl
theorem q2722 : (Jvm.Cond.instanceMethod ({ cls := "java/util/BitSet", name := "cardinality", desc := "()I" } : Jvm.MethodName)) ∈ lw_all := lw_g (lw_at lw_m11 174 rfl) rfl
theorem q2723 : (Jvm.Cond.selects "java/util/BitSet" ({ cls := "java/util/BitSet", name := "cardinality", desc := "()I" } : Jvm.MethodName) ({ cls := "java/util/BitSet", name := "cardinality", desc := "()I" } : Jvm.MethodName)) ∈ lw_all := lw_g (lw_at lw_m11 175 rfl) rfl
theorem q2724 : (Jvm.Cond.code ({ cls := "java/util/BitSet", name := "cardinality", desc := "()I" } : Jvm.MethodName) prog_55_method_35_code (3 : Nat) (Option.some Jvm.ClassFile.FieldType.int)) ∈ lw_all := lw_g (lw_at lw_m11 176 rfl) rfl
theorem q2725 : (Jvm.Cond.methodLink "java/util/BitSet" (196 : Nat) ({ cls := "java/lang/Long", name := "bitCount", desc := "(J)I" } : Jvm.MethodName)) ∈ lw_all := lw_g (lw_at lw_m11 177 rfl) rfl
theorem q3634 : (Jvm.Cond.castable "java/util/BitSet" "java/lang/Object") ∈ lw_tbl := lw_at lw_m15 126 rfl
theorem in_J23 : ∀ w ∈ wsJ230, w ∈ lw_all := lw_in wsJ230 [801, 803, 805] (by decide +kernel) (by decide +kernel)
/-! HintTeam$Move -/
def RX4 : String := "HintTeam$Move"
abbrev cX4_init : ByteArray := prog_10_method_1_code
def yX4_init : MethodName := ⟨RX4, "<init>", "(LHintTeam;)V"⟩
abbrev cX4_part : ByteArray := prog_10_method_4_code
def yX4_part : MethodName := ⟨RX4, "part", "(I)I"⟩
theorem q177 : (Jvm.Cond.initialized "HintTeam$Move") ∈ lw_all := lw_g (lw_at lw_m1 29 rfl) rfl
theorem q815 : (Jvm.Cond.instanceMethod ({ cls := "HintTeam$Move", name := "<init>", desc := "(LHintTeam;)V" } : Jvm.MethodName)) ∈ lw_all := lw_g (lw_at lw_m3 187 rfl) rfl
theorem q816 : (Jvm.Cond.code ({ cls := "HintTeam$Move", name := "<init>", desc := "(LHintTeam;)V" } : Jvm.MethodName) prog_10_method_1_code (2 : Nat) (Option.none : Option Jvm.ClassFile.FieldType)) ∈ lw_all := lw_g (lw_at lw_m3 188 rfl) rfl
theorem q817 : (Jvm.Cond.methodLink "HintTeam$Move" (9 : Nat) ({ cls := "java/lang/Object", name := "<init>", desc := "()V" } : Jvm.MethodName)) ∈ lw_all := lw_g (lw_at lw_m3 189 rfl) rfl
theorem q819 : (Jvm.Cond.fieldLink "HintTeam$Move" (3 : Nat) "HintTeam$Move" "this$0" "LHintTeam;") ∈ lw_all := lw_g (lw_at lw_m3 191 rfl) rfl
theorem q823 : (Jvm.Cond.soleField "HintTeam$Move" "this$0") ∈ lw_all := lw_g (lw_at lw_m3 195 rfl) rfl
theorem q2383 : (Jvm.Cond.declares ({ cls := "HintTeam$Move", name := "run", desc := "()V" } : Jvm.MethodName)) ∈ lw_tbl := lw_at lw_m10 75 rfl
theorem q2384 : (Jvm.Cond.sameMethod "HintTeam$Move" "HintTeam$Move" "run" "()V") ∈ lw_all := lw_g (lw_at lw_m10 76 rfl) rfl
theorem q2811 : (Jvm.Cond.declares ({ cls := "HintTeam$Move", name := "kind", desc := "()I" } : Jvm.MethodName)) ∈ lw_tbl := lw_at lw_m12 23 rfl
theorem q2812 : (Jvm.Cond.sameMethod "HintTeam$Move" "HintTeam$Move" "kind" "()I") ∈ lw_all := lw_g (lw_at lw_m12 24 rfl) rfl
theorem q2823 : (Jvm.Cond.instanceMethod ({ cls := "HintTeam$Move", name := "part", desc := "(I)I" } : Jvm.MethodName)) ∈ lw_all := lw_g (lw_at lw_m12 35 rfl) rfl
theorem q2824 : (Jvm.Cond.sameMethod "HintTeam$Move" "HintTeam$Move" "part" "(I)I") ∈ lw_all := lw_g (lw_at lw_m12 36 rfl) rfl
theorem q2832 : (Jvm.Cond.code ({ cls := "HintTeam$Move", name := "part", desc := "(I)I" } : Jvm.MethodName) prog_10_method_4_code (2 : Nat) (Option.some Jvm.ClassFile.FieldType.int)) ∈ lw_all := lw_g (lw_at lw_m12 44 rfl) rfl
/-! HintTeam$2 -/
def RX5 : String := "HintTeam$2"
def TX5 : u_T := fun k => match k with
  | 0 => ("HintTeam$Move", "this$0", "LHintTeam;", true)
  | _ => ("HintTeam$2", "this$0", "LHintTeam;", true)
def tyX5 : Nat → FieldType := fun k => match k with
  | 0 => .object "HintTeam"
  | _ => .object "HintTeam"
abbrev wsX50 : List Cond := u_ws RX5 TX5 2
-- two fields of one name: no nmX5
theorem tyX5_ok : ∀ k, k < 2 → parseFieldDescriptor (TX5 k).2.2.1 = some (tyX5 k) := by decide +kernel
abbrev cX5_init : ByteArray := prog_3_method_1_code
def yX5_init : MethodName := ⟨RX5, "<init>", "(LHintTeam;)V"⟩
abbrev cX5_run : ByteArray := prog_3_method_3_code
def yX5_run : MethodName := ⟨RX5, "run", "()V"⟩
abbrev cX5_kind : ByteArray := prog_3_method_2_code
def yX5_kind : MethodName := ⟨RX5, "kind", "()I"⟩
theorem q178 : (Jvm.Cond.initialized "HintTeam$2") ∈ lw_all := lw_g (lw_at lw_m1 30 rfl) rfl
theorem q810 : (Jvm.Cond.instantiable "HintTeam$2" (2 : Nat)) ∈ lw_all := lw_g (lw_at lw_m3 182 rfl) rfl
theorem q812 : (Jvm.Cond.instanceMethod ({ cls := "HintTeam$2", name := "<init>", desc := "(LHintTeam;)V" } : Jvm.MethodName)) ∈ lw_all := lw_g (lw_at lw_m3 184 rfl) rfl
theorem q813 : (Jvm.Cond.code ({ cls := "HintTeam$2", name := "<init>", desc := "(LHintTeam;)V" } : Jvm.MethodName) prog_3_method_1_code (2 : Nat) (Option.none : Option Jvm.ClassFile.FieldType)) ∈ lw_all := lw_g (lw_at lw_m3 185 rfl) rfl
theorem q814 : (Jvm.Cond.methodLinkNest "HintTeam$2" (9 : Nat) ({ cls := "HintTeam$Move", name := "<init>", desc := "(LHintTeam;)V" } : Jvm.MethodName) "HintTeam") ∈ lw_tbl := lw_at lw_m3 186 rfl
theorem q818 : (Jvm.Cond.fieldLink "HintTeam$2" (3 : Nat) "HintTeam$2" "this$0" "LHintTeam;") ∈ lw_all := lw_g (lw_at lw_m3 190 rfl) rfl
theorem q820 : (Jvm.Cond.laysFinal "HintTeam$2" "HintTeam$2" "this$0" "LHintTeam;") ∈ lw_all := lw_g (lw_at lw_m3 192 rfl) rfl
theorem q821 : (Jvm.Cond.soleField "HintTeam$2" "this$0") ∈ lw_all := lw_g (lw_at lw_m3 193 rfl) rfl
theorem q822 : (Jvm.Cond.laysFinal "HintTeam$2" "HintTeam$Move" "this$0" "LHintTeam;") ∈ lw_all := lw_g (lw_at lw_m3 194 rfl) rfl
theorem q824 : (Jvm.Cond.superclass "HintTeam$2" "HintTeam$Move") ∈ lw_all := lw_g (lw_at lw_m3 196 rfl) rfl
theorem q859 : (Jvm.Cond.fieldLinkNest "HintTeam$2" (15 : Nat) "HintTeam" "table" "LHintTeam$Table;" "HintTeam") ∈ lw_tbl := lw_at lw_m3 231 rfl
theorem q1195 : (Jvm.Cond.selects "HintTeam$2" ({ cls := "java/lang/Object", name := "getClass", desc := "()Ljava/lang/Class;" } : Jvm.MethodName) ({ cls := "java/lang/Object", name := "getClass", desc := "()Ljava/lang/Class;" } : Jvm.MethodName)) ∈ lw_all := lw_g (lw_at lw_m5 87 rfl) rfl
theorem q2420 : (Jvm.Cond.selects "HintTeam$2" ({ cls := "HintTeam$Move", name := "run", desc := "()V" } : Jvm.MethodName) ({ cls := "HintTeam$2", name := "run", desc := "()V" } : Jvm.MethodName)) ∈ lw_all := lw_g (lw_at lw_m10 112 rfl) rfl
theorem q2421 : (Jvm.Cond.instanceMethod ({ cls := "HintTeam$2", name := "run", desc := "()V" } : Jvm.MethodName)) ∈ lw_all := lw_g (lw_at lw_m10 113 rfl) rfl
theorem q2422 : (Jvm.Cond.code ({ cls := "HintTeam$2", name := "run", desc := "()V" } : Jvm.MethodName) prog_3_method_3_code (1 : Nat) (Option.none : Option Jvm.ClassFile.FieldType)) ∈ lw_all := lw_g (lw_at lw_m10 114 rfl) rfl
theorem q2423 : (Jvm.Cond.methodLink "HintTeam$2" (19 : Nat) ({ cls := "HintTeam$Table", name := "pass", desc := "()V" } : Jvm.MethodName)) ∈ lw_all := lw_g (lw_at lw_m10 115 rfl) rfl
theorem q2816 : (Jvm.Cond.selects "HintTeam$2" ({ cls := "HintTeam$Move", name := "kind", desc := "()I" } : Jvm.MethodName) ({ cls := "HintTeam$2", name := "kind", desc := "()I" } : Jvm.MethodName)) ∈ lw_all := lw_g (lw_at lw_m12 28 rfl) rfl
theorem q2817 : (Jvm.Cond.instanceMethod ({ cls := "HintTeam$2", name := "kind", desc := "()I" } : Jvm.MethodName)) ∈ lw_all := lw_g (lw_at lw_m12 29 rfl) rfl
theorem q2818 : (Jvm.Cond.code ({ cls := "HintTeam$2", name := "kind", desc := "()I" } : Jvm.MethodName) prog_3_method_2_code (1 : Nat) (Option.some Jvm.ClassFile.FieldType.int)) ∈ lw_all := lw_g (lw_at lw_m12 30 rfl) rfl
theorem q2828 : (Jvm.Cond.selects "HintTeam$2" ({ cls := "HintTeam$Move", name := "part", desc := "(I)I" } : Jvm.MethodName) ({ cls := "HintTeam$Move", name := "part", desc := "(I)I" } : Jvm.MethodName)) ∈ lw_all := lw_g (lw_at lw_m12 40 rfl) rfl
theorem q3635 : (Jvm.Cond.castable "HintTeam$2" "java/lang/Object") ∈ lw_tbl := lw_at lw_m15 127 rfl
theorem in_X5 : ∀ w ∈ wsX50, w ∈ lw_all := lw_in wsX50 [822, 820] (by decide +kernel) (by decide +kernel)
/-! HintTeam$Explorer -/
def RX6 : String := "HintTeam$Explorer"
def TX6 : u_T := fun k => match k with
  | 0 => ("HintTeam$Explorer", "hands", "[[J", true)
  | 1 => ("HintTeam$Explorer", "rests", "[J", true)
  | 2 => ("HintTeam$Explorer", "fresh", "[J", true)
  | 3 => ("HintTeam$Explorer", "places", "[I", true)
  | 4 => ("HintTeam$Explorer", "many", "I", false)
  | 5 => ("HintTeam$Explorer", "best", "I", false)
  | _ => ("HintTeam$Explorer", "this$0", "LHintTeam;", true)
def tyX6 : Nat → FieldType := fun k => match k with
  | 0 => .array (.array .long)
  | 1 => .array .long
  | 2 => .array .long
  | 3 => .array .int
  | 4 => .int
  | 5 => .int
  | _ => .object "HintTeam"
abbrev wsX60 : List Cond := u_ws RX6 TX6 7
theorem nmX6 : ∀ a, a < 7 → ∀ b, b < 7 → a ≠ b → (TX6 a).2.1 ≠ (TX6 b).2.1 := by decide +kernel
theorem tyX6_ok : ∀ k, k < 7 → parseFieldDescriptor (TX6 k).2.2.1 = some (tyX6 k) := by decide +kernel
abbrev cX6_init : ByteArray := prog_5_method_1_code
def yX6_init : MethodName := ⟨RX6, "<init>", "(LHintTeam;)V"⟩
abbrev cX6_told : ByteArray := prog_5_method_7_code
def yX6_told : MethodName := ⟨RX6, "told", "()J"⟩
abbrev cX6_value : ByteArray := prog_5_method_17_code
def yX6_value : MethodName := ⟨RX6, "value", "(J)I"⟩
abbrev cX6_from : ByteArray := prog_5_method_16_code
def yX6_from : MethodName := ⟨RX6, "from", "(J)I"⟩
abbrev cX6_comes : ByteArray := prog_5_method_11_code
def yX6_comes : MethodName := ⟨RX6, "comes", "(J)Z"⟩
abbrev cX6_isAt : ByteArray := prog_5_method_10_code
def yX6_isAt : MethodName := ⟨RX6, "isAt", "(IJ)Z"⟩
abbrev cX6_score : ByteArray := prog_5_method_5_code
def yX6_score : MethodName := ⟨RX6, "score", "(J)I"⟩
abbrev cX6_pile : ByteArray := prog_5_method_3_code
def yX6_pile : MethodName := ⟨RX6, "pile", "(JI)I"⟩
abbrev cX6_part : ByteArray := prog_5_method_2_code
def yX6_part : MethodName := ⟨RX6, "part", "(JII)I"⟩
abbrev cX6_goesOn : ByteArray := prog_5_method_15_code
def yX6_goesOn : MethodName := ⟨RX6, "goesOn", "(I)Z"⟩
abbrev cX6_isOver : ByteArray := prog_5_method_6_code
def yX6_isOver : MethodName := ⟨RX6, "isOver", "(J)Z"⟩
abbrev cX6_left : ByteArray := prog_5_method_4_code
def yX6_left : MethodName := ⟨RX6, "left", "(J)I"⟩
abbrev cX6_moves : ByteArray := prog_5_method_13_code
def yX6_moves : MethodName := ⟨RX6, "moves", "(III)Z"⟩
abbrev cX6_isFresh : ByteArray := prog_5_method_12_code
def yX6_isFresh : MethodName := ⟨RX6, "isFresh", "(I)V"⟩
abbrev cX6_behind : ByteArray := prog_5_method_8_code
def yX6_behind : MethodName := ⟨RX6, "behind", "(JII)J"⟩
abbrev cX6_ended : ByteArray := prog_5_method_9_code
def yX6_ended : MethodName := ⟨RX6, "ended", "(JIZ)J"⟩
abbrev cX6_canPlay : ByteArray := prog_5_method_14_code
def yX6_canPlay : MethodName := ⟨RX6, "canPlay", "(JI)Z"⟩
theorem q179 : (Jvm.Cond.initialized "HintTeam$Explorer") ∈ lw_all := lw_g (lw_at lw_m1 31 rfl) rfl
theorem q290 : (Jvm.Cond.fieldLinkNest "HintTeam$Explorer" (56 : Nat) "HintTeam$Rules" "colors" "I" "HintTeam") ∈ lw_tbl := lw_at lw_m1 142 rfl
theorem q295 : (Jvm.Cond.fieldLinkNest "HintTeam$Explorer" (62 : Nat) "HintTeam$Rules" "ranks" "I" "HintTeam") ∈ lw_tbl := lw_at lw_m1 147 rfl
theorem q301 : (Jvm.Cond.fieldLinkNest "HintTeam$Explorer" (135 : Nat) "HintTeam$Rules" "players" "I" "HintTeam") ∈ lw_tbl := lw_at lw_m1 153 rfl
theorem q307 : (Jvm.Cond.fieldLinkNest "HintTeam$Explorer" (118 : Nat) "HintTeam$Rules" "most" "I" "HintTeam") ∈ lw_tbl := lw_at lw_m1 159 rfl
theorem q318 : (Jvm.Cond.fieldLinkNest "HintTeam$Explorer" (107 : Nat) "HintTeam$Rules" "deck" "Ljava/util/List;" "HintTeam") ∈ lw_tbl := lw_at lw_m1 170 rfl
theorem q706 : (Jvm.Cond.fieldLinkNest "HintTeam$Explorer" (50 : Nat) "HintTeam$Table" "rules" "LHintTeam$Rules;" "HintTeam") ∈ lw_tbl := lw_at lw_m3 78 rfl
theorem q709 : (Jvm.Cond.fieldLinkNest "HintTeam$Explorer" (79 : Nat) "HintTeam$Table" "hands" "Ljava/util/List;" "HintTeam") ∈ lw_tbl := lw_at lw_m3 81 rfl
theorem q714 : (Jvm.Cond.fieldLinkNest "HintTeam$Explorer" (76 : Nat) "HintTeam$Table" "piles" "[I" "HintTeam") ∈ lw_tbl := lw_at lw_m3 86 rfl
theorem q723 : (Jvm.Cond.fieldLinkNest "HintTeam$Explorer" (73 : Nat) "HintTeam$Table" "next" "I" "HintTeam") ∈ lw_tbl := lw_at lw_m3 95 rfl
theorem q726 : (Jvm.Cond.fieldLinkNest "HintTeam$Explorer" (65 : Nat) "HintTeam$Table" "tokens" "I" "HintTeam") ∈ lw_tbl := lw_at lw_m3 98 rfl
theorem q732 : (Jvm.Cond.fieldLinkNest "HintTeam$Explorer" (68 : Nat) "HintTeam$Table" "turn" "I" "HintTeam") ∈ lw_tbl := lw_at lw_m3 104 rfl
theorem q737 : (Jvm.Cond.fieldLinkNest "HintTeam$Explorer" (71 : Nat) "HintTeam$Table" "left" "I" "HintTeam") ∈ lw_tbl := lw_at lw_m3 109 rfl
theorem q826 : (Jvm.Cond.instantiable "HintTeam$Explorer" (7 : Nat)) ∈ lw_all := lw_g (lw_at lw_m3 198 rfl) rfl
theorem q828 : (Jvm.Cond.instanceMethod ({ cls := "HintTeam$Explorer", name := "<init>", desc := "(LHintTeam;)V" } : Jvm.MethodName)) ∈ lw_all := lw_g (lw_at lw_m3 200 rfl) rfl
theorem q829 : (Jvm.Cond.code ({ cls := "HintTeam$Explorer", name := "<init>", desc := "(LHintTeam;)V" } : Jvm.MethodName) prog_5_method_1_code (2 : Nat) (Option.none : Option Jvm.ClassFile.FieldType)) ∈ lw_all := lw_g (lw_at lw_m3 201 rfl) rfl
theorem q830 : (Jvm.Cond.methodLink "HintTeam$Explorer" (9 : Nat) ({ cls := "java/lang/Object", name := "<init>", desc := "()V" } : Jvm.MethodName)) ∈ lw_all := lw_g (lw_at lw_m3 202 rfl) rfl
theorem q831 : (Jvm.Cond.classLink "HintTeam$Explorer" (15 : Nat) "[[J") ∈ lw_all := lw_g (lw_at lw_m3 203 rfl) rfl
theorem q833 : (Jvm.Cond.fieldLink "HintTeam$Explorer" (17 : Nat) "HintTeam$Explorer" "hands" "[[J") ∈ lw_all := lw_g (lw_at lw_m3 205 rfl) rfl
theorem q834 : (Jvm.Cond.fieldLink "HintTeam$Explorer" (20 : Nat) "HintTeam$Explorer" "rests" "[J") ∈ lw_all := lw_g (lw_at lw_m3 206 rfl) rfl
theorem q835 : (Jvm.Cond.fieldLink "HintTeam$Explorer" (24 : Nat) "HintTeam$Explorer" "fresh" "[J") ∈ lw_all := lw_g (lw_at lw_m3 207 rfl) rfl
theorem q836 : (Jvm.Cond.fieldLink "HintTeam$Explorer" (27 : Nat) "HintTeam$Explorer" "places" "[I") ∈ lw_all := lw_g (lw_at lw_m3 208 rfl) rfl
theorem q837 : (Jvm.Cond.fieldLink "HintTeam$Explorer" (146 : Nat) "HintTeam$Explorer" "many" "I") ∈ lw_all := lw_g (lw_at lw_m3 209 rfl) rfl
theorem q838 : (Jvm.Cond.fieldLink "HintTeam$Explorer" (149 : Nat) "HintTeam$Explorer" "best" "I") ∈ lw_all := lw_g (lw_at lw_m3 210 rfl) rfl
theorem q839 : (Jvm.Cond.fieldLink "HintTeam$Explorer" (3 : Nat) "HintTeam$Explorer" "this$0" "LHintTeam;") ∈ lw_all := lw_g (lw_at lw_m3 211 rfl) rfl
theorem q840 : (Jvm.Cond.laysFinal "HintTeam$Explorer" "HintTeam$Explorer" "hands" "[[J") ∈ lw_all := lw_g (lw_at lw_m3 212 rfl) rfl
theorem q841 : (Jvm.Cond.soleField "HintTeam$Explorer" "hands") ∈ lw_all := lw_g (lw_at lw_m3 213 rfl) rfl
theorem q842 : (Jvm.Cond.laysFinal "HintTeam$Explorer" "HintTeam$Explorer" "rests" "[J") ∈ lw_all := lw_g (lw_at lw_m3 214 rfl) rfl
theorem q843 : (Jvm.Cond.soleField "HintTeam$Explorer" "rests") ∈ lw_all := lw_g (lw_at lw_m3 215 rfl) rfl
theorem q844 : (Jvm.Cond.laysFinal "HintTeam$Explorer" "HintTeam$Explorer" "fresh" "[J") ∈ lw_all := lw_g (lw_at lw_m3 216 rfl) rfl
theorem q845 : (Jvm.Cond.soleField "HintTeam$Explorer" "fresh") ∈ lw_all := lw_g (lw_at lw_m3 217 rfl) rfl
theorem q846 : (Jvm.Cond.laysFinal "HintTeam$Explorer" "HintTeam$Explorer" "places" "[I") ∈ lw_all := lw_g (lw_at lw_m3 218 rfl) rfl
theorem q847 : (Jvm.Cond.soleField "HintTeam$Explorer" "places") ∈ lw_all := lw_g (lw_at lw_m3 219 rfl) rfl
theorem q848 : (Jvm.Cond.lays "HintTeam$Explorer" "HintTeam$Explorer" "many" "I") ∈ lw_all := lw_g (lw_at lw_m3 220 rfl) rfl
theorem q849 : (Jvm.Cond.soleField "HintTeam$Explorer" "many") ∈ lw_all := lw_g (lw_at lw_m3 221 rfl) rfl
theorem q850 : (Jvm.Cond.lays "HintTeam$Explorer" "HintTeam$Explorer" "best" "I") ∈ lw_all := lw_g (lw_at lw_m3 222 rfl) rfl
theorem q851 : (Jvm.Cond.soleField "HintTeam$Explorer" "best") ∈ lw_all := lw_g (lw_at lw_m3 223 rfl) rfl
theorem q852 : (Jvm.Cond.laysFinal "HintTeam$Explorer" "HintTeam$Explorer" "this$0" "LHintTeam;") ∈ lw_all := lw_g (lw_at lw_m3 224 rfl) rfl
theorem q853 : (Jvm.Cond.soleField "HintTeam$Explorer" "this$0") ∈ lw_all := lw_g (lw_at lw_m3 225 rfl) rfl
theorem q854 : (Jvm.Cond.superclass "HintTeam$Explorer" "java/lang/Object") ∈ lw_all := lw_g (lw_at lw_m3 226 rfl) rfl
theorem q862 : (Jvm.Cond.fieldLinkNest "HintTeam$Explorer" (46 : Nat) "HintTeam" "table" "LHintTeam$Table;" "HintTeam") ∈ lw_tbl := lw_at lw_m3 234 rfl
theorem q1197 : (Jvm.Cond.selects "HintTeam$Explorer" ({ cls := "java/lang/Object", name := "getClass", desc := "()Ljava/lang/Class;" } : Jvm.MethodName) ({ cls := "java/lang/Object", name := "getClass", desc := "()Ljava/lang/Class;" } : Jvm.MethodName)) ∈ lw_all := lw_g (lw_at lw_m5 89 rfl) rfl
theorem q2044 : (Jvm.Cond.fieldLinkNest "HintTeam$Explorer" (98 : Nat) "HintTeam$Held" "card" "LHintTeam$Card;" "HintTeam") ∈ lw_tbl := lw_at lw_m8 216 rfl
theorem q2489 : (Jvm.Cond.instanceMethod ({ cls := "HintTeam$Explorer", name := "told", desc := "()J" } : Jvm.MethodName)) ∈ lw_all := lw_g (lw_at lw_m10 181 rfl) rfl
theorem q2490 : (Jvm.Cond.selects "HintTeam$Explorer" ({ cls := "HintTeam$Explorer", name := "told", desc := "()J" } : Jvm.MethodName) ({ cls := "HintTeam$Explorer", name := "told", desc := "()J" } : Jvm.MethodName)) ∈ lw_all := lw_g (lw_at lw_m10 182 rfl) rfl
theorem q2491 : (Jvm.Cond.code ({ cls := "HintTeam$Explorer", name := "told", desc := "()J" } : Jvm.MethodName) prog_5_method_7_code (5 : Nat) (Option.some Jvm.ClassFile.FieldType.long)) ∈ lw_all := lw_g (lw_at lw_m10 183 rfl) rfl
theorem q2492 : (Jvm.Cond.interfaceEntry "HintTeam$Explorer" (82 : Nat)) ∈ lw_tbl := lw_at lw_m10 184 rfl
theorem q2493 : (Jvm.Cond.methodLink "HintTeam$Explorer" (82 : Nat) ({ cls := "java/util/List", name := "size", desc := "()I" } : Jvm.MethodName)) ∈ lw_all := lw_g (lw_at lw_m10 185 rfl) rfl
theorem q2494 : (Jvm.Cond.interfaceEntry "HintTeam$Explorer" (88 : Nat)) ∈ lw_tbl := lw_at lw_m10 186 rfl
theorem q2495 : (Jvm.Cond.methodLink "HintTeam$Explorer" (88 : Nat) ({ cls := "java/util/List", name := "get", desc := "(I)Ljava/lang/Object;" } : Jvm.MethodName)) ∈ lw_all := lw_g (lw_at lw_m10 187 rfl) rfl
theorem q2496 : (Jvm.Cond.classLink "HintTeam$Explorer" (92 : Nat) "java/util/LinkedList") ∈ lw_all := lw_g (lw_at lw_m10 188 rfl) rfl
theorem q2497 : (Jvm.Cond.methodLink "HintTeam$Explorer" (94 : Nat) ({ cls := "java/util/LinkedList", name := "size", desc := "()I" } : Jvm.MethodName)) ∈ lw_all := lw_g (lw_at lw_m10 189 rfl) rfl
theorem q2498 : (Jvm.Cond.methodLink "HintTeam$Explorer" (95 : Nat) ({ cls := "java/util/LinkedList", name := "get", desc := "(I)Ljava/lang/Object;" } : Jvm.MethodName)) ∈ lw_all := lw_g (lw_at lw_m10 190 rfl) rfl
theorem q2499 : (Jvm.Cond.classLink "HintTeam$Explorer" (96 : Nat) "HintTeam$Held") ∈ lw_all := lw_g (lw_at lw_m10 191 rfl) rfl
theorem q2500 : (Jvm.Cond.methodLink "HintTeam$Explorer" (102 : Nat) ({ cls := "HintTeam$Card", name := "id", desc := "()I" } : Jvm.MethodName)) ∈ lw_all := lw_g (lw_at lw_m10 192 rfl) rfl
theorem q2505 : (Jvm.Cond.instanceMethod ({ cls := "HintTeam$Explorer", name := "value", desc := "(J)I" } : Jvm.MethodName)) ∈ lw_all := lw_g (lw_at lw_m10 197 rfl) rfl
theorem q2506 : (Jvm.Cond.selects "HintTeam$Explorer" ({ cls := "HintTeam$Explorer", name := "value", desc := "(J)I" } : Jvm.MethodName) ({ cls := "HintTeam$Explorer", name := "value", desc := "(J)I" } : Jvm.MethodName)) ∈ lw_all := lw_g (lw_at lw_m10 198 rfl) rfl
theorem q2507 : (Jvm.Cond.code ({ cls := "HintTeam$Explorer", name := "value", desc := "(J)I" } : Jvm.MethodName) prog_5_method_17_code (3 : Nat) (Option.some Jvm.ClassFile.FieldType.int)) ∈ lw_all := lw_g (lw_at lw_m10 199 rfl) rfl
theorem q2508 : (Jvm.Cond.methodLink "HintTeam$Explorer" (185 : Nat) ({ cls := "HintTeam$Explorer", name := "from", desc := "(J)I" } : Jvm.MethodName)) ∈ lw_all := lw_g (lw_at lw_m10 200 rfl) rfl
theorem q2509 : (Jvm.Cond.instanceMethod ({ cls := "HintTeam$Explorer", name := "from", desc := "(J)I" } : Jvm.MethodName)) ∈ lw_all := lw_g (lw_at lw_m10 201 rfl) rfl
theorem q2510 : (Jvm.Cond.selects "HintTeam$Explorer" ({ cls := "HintTeam$Explorer", name := "from", desc := "(J)I" } : Jvm.MethodName) ({ cls := "HintTeam$Explorer", name := "from", desc := "(J)I" } : Jvm.MethodName)) ∈ lw_all := lw_g (lw_at lw_m10 202 rfl) rfl
theorem q2511 : (Jvm.Cond.code ({ cls := "HintTeam$Explorer", name := "from", desc := "(J)I" } : Jvm.MethodName) prog_5_method_16_code (5 : Nat) (Option.some Jvm.ClassFile.FieldType.int)) ∈ lw_all := lw_g (lw_at lw_m10 203 rfl) rfl
theorem q2512 : (Jvm.Cond.methodLink "HintTeam$Explorer" (163 : Nat) ({ cls := "HintTeam$Explorer", name := "comes", desc := "(J)Z" } : Jvm.MethodName)) ∈ lw_all := lw_g (lw_at lw_m10 204 rfl) rfl
theorem q2513 : (Jvm.Cond.privateMethod ({ cls := "HintTeam$Explorer", name := "comes", desc := "(J)Z" } : Jvm.MethodName)) ∈ lw_tbl := lw_at lw_m10 205 rfl
theorem q2514 : (Jvm.Cond.instanceMethod ({ cls := "HintTeam$Explorer", name := "comes", desc := "(J)Z" } : Jvm.MethodName)) ∈ lw_all := lw_g (lw_at lw_m10 206 rfl) rfl
theorem q2515 : (Jvm.Cond.code ({ cls := "HintTeam$Explorer", name := "comes", desc := "(J)Z" } : Jvm.MethodName) prog_5_method_11_code (7 : Nat) (Option.some Jvm.ClassFile.FieldType.boolean)) ∈ lw_all := lw_g (lw_at lw_m10 207 rfl) rfl
theorem q2516 : (Jvm.Cond.constantLong "HintTeam$Explorer" (138 : Nat) (31 : Int64)) ∈ lw_all := lw_g (lw_at lw_m10 208 rfl) rfl
theorem q2517 : (Jvm.Cond.constantLong "HintTeam$Explorer" (140 : Nat) (-7046029254386353131 : Int64)) ∈ lw_all := lw_g (lw_at lw_m10 209 rfl) rfl
theorem q2518 : (Jvm.Cond.methodLink "HintTeam$Explorer" (142 : Nat) ({ cls := "HintTeam$Explorer", name := "isAt", desc := "(IJ)Z" } : Jvm.MethodName)) ∈ lw_all := lw_g (lw_at lw_m10 210 rfl) rfl
theorem q2519 : (Jvm.Cond.privateMethod ({ cls := "HintTeam$Explorer", name := "isAt", desc := "(IJ)Z" } : Jvm.MethodName)) ∈ lw_tbl := lw_at lw_m10 211 rfl
theorem q2520 : (Jvm.Cond.instanceMethod ({ cls := "HintTeam$Explorer", name := "isAt", desc := "(IJ)Z" } : Jvm.MethodName)) ∈ lw_all := lw_g (lw_at lw_m10 212 rfl) rfl
theorem q2521 : (Jvm.Cond.code ({ cls := "HintTeam$Explorer", name := "isAt", desc := "(IJ)Z" } : Jvm.MethodName) prog_5_method_10_code (6 : Nat) (Option.some Jvm.ClassFile.FieldType.boolean)) ∈ lw_all := lw_g (lw_at lw_m10 213 rfl) rfl
theorem q2522 : (Jvm.Cond.methodLink "HintTeam$Explorer" (43 : Nat) ({ cls := "HintTeam$Explorer", name := "score", desc := "(J)I" } : Jvm.MethodName)) ∈ lw_all := lw_g (lw_at lw_m10 214 rfl) rfl
theorem q2523 : (Jvm.Cond.privateMethod ({ cls := "HintTeam$Explorer", name := "score", desc := "(J)I" } : Jvm.MethodName)) ∈ lw_tbl := lw_at lw_m10 215 rfl
theorem q2524 : (Jvm.Cond.instanceMethod ({ cls := "HintTeam$Explorer", name := "score", desc := "(J)I" } : Jvm.MethodName)) ∈ lw_all := lw_g (lw_at lw_m10 216 rfl) rfl
theorem q2525 : (Jvm.Cond.code ({ cls := "HintTeam$Explorer", name := "score", desc := "(J)I" } : Jvm.MethodName) prog_5_method_5_code (5 : Nat) (Option.some Jvm.ClassFile.FieldType.int)) ∈ lw_all := lw_g (lw_at lw_m10 217 rfl) rfl
theorem q2526 : (Jvm.Cond.methodLink "HintTeam$Explorer" (35 : Nat) ({ cls := "HintTeam$Explorer", name := "pile", desc := "(JI)I" } : Jvm.MethodName)) ∈ lw_all := lw_g (lw_at lw_m10 218 rfl) rfl
theorem q2527 : (Jvm.Cond.privateMethod ({ cls := "HintTeam$Explorer", name := "pile", desc := "(JI)I" } : Jvm.MethodName)) ∈ lw_tbl := lw_at lw_m10 219 rfl
theorem q2528 : (Jvm.Cond.instanceMethod ({ cls := "HintTeam$Explorer", name := "pile", desc := "(JI)I" } : Jvm.MethodName)) ∈ lw_all := lw_g (lw_at lw_m10 220 rfl) rfl
theorem q2529 : (Jvm.Cond.code ({ cls := "HintTeam$Explorer", name := "pile", desc := "(JI)I" } : Jvm.MethodName) prog_5_method_3_code (4 : Nat) (Option.some Jvm.ClassFile.FieldType.int)) ∈ lw_all := lw_g (lw_at lw_m10 221 rfl) rfl
theorem q2530 : (Jvm.Cond.methodLink "HintTeam$Explorer" (31 : Nat) ({ cls := "HintTeam$Explorer", name := "part", desc := "(JII)I" } : Jvm.MethodName)) ∈ lw_all := lw_g (lw_at lw_m10 222 rfl) rfl
theorem q2531 : (Jvm.Cond.privateMethod ({ cls := "HintTeam$Explorer", name := "part", desc := "(JII)I" } : Jvm.MethodName)) ∈ lw_tbl := lw_at lw_m10 223 rfl
theorem q2532 : (Jvm.Cond.instanceMethod ({ cls := "HintTeam$Explorer", name := "part", desc := "(JII)I" } : Jvm.MethodName)) ∈ lw_all := lw_g (lw_at lw_m10 224 rfl) rfl
theorem q2533 : (Jvm.Cond.code ({ cls := "HintTeam$Explorer", name := "part", desc := "(JII)I" } : Jvm.MethodName) prog_5_method_2_code (5 : Nat) (Option.some Jvm.ClassFile.FieldType.int)) ∈ lw_all := lw_g (lw_at lw_m10 225 rfl) rfl
theorem q2534 : (Jvm.Cond.methodLink "HintTeam$Explorer" (152 : Nat) ({ cls := "java/lang/Math", name := "max", desc := "(II)I" } : Jvm.MethodName)) ∈ lw_all := lw_g (lw_at lw_m10 226 rfl) rfl
theorem q2535 : (Jvm.Cond.methodLink "HintTeam$Explorer" (181 : Nat) ({ cls := "HintTeam$Explorer", name := "goesOn", desc := "(I)Z" } : Jvm.MethodName)) ∈ lw_all := lw_g (lw_at lw_m10 227 rfl) rfl
theorem q2536 : (Jvm.Cond.privateMethod ({ cls := "HintTeam$Explorer", name := "goesOn", desc := "(I)Z" } : Jvm.MethodName)) ∈ lw_tbl := lw_at lw_m10 228 rfl
theorem q2537 : (Jvm.Cond.instanceMethod ({ cls := "HintTeam$Explorer", name := "goesOn", desc := "(I)Z" } : Jvm.MethodName)) ∈ lw_all := lw_g (lw_at lw_m10 229 rfl) rfl
theorem q2538 : (Jvm.Cond.code ({ cls := "HintTeam$Explorer", name := "goesOn", desc := "(I)Z" } : Jvm.MethodName) prog_5_method_15_code (8 : Nat) (Option.some Jvm.ClassFile.FieldType.boolean)) ∈ lw_all := lw_g (lw_at lw_m10 230 rfl) rfl
theorem q2539 : (Jvm.Cond.methodLink "HintTeam$Explorer" (167 : Nat) ({ cls := "HintTeam$Explorer", name := "isOver", desc := "(J)Z" } : Jvm.MethodName)) ∈ lw_all := lw_g (lw_at lw_m10 231 rfl) rfl
theorem q2540 : (Jvm.Cond.privateMethod ({ cls := "HintTeam$Explorer", name := "isOver", desc := "(J)Z" } : Jvm.MethodName)) ∈ lw_tbl := lw_at lw_m10 232 rfl
theorem q2541 : (Jvm.Cond.instanceMethod ({ cls := "HintTeam$Explorer", name := "isOver", desc := "(J)Z" } : Jvm.MethodName)) ∈ lw_all := lw_g (lw_at lw_m10 233 rfl) rfl
theorem q2542 : (Jvm.Cond.code ({ cls := "HintTeam$Explorer", name := "isOver", desc := "(J)Z" } : Jvm.MethodName) prog_5_method_6_code (3 : Nat) (Option.some Jvm.ClassFile.FieldType.boolean)) ∈ lw_all := lw_g (lw_at lw_m10 234 rfl) rfl
theorem q2543 : (Jvm.Cond.methodLink "HintTeam$Explorer" (39 : Nat) ({ cls := "HintTeam$Explorer", name := "left", desc := "(J)I" } : Jvm.MethodName)) ∈ lw_all := lw_g (lw_at lw_m10 235 rfl) rfl
theorem q2544 : (Jvm.Cond.privateMethod ({ cls := "HintTeam$Explorer", name := "left", desc := "(J)I" } : Jvm.MethodName)) ∈ lw_tbl := lw_at lw_m10 236 rfl
theorem q2545 : (Jvm.Cond.instanceMethod ({ cls := "HintTeam$Explorer", name := "left", desc := "(J)I" } : Jvm.MethodName)) ∈ lw_all := lw_g (lw_at lw_m10 237 rfl) rfl
theorem q2546 : (Jvm.Cond.code ({ cls := "HintTeam$Explorer", name := "left", desc := "(J)I" } : Jvm.MethodName) prog_5_method_4_code (3 : Nat) (Option.some Jvm.ClassFile.FieldType.int)) ∈ lw_all := lw_g (lw_at lw_m10 238 rfl) rfl
theorem q2547 : (Jvm.Cond.methodLink "HintTeam$Explorer" (170 : Nat) ({ cls := "HintTeam$Explorer", name := "moves", desc := "(III)Z" } : Jvm.MethodName)) ∈ lw_all := lw_g (lw_at lw_m10 239 rfl) rfl
theorem q2548 : (Jvm.Cond.privateMethod ({ cls := "HintTeam$Explorer", name := "moves", desc := "(III)Z" } : Jvm.MethodName)) ∈ lw_tbl := lw_at lw_m11 0 rfl
theorem q2549 : (Jvm.Cond.instanceMethod ({ cls := "HintTeam$Explorer", name := "moves", desc := "(III)Z" } : Jvm.MethodName)) ∈ lw_all := lw_g (lw_at lw_m11 1 rfl) rfl
theorem q2550 : (Jvm.Cond.code ({ cls := "HintTeam$Explorer", name := "moves", desc := "(III)Z" } : Jvm.MethodName) prog_5_method_13_code (4 : Nat) (Option.some Jvm.ClassFile.FieldType.boolean)) ∈ lw_all := lw_g (lw_at lw_m11 2 rfl) rfl
theorem q2551 : (Jvm.Cond.methodLink "HintTeam$Explorer" (155 : Nat) ({ cls := "HintTeam$Explorer", name := "isFresh", desc := "(I)V" } : Jvm.MethodName)) ∈ lw_all := lw_g (lw_at lw_m11 3 rfl) rfl
theorem q2552 : (Jvm.Cond.privateMethod ({ cls := "HintTeam$Explorer", name := "isFresh", desc := "(I)V" } : Jvm.MethodName)) ∈ lw_tbl := lw_at lw_m11 4 rfl
theorem q2553 : (Jvm.Cond.instanceMethod ({ cls := "HintTeam$Explorer", name := "isFresh", desc := "(I)V" } : Jvm.MethodName)) ∈ lw_all := lw_g (lw_at lw_m11 5 rfl) rfl
theorem q2554 : (Jvm.Cond.code ({ cls := "HintTeam$Explorer", name := "isFresh", desc := "(I)V" } : Jvm.MethodName) prog_5_method_12_code (3 : Nat) (Option.none : Option Jvm.ClassFile.FieldType)) ∈ lw_all := lw_g (lw_at lw_m11 6 rfl) rfl
theorem q2555 : (Jvm.Cond.methodLink "HintTeam$Explorer" (159 : Nat) ({ cls := "HintTeam$Explorer", name := "behind", desc := "(JII)J" } : Jvm.MethodName)) ∈ lw_all := lw_g (lw_at lw_m11 7 rfl) rfl
theorem q2556 : (Jvm.Cond.instanceMethod ({ cls := "HintTeam$Explorer", name := "behind", desc := "(JII)J" } : Jvm.MethodName)) ∈ lw_all := lw_g (lw_at lw_m11 8 rfl) rfl
theorem q2557 : (Jvm.Cond.selects "HintTeam$Explorer" ({ cls := "HintTeam$Explorer", name := "behind", desc := "(JII)J" } : Jvm.MethodName) ({ cls := "HintTeam$Explorer", name := "behind", desc := "(JII)J" } : Jvm.MethodName)) ∈ lw_all := lw_g (lw_at lw_m11 9 rfl) rfl
theorem q2558 : (Jvm.Cond.code ({ cls := "HintTeam$Explorer", name := "behind", desc := "(JII)J" } : Jvm.MethodName) prog_5_method_8_code (11 : Nat) (Option.some Jvm.ClassFile.FieldType.long)) ∈ lw_all := lw_g (lw_at lw_m11 10 rfl) rfl
theorem q2559 : (Jvm.Cond.classLink "HintTeam$Explorer" (103 : Nat) "HintTeam$Card") ∈ lw_all := lw_g (lw_at lw_m11 11 rfl) rfl
theorem q2560 : (Jvm.Cond.constantLong "HintTeam$Explorer" (110 : Nat) (-1 : Int64)) ∈ lw_all := lw_g (lw_at lw_m11 12 rfl) rfl
theorem q2561 : (Jvm.Cond.methodLink "HintTeam$Explorer" (112 : Nat) ({ cls := "HintTeam$Card", name := "rank", desc := "()I" } : Jvm.MethodName)) ∈ lw_all := lw_g (lw_at lw_m11 13 rfl) rfl
theorem q2562 : (Jvm.Cond.methodLink "HintTeam$Explorer" (115 : Nat) ({ cls := "HintTeam$Card", name := "color", desc := "()I" } : Jvm.MethodName)) ∈ lw_all := lw_g (lw_at lw_m11 14 rfl) rfl
theorem q2563 : (Jvm.Cond.methodLink "HintTeam$Explorer" (121 : Nat) ({ cls := "java/lang/Math", name := "min", desc := "(II)I" } : Jvm.MethodName)) ∈ lw_all := lw_g (lw_at lw_m11 15 rfl) rfl
theorem q2564 : (Jvm.Cond.methodLink "HintTeam$Explorer" (127 : Nat) ({ cls := "HintTeam$Explorer", name := "ended", desc := "(JIZ)J" } : Jvm.MethodName)) ∈ lw_all := lw_g (lw_at lw_m11 16 rfl) rfl
theorem q2565 : (Jvm.Cond.privateMethod ({ cls := "HintTeam$Explorer", name := "ended", desc := "(JIZ)J" } : Jvm.MethodName)) ∈ lw_tbl := lw_at lw_m11 17 rfl
theorem q2566 : (Jvm.Cond.instanceMethod ({ cls := "HintTeam$Explorer", name := "ended", desc := "(JIZ)J" } : Jvm.MethodName)) ∈ lw_all := lw_g (lw_at lw_m11 18 rfl) rfl
theorem q2567 : (Jvm.Cond.code ({ cls := "HintTeam$Explorer", name := "ended", desc := "(JIZ)J" } : Jvm.MethodName) prog_5_method_9_code (9 : Nat) (Option.some Jvm.ClassFile.FieldType.long)) ∈ lw_all := lw_g (lw_at lw_m11 19 rfl) rfl
theorem q2568 : (Jvm.Cond.constantLong "HintTeam$Explorer" (131 : Nat) (2097152 : Int64)) ∈ lw_all := lw_g (lw_at lw_m11 20 rfl) rfl
theorem q2569 : (Jvm.Cond.constantLong "HintTeam$Explorer" (133 : Nat) (262144 : Int64)) ∈ lw_all := lw_g (lw_at lw_m11 21 rfl) rfl
theorem q2570 : (Jvm.Cond.methodLinkNest "HintTeam$Explorer" (174 : Nat) ({ cls := "HintTeam", name := "has", desc := "(JI)Z" } : Jvm.MethodName) "HintTeam") ∈ lw_tbl := lw_at lw_m11 22 rfl
theorem q2571 : (Jvm.Cond.methodLink "HintTeam$Explorer" (178 : Nat) ({ cls := "HintTeam$Explorer", name := "canPlay", desc := "(JI)Z" } : Jvm.MethodName)) ∈ lw_all := lw_g (lw_at lw_m11 23 rfl) rfl
theorem q2572 : (Jvm.Cond.instanceMethod ({ cls := "HintTeam$Explorer", name := "canPlay", desc := "(JI)Z" } : Jvm.MethodName)) ∈ lw_all := lw_g (lw_at lw_m11 24 rfl) rfl
theorem q2573 : (Jvm.Cond.selects "HintTeam$Explorer" ({ cls := "HintTeam$Explorer", name := "canPlay", desc := "(JI)Z" } : Jvm.MethodName) ({ cls := "HintTeam$Explorer", name := "canPlay", desc := "(JI)Z" } : Jvm.MethodName)) ∈ lw_all := lw_g (lw_at lw_m11 25 rfl) rfl
theorem q2574 : (Jvm.Cond.code ({ cls := "HintTeam$Explorer", name := "canPlay", desc := "(JI)Z" } : Jvm.MethodName) prog_5_method_14_code (5 : Nat) (Option.some Jvm.ClassFile.FieldType.boolean)) ∈ lw_all := lw_g (lw_at lw_m11 26 rfl) rfl
theorem q3636 : (Jvm.Cond.castable "HintTeam$Explorer" "java/lang/Object") ∈ lw_tbl := lw_at lw_m15 128 rfl
theorem in_X6 : ∀ w ∈ wsX60, w ∈ lw_all := lw_in wsX60 [840, 842, 844, 846, 848, 850, 852] (by decide +kernel) (by decide +kernel)
/-! HintTeamModel -/
def RX7 : String := "HintTeamModel"
def TX7 : u_T := fun k => match k with
  | 0 => ("HintTeamModel", "now", "[I", true)
  | 1 => ("HintTeamModel", "read", "[I", true)
  | 2 => ("HintTeamModel", "aside", "[I", true)
  | 3 => ("HintTeamModel", "past", "[I", true)
  | 4 => ("HintTeamModel", "copies", "[I", true)
  | 5 => ("HintTeamModel", "isSaved", "[Z", true)
  | 6 => ("HintTeamModel", "pastMany", "I", false)
  | 7 => ("HintTeamModel", "thrown", "I", false)
  | 8 => ("HintTeamModel", "buffer", "[B", true)
  | 9 => ("HintTeamModel", "length", "I", false)
  | 10 => ("HintTeamModel", "at", "I", false)
  | 11 => ("HintTeamModel", "begin", "I", false)
  | 12 => ("HintTeamModel", "error", "I", false)
  | 13 => ("HintTeamModel", "errorAt", "I", false)
  | 14 => ("HintTeamModel", "statement", "I", false)
  | 15 => ("HintTeamModel", "seed", "I", false)
  | 16 => ("HintTeamModel", "lastError", "I", false)
  | 17 => ("HintTeamModel", "lastStatement", "I", false)
  | 18 => ("HintTeamModel", "advised", "[I", true)
  | 19 => ("HintTeamModel", "cards", "[J", true)
  | 20 => ("HintTeamModel", "rest", "[I", true)
  | 21 => ("HintTeamModel", "slots", "[I", true)
  | 22 => ("HintTeamModel", "positions", "I", false)
  | 23 => ("HintTeamModel", "hands", "[J", true)
  | 24 => ("HintTeamModel", "piles", "[I", true)
  | 25 => ("HintTeamModel", "tokens", "I", false)
  | 26 => ("HintTeamModel", "nextCard", "I", false)
  | 27 => ("HintTeamModel", "turn", "I", false)
  | 28 => ("HintTeamModel", "left", "I", false)
  | 29 => ("HintTeamModel", "output", "[B", true)
  | _ => ("HintTeamModel", "written", "I", false)
def tyX7 : Nat → FieldType := fun k => match k with
  | 0 => .array .int
  | 1 => .array .int
  | 2 => .array .int
  | 3 => .array .int
  | 4 => .array .int
  | 5 => .array .boolean
  | 6 => .int
  | 7 => .int
  | 8 => .array .byte
  | 9 => .int
  | 10 => .int
  | 11 => .int
  | 12 => .int
  | 13 => .int
  | 14 => .int
  | 15 => .int
  | 16 => .int
  | 17 => .int
  | 18 => .array .int
  | 19 => .array .long
  | 20 => .array .int
  | 21 => .array .int
  | 22 => .int
  | 23 => .array .long
  | 24 => .array .int
  | 25 => .int
  | 26 => .int
  | 27 => .int
  | 28 => .int
  | 29 => .array .byte
  | _ => .int
abbrev wsX70 : List Cond := u_ws RX7 TX7 31
set_option maxRecDepth 100000 in
theorem nmX7 : ∀ a, a < 31 → ∀ b, b < 31 → a ≠ b → (TX7 a).2.1 ≠ (TX7 b).2.1 := by decide +kernel
set_option maxRecDepth 100000 in
theorem tyX7_ok : ∀ k, k < 31 → parseFieldDescriptor (TX7 k).2.2.1 = some (tyX7 k) := by decide +kernel
abbrev cX7_init : ByteArray := prog_15_method_1_code
def yX7_init : MethodName := ⟨RX7, "<init>", "()V"⟩
abbrev cX7_thrown : ByteArray := prog_15_method_2_code
def yX7_thrown : MethodName := ⟨RX7, "thrown", "()I"⟩
abbrev cX7_append : ByteArray := prog_15_method_15_code
def yX7_append : MethodName := ⟨RX7, "append", "(J)I"⟩
abbrev cX7_byteOf : ByteArray := prog_15_method_14_code
def yX7_byteOf : MethodName := ⟨RX7, "byteOf", "(JI)I"⟩
abbrev cX7_load : ByteArray := prog_15_method_30_code
def yX7_load : MethodName := ⟨RX7, "load", "()I"⟩
abbrev cX7_in : ByteArray := prog_15_method_3_code
def yX7_in : MethodName := ⟨RX7, "in", "(III)Z"⟩
abbrev cX7_statement : ByteArray := prog_15_method_27_code
def yX7_statement : MethodName := ⟨RX7, "statement", "()V"⟩
abbrev cX7_reads : ByteArray := prog_15_method_19_code
def yX7_reads : MethodName := ⟨RX7, "reads", "()V"⟩
abbrev cX7_next : ByteArray := prog_15_method_17_code
def yX7_next : MethodName := ⟨RX7, "next", "()I"⟩
abbrev cX7_here : ByteArray := prog_15_method_16_code
def yX7_here : MethodName := ⟨RX7, "here", "()I"⟩
abbrev cX7_isWord : ByteArray := prog_15_method_20_code
def yX7_isWord : MethodName := ⟨RX7, "isWord", "(Ljava/lang/String;)Z"⟩
abbrev cX7_gamePart : ByteArray := prog_15_method_23_code
def yX7_gamePart : MethodName := ⟨RX7, "gamePart", "()V"⟩
abbrev cX7_fails : ByteArray := prog_15_method_18_code
def yX7_fails : MethodName := ⟨RX7, "fails", "(I)V"⟩
abbrev cX7_number : ByteArray := prog_15_method_22_code
def yX7_number : MethodName := ⟨RX7, "number", "(II)I"⟩
abbrev cX7_digits : ByteArray := prog_15_method_21_code
def yX7_digits : MethodName := ⟨RX7, "digits", "()I"⟩
abbrev cX7_deckPart : ByteArray := prog_15_method_25_code
def yX7_deckPart : MethodName := ⟨RX7, "deckPart", "()V"⟩
abbrev cX7_cardPart : ByteArray := prog_15_method_24_code
def yX7_cardPart : MethodName := ⟨RX7, "cardPart", "()V"⟩
abbrev cX7_kind : ByteArray := prog_15_method_9_code
def yX7_kind : MethodName := ⟨RX7, "kind", "(II)I"⟩
abbrev cX7_wordPart : ByteArray := prog_15_method_26_code
def yX7_wordPart : MethodName := ⟨RX7, "wordPart", "(Z)V"⟩
abbrev cX7_wordAt : ByteArray := prog_15_method_61_code
def yX7_wordAt : MethodName := ⟨RX7, "wordAt", "(II)I"⟩
abbrev cX7_isMore : ByteArray := prog_15_method_28_code
def yX7_isMore : MethodName := ⟨RX7, "isMore", "()Z"⟩
abbrev cX7_shuffles : ByteArray := prog_15_method_29_code
def yX7_shuffles : MethodName := ⟨RX7, "shuffles", "()V"⟩
abbrev cX7_copies : ByteArray := prog_15_method_4_code
def yX7_copies : MethodName := ⟨RX7, "copies", "([II[II)V"⟩
abbrev cX7_draws : ByteArray := prog_15_method_33_code
def yX7_draws : MethodName := ⟨RX7, "draws", "(I)V"⟩
abbrev cX7_loadError : ByteArray := prog_15_method_31_code
def yX7_loadError : MethodName := ⟨RX7, "loadError", "()I"⟩
abbrev cX7_loadStatement : ByteArray := prog_15_method_32_code
def yX7_loadStatement : MethodName := ⟨RX7, "loadStatement", "()I"⟩
abbrev cX7_count : ByteArray := prog_15_method_35_code
def yX7_count : MethodName := ⟨RX7, "count", "(I)I"⟩
abbrev cX7_isThrown : ByteArray := prog_15_method_5_code
def yX7_isThrown : MethodName := ⟨RX7, "isThrown", "(ZI)Z"⟩
abbrev cX7_score : ByteArray := prog_15_method_34_code
def yX7_score : MethodName := ⟨RX7, "score", "()I"⟩
abbrev cX7_turnOf : ByteArray := prog_15_method_36_code
def yX7_turnOf : MethodName := ⟨RX7, "turnOf", "()I"⟩
abbrev cX7_over : ByteArray := prog_15_method_37_code
def yX7_over : MethodName := ⟨RX7, "over", "()I"⟩
abbrev cX7_pile : ByteArray := prog_15_method_38_code
def yX7_pile : MethodName := ⟨RX7, "pile", "(I)I"⟩
abbrev cX7_hand : ByteArray := prog_15_method_39_code
def yX7_hand : MethodName := ⟨RX7, "hand", "(I)I"⟩
abbrev cX7_isPlayer : ByteArray := prog_15_method_6_code
def yX7_isPlayer : MethodName := ⟨RX7, "isPlayer", "(I)Z"⟩
abbrev cX7_card : ByteArray := prog_15_method_40_code
def yX7_card : MethodName := ⟨RX7, "card", "(II)I"⟩
abbrev cX7_isPlace : ByteArray := prog_15_method_7_code
def yX7_isPlace : MethodName := ⟨RX7, "isPlace", "(II)Z"⟩
abbrev cX7_held : ByteArray := prog_15_method_8_code
def yX7_held : MethodName := ⟨RX7, "held", "(II)I"⟩
abbrev cX7_told : ByteArray := prog_15_method_12_code
def yX7_told : MethodName := ⟨RX7, "told", "(I)I"⟩
abbrev cX7_colorOf : ByteArray := prog_15_method_10_code
def yX7_colorOf : MethodName := ⟨RX7, "colorOf", "(I)I"⟩
abbrev cX7_rankOf : ByteArray := prog_15_method_11_code
def yX7_rankOf : MethodName := ⟨RX7, "rankOf", "(I)I"⟩
abbrev cX7_drawn : ByteArray := prog_15_method_41_code
def yX7_drawn : MethodName := ⟨RX7, "drawn", "(I)I"⟩
abbrev cX7_copies_2 : ByteArray := prog_15_method_44_code
def yX7_copies_2 : MethodName := ⟨RX7, "copies", "(III)I"⟩
abbrev cX7_isKind : ByteArray := prog_15_method_13_code
def yX7_isKind : MethodName := ⟨RX7, "isKind", "(II)Z"⟩
abbrev cX7_inDeck : ByteArray := prog_15_method_42_code
def yX7_inDeck : MethodName := ⟨RX7, "inDeck", "(II)I"⟩
abbrev cX7_inHands : ByteArray := prog_15_method_43_code
def yX7_inHands : MethodName := ⟨RX7, "inHands", "(II)I"⟩
abbrev cX7_isUseless : ByteArray := prog_15_method_49_code
def yX7_isUseless : MethodName := ⟨RX7, "isUseless", "(II)Z"⟩
abbrev cX7_isUselessKind : ByteArray := prog_15_method_46_code
def yX7_isUselessKind : MethodName := ⟨RX7, "isUselessKind", "(I)Z"⟩
abbrev cX7_isGone : ByteArray := prog_15_method_45_code
def yX7_isGone : MethodName := ⟨RX7, "isGone", "(I)Z"⟩
abbrev cX7_isCritical : ByteArray := prog_15_method_50_code
def yX7_isCritical : MethodName := ⟨RX7, "isCritical", "(II)Z"⟩
abbrev cX7_isCriticalKind : ByteArray := prog_15_method_47_code
def yX7_isCriticalKind : MethodName := ⟨RX7, "isCriticalKind", "(I)Z"⟩
abbrev cX7_colorsOf : ByteArray := prog_15_method_51_code
def yX7_colorsOf : MethodName := ⟨RX7, "colorsOf", "(II)I"⟩
abbrev cX7_ranksOf : ByteArray := prog_15_method_52_code
def yX7_ranksOf : MethodName := ⟨RX7, "ranksOf", "(II)I"⟩
abbrev cX7_isTouched : ByteArray := prog_15_method_53_code
def yX7_isTouched : MethodName := ⟨RX7, "isTouched", "(II)Z"⟩
abbrev cX7_thinks : ByteArray := prog_15_method_58_code
def yX7_thinks : MethodName := ⟨RX7, "thinks", "(II)I"⟩
abbrev cX7_thoughtAt : ByteArray := prog_15_method_57_code
def yX7_thoughtAt : MethodName := ⟨RX7, "thoughtAt", "(III)I"⟩
abbrev cX7_isThought : ByteArray := prog_15_method_54_code
def yX7_isThought : MethodName := ⟨RX7, "isThought", "(IIII)Z"⟩
abbrev cX7_thought : ByteArray := prog_15_method_59_code
def yX7_thought : MethodName := ⟨RX7, "thought", "(III)I"⟩
abbrev cX7_knows : ByteArray := prog_15_method_60_code
def yX7_knows : MethodName := ⟨RX7, "knows", "(II)I"⟩
abbrev cX7_known : ByteArray := prog_15_method_56_code
def yX7_known : MethodName := ⟨RX7, "known", "(II)I"⟩
abbrev cX7_knownOf : ByteArray := prog_15_method_55_code
def yX7_knownOf : MethodName := ⟨RX7, "knownOf", "(III)I"⟩
abbrev cX7_isNext : ByteArray := prog_15_method_48_code
def yX7_isNext : MethodName := ⟨RX7, "isNext", "(I)Z"⟩
abbrev cX7_wordsLeft : ByteArray := prog_15_method_63_code
def yX7_wordsLeft : MethodName := ⟨RX7, "wordsLeft", "(II)I"⟩
abbrev cX7_isWordOf : ByteArray := prog_15_method_62_code
def yX7_isWordOf : MethodName := ⟨RX7, "isWordOf", "(II)Z"⟩
abbrev cX7_touches : ByteArray := prog_15_method_66_code
def yX7_touches : MethodName := ⟨RX7, "touches", "(III)I"⟩
abbrev cX7_touched : ByteArray := prog_15_method_65_code
def yX7_touched : MethodName := ⟨RX7, "touched", "(III)I"⟩
abbrev cX7_isTouchedBy : ByteArray := prog_15_method_64_code
def yX7_isTouchedBy : MethodName := ⟨RX7, "isTouchedBy", "(III)Z"⟩
abbrev cX7_tells : ByteArray := prog_15_method_71_code
def yX7_tells : MethodName := ⟨RX7, "tells", "(III)I"⟩
abbrev cX7_telling : ByteArray := prog_15_method_70_code
def yX7_telling : MethodName := ⟨RX7, "telling", "(III)I"⟩
abbrev cX7_colorsBehind : ByteArray := prog_15_method_68_code
def yX7_colorsBehind : MethodName := ⟨RX7, "colorsBehind", "(III)I"⟩
abbrev cX7_leaves : ByteArray := prog_15_method_67_code
def yX7_leaves : MethodName := ⟨RX7, "leaves", "(IIZ)I"⟩
abbrev cX7_ranksBehind : ByteArray := prog_15_method_69_code
def yX7_ranksBehind : MethodName := ⟨RX7, "ranksBehind", "(III)I"⟩
abbrev cX7_undo : ByteArray := prog_15_method_73_code
def yX7_undo : MethodName := ⟨RX7, "undo", "()I"⟩
abbrev cX7_play : ByteArray := prog_15_method_85_code
def yX7_play : MethodName := ⟨RX7, "play", "(I)I"⟩
abbrev cX7_isOver : ByteArray := prog_15_method_84_code
def yX7_isOver : MethodName := ⟨RX7, "isOver", "()Z"⟩
abbrev cX7_keeps : ByteArray := prog_15_method_72_code
def yX7_keeps : MethodName := ⟨RX7, "keeps", "()V"⟩
abbrev cX7_plays : ByteArray := prog_15_method_78_code
def yX7_plays : MethodName := ⟨RX7, "plays", "(I)V"⟩
abbrev cX7_logs : ByteArray := prog_15_method_74_code
def yX7_logs : MethodName := ⟨RX7, "logs", "(III)V"⟩
abbrev cX7_takesOut : ByteArray := prog_15_method_77_code
def yX7_takesOut : MethodName := ⟨RX7, "takesOut", "(I)I"⟩
abbrev cX7_tokenBack : ByteArray := prog_15_method_75_code
def yX7_tokenBack : MethodName := ⟨RX7, "tokenBack", "()V"⟩
abbrev cX7_toHeap : ByteArray := prog_15_method_76_code
def yX7_toHeap : MethodName := ⟨RX7, "toHeap", "(I)V"⟩
abbrev cX7_endsTurn : ByteArray := prog_15_method_83_code
def yX7_endsTurn : MethodName := ⟨RX7, "endsTurn", "(Z)V"⟩
abbrev cX7_areWhole : ByteArray := prog_15_method_82_code
def yX7_areWhole : MethodName := ⟨RX7, "areWhole", "()Z"⟩
abbrev cX7_discard : ByteArray := prog_15_method_86_code
def yX7_discard : MethodName := ⟨RX7, "discard", "(I)I"⟩
abbrev cX7_discards : ByteArray := prog_15_method_79_code
def yX7_discards : MethodName := ⟨RX7, "discards", "(I)V"⟩
abbrev cX7_hint : ByteArray := prog_15_method_88_code
def yX7_hint : MethodName := ⟨RX7, "hint", "(III)I"⟩
abbrev cX7_canSay : ByteArray := prog_15_method_87_code
def yX7_canSay : MethodName := ⟨RX7, "canSay", "(III)Z"⟩
abbrev cX7_hints : ByteArray := prog_15_method_80_code
def yX7_hints : MethodName := ⟨RX7, "hints", "(III)I"⟩
abbrev cX7_pass : ByteArray := prog_15_method_89_code
def yX7_pass : MethodName := ⟨RX7, "pass", "()I"⟩
abbrev cX7_passes : ByteArray := prog_15_method_81_code
def yX7_passes : MethodName := ⟨RX7, "passes", "()V"⟩
abbrev cX7_advice : ByteArray := prog_15_method_94_code
def yX7_advice : MethodName := ⟨RX7, "advice", "(I)I"⟩
abbrev cX7_findsAdvice : ByteArray := prog_15_method_93_code
def yX7_findsAdvice : MethodName := ⟨RX7, "findsAdvice", "()V"⟩
abbrev cX7_placeWith : ByteArray := prog_15_method_92_code
def yX7_placeWith : MethodName := ⟨RX7, "placeWith", "(I)I"⟩
abbrev cX7_advises : ByteArray := prog_15_method_90_code
def yX7_advises : MethodName := ⟨RX7, "advises", "(IIII)V"⟩
abbrev cX7_findsHint : ByteArray := prog_15_method_91_code
def yX7_findsHint : MethodName := ⟨RX7, "findsHint", "(Z)Z"⟩
abbrev cX7_follow : ByteArray := prog_15_method_96_code
def yX7_follow : MethodName := ⟨RX7, "follow", "(I)I"⟩
abbrev cX7_follows : ByteArray := prog_15_method_95_code
def yX7_follows : MethodName := ⟨RX7, "follows", "()V"⟩
abbrev cX7_foreseen : ByteArray := prog_15_method_97_code
def yX7_foreseen : MethodName := ⟨RX7, "foreseen", "()I"⟩
abbrev cX7_bound : ByteArray := prog_15_method_99_code
def yX7_bound : MethodName := ⟨RX7, "bound", "()I"⟩
abbrev cX7_boundOf : ByteArray := prog_15_method_98_code
def yX7_boundOf : MethodName := ⟨RX7, "boundOf", "()I"⟩
abbrev cX7_pace : ByteArray := prog_15_method_100_code
def yX7_pace : MethodName := ⟨RX7, "pace", "()I"⟩
abbrev cX7_value : ByteArray := prog_15_method_113_code
def yX7_value : MethodName := ⟨RX7, "value", "()I"⟩
abbrev cX7_valueNow : ByteArray := prog_15_method_112_code
def yX7_valueNow : MethodName := ⟨RX7, "valueNow", "()I"⟩
abbrev cX7_makesPresent : ByteArray := prog_15_method_110_code
def yX7_makesPresent : MethodName := ⟨RX7, "makesPresent", "()V"⟩
abbrev cX7_searches : ByteArray := prog_15_method_111_code
def yX7_searches : MethodName := ⟨RX7, "searches", "()I"⟩
abbrev cX7_adds : ByteArray := prog_15_method_104_code
def yX7_adds : MethodName := ⟨RX7, "adds", "()V"⟩
abbrev cX7_packed : ByteArray := prog_15_method_101_code
def yX7_packed : MethodName := ⟨RX7, "packed", "()I"⟩
abbrev cX7_isSame : ByteArray := prog_15_method_103_code
def yX7_isSame : MethodName := ⟨RX7, "isSame", "(II)Z"⟩
abbrev cX7_goesOn : ByteArray := prog_15_method_109_code
def yX7_goesOn : MethodName := ⟨RX7, "goesOn", "(I)V"⟩
abbrev cX7_unpacks : ByteArray := prog_15_method_102_code
def yX7_unpacks : MethodName := ⟨RX7, "unpacks", "(I)V"⟩
abbrev cX7_isFinal : ByteArray := prog_15_method_105_code
def yX7_isFinal : MethodName := ⟨RX7, "isFinal", "()Z"⟩
abbrev cX7_canPlay : ByteArray := prog_15_method_108_code
def yX7_canPlay : MethodName := ⟨RX7, "canPlay", "(I)Z"⟩
abbrev cX7_moves : ByteArray := prog_15_method_107_code
def yX7_moves : MethodName := ⟨RX7, "moves", "(II)V"⟩
abbrev cX7_scoreMade : ByteArray := prog_15_method_106_code
def yX7_scoreMade : MethodName := ⟨RX7, "scoreMade", "()I"⟩
abbrev cX7_positions : ByteArray := prog_15_method_114_code
def yX7_positions : MethodName := ⟨RX7, "positions", "()I"⟩
abbrev cX7_valueBehind : ByteArray := prog_15_method_116_code
def yX7_valueBehind : MethodName := ⟨RX7, "valueBehind", "(II)I"⟩
abbrev cX7_valueWith : ByteArray := prog_15_method_115_code
def yX7_valueWith : MethodName := ⟨RX7, "valueWith", "(II)I"⟩
abbrev cX7_bestMove : ByteArray := prog_15_method_117_code
def yX7_bestMove : MethodName := ⟨RX7, "bestMove", "(I)I"⟩
abbrev cX7_total : ByteArray := prog_15_method_118_code
def yX7_total : MethodName := ⟨RX7, "total", "(I)I"⟩
abbrev cX7_logPart : ByteArray := prog_15_method_119_code
def yX7_logPart : MethodName := ⟨RX7, "logPart", "(II)I"⟩
abbrev cX7_writeHand : ByteArray := prog_15_method_122_code
def yX7_writeHand : MethodName := ⟨RX7, "writeHand", "(IZ)I"⟩
abbrev cX7_only : ByteArray := prog_15_method_121_code
def yX7_only : MethodName := ⟨RX7, "only", "(I)I"⟩
abbrev cX7_puts : ByteArray := prog_15_method_120_code
def yX7_puts : MethodName := ⟨RX7, "puts", "(I)V"⟩
abbrev cX7_outputByte : ByteArray := prog_15_method_123_code
def yX7_outputByte : MethodName := ⟨RX7, "outputByte", "(I)I"⟩
abbrev cX7_saveSnapshot : ByteArray := prog_15_method_124_code
def yX7_saveSnapshot : MethodName := ⟨RX7, "saveSnapshot", "(I)I"⟩
abbrev cX7_restoreSnapshot : ByteArray := prog_15_method_125_code
def yX7_restoreSnapshot : MethodName := ⟨RX7, "restoreSnapshot", "(I)I"⟩
theorem q180 : (Jvm.Cond.initialized "HintTeamModel") ∈ lw_all := lw_g (lw_at lw_m1 32 rfl) rfl
theorem q1205 : (Jvm.Cond.selects "HintTeamModel" ({ cls := "java/lang/Object", name := "getClass", desc := "()Ljava/lang/Class;" } : Jvm.MethodName) ({ cls := "java/lang/Object", name := "getClass", desc := "()Ljava/lang/Class;" } : Jvm.MethodName)) ∈ lw_all := lw_g (lw_at lw_m5 97 rfl) rfl
theorem q2988 : (Jvm.Cond.instantiable "HintTeamModel" (31 : Nat)) ∈ lw_all := lw_g (lw_at lw_m12 200 rfl) rfl
theorem q2990 : (Jvm.Cond.instanceMethod ({ cls := "HintTeamModel", name := "<init>", desc := "()V" } : Jvm.MethodName)) ∈ lw_all := lw_g (lw_at lw_m12 202 rfl) rfl
theorem q2991 : (Jvm.Cond.code ({ cls := "HintTeamModel", name := "<init>", desc := "()V" } : Jvm.MethodName) prog_15_method_1_code (1 : Nat) (Option.none : Option Jvm.ClassFile.FieldType)) ∈ lw_all := lw_g (lw_at lw_m12 203 rfl) rfl
theorem q2992 : (Jvm.Cond.methodLink "HintTeamModel" (3 : Nat) ({ cls := "java/lang/Object", name := "<init>", desc := "()V" } : Jvm.MethodName)) ∈ lw_all := lw_g (lw_at lw_m12 204 rfl) rfl
theorem q2993 : (Jvm.Cond.fieldLink "HintTeamModel" (9 : Nat) "HintTeamModel" "now" "[I") ∈ lw_all := lw_g (lw_at lw_m12 205 rfl) rfl
theorem q2994 : (Jvm.Cond.fieldLink "HintTeamModel" (13 : Nat) "HintTeamModel" "read" "[I") ∈ lw_all := lw_g (lw_at lw_m12 206 rfl) rfl
theorem q2995 : (Jvm.Cond.fieldLink "HintTeamModel" (16 : Nat) "HintTeamModel" "aside" "[I") ∈ lw_all := lw_g (lw_at lw_m12 207 rfl) rfl
theorem q2996 : (Jvm.Cond.fieldLink "HintTeamModel" (19 : Nat) "HintTeamModel" "past" "[I") ∈ lw_all := lw_g (lw_at lw_m12 208 rfl) rfl
theorem q2997 : (Jvm.Cond.fieldLink "HintTeamModel" (22 : Nat) "HintTeamModel" "copies" "[I") ∈ lw_all := lw_g (lw_at lw_m12 209 rfl) rfl
theorem q2998 : (Jvm.Cond.fieldLink "HintTeamModel" (25 : Nat) "HintTeamModel" "isSaved" "[Z") ∈ lw_all := lw_g (lw_at lw_m12 210 rfl) rfl
theorem q2999 : (Jvm.Cond.fieldLink "HintTeamModel" (200 : Nat) "HintTeamModel" "pastMany" "I") ∈ lw_all := lw_g (lw_at lw_m12 211 rfl) rfl
theorem q3000 : (Jvm.Cond.fieldLink "HintTeamModel" (59 : Nat) "HintTeamModel" "thrown" "I") ∈ lw_all := lw_g (lw_at lw_m12 212 rfl) rfl
theorem q3001 : (Jvm.Cond.fieldLink "HintTeamModel" (29 : Nat) "HintTeamModel" "buffer" "[B") ∈ lw_all := lw_g (lw_at lw_m12 213 rfl) rfl
theorem q3002 : (Jvm.Cond.fieldLink "HintTeamModel" (83 : Nat) "HintTeamModel" "length" "I") ∈ lw_all := lw_g (lw_at lw_m12 214 rfl) rfl
theorem q3003 : (Jvm.Cond.fieldLink "HintTeamModel" (86 : Nat) "HintTeamModel" "at" "I") ∈ lw_all := lw_g (lw_at lw_m12 215 rfl) rfl
theorem q3004 : (Jvm.Cond.fieldLink "HintTeamModel" (93 : Nat) "HintTeamModel" "begin" "I") ∈ lw_all := lw_g (lw_at lw_m12 216 rfl) rfl
theorem q3005 : (Jvm.Cond.fieldLink "HintTeamModel" (96 : Nat) "HintTeamModel" "error" "I") ∈ lw_all := lw_g (lw_at lw_m12 217 rfl) rfl
theorem q3006 : (Jvm.Cond.fieldLink "HintTeamModel" (99 : Nat) "HintTeamModel" "errorAt" "I") ∈ lw_all := lw_g (lw_at lw_m12 218 rfl) rfl
theorem q3007 : (Jvm.Cond.fieldLink "HintTeamModel" (127 : Nat) "HintTeamModel" "statement" "I") ∈ lw_all := lw_g (lw_at lw_m12 219 rfl) rfl
theorem q3008 : (Jvm.Cond.fieldLink "HintTeamModel" (174 : Nat) "HintTeamModel" "seed" "I") ∈ lw_all := lw_g (lw_at lw_m12 220 rfl) rfl
theorem q3009 : (Jvm.Cond.fieldLink "HintTeamModel" (191 : Nat) "HintTeamModel" "lastError" "I") ∈ lw_all := lw_g (lw_at lw_m12 221 rfl) rfl
theorem q3010 : (Jvm.Cond.fieldLink "HintTeamModel" (33 : Nat) "HintTeamModel" "lastStatement" "I") ∈ lw_all := lw_g (lw_at lw_m12 222 rfl) rfl
theorem q3011 : (Jvm.Cond.fieldLink "HintTeamModel" (37 : Nat) "HintTeamModel" "advised" "[I") ∈ lw_all := lw_g (lw_at lw_m12 223 rfl) rfl
theorem q3012 : (Jvm.Cond.fieldLink "HintTeamModel" (40 : Nat) "HintTeamModel" "cards" "[J") ∈ lw_all := lw_g (lw_at lw_m12 224 rfl) rfl
theorem q3013 : (Jvm.Cond.fieldLink "HintTeamModel" (44 : Nat) "HintTeamModel" "rest" "[I") ∈ lw_all := lw_g (lw_at lw_m12 225 rfl) rfl
theorem q3014 : (Jvm.Cond.fieldLink "HintTeamModel" (47 : Nat) "HintTeamModel" "slots" "[I") ∈ lw_all := lw_g (lw_at lw_m12 226 rfl) rfl
theorem q3015 : (Jvm.Cond.fieldLink "HintTeamModel" (361 : Nat) "HintTeamModel" "positions" "I") ∈ lw_all := lw_g (lw_at lw_m12 227 rfl) rfl
theorem q3016 : (Jvm.Cond.fieldLink "HintTeamModel" (50 : Nat) "HintTeamModel" "hands" "[J") ∈ lw_all := lw_g (lw_at lw_m12 228 rfl) rfl
theorem q3017 : (Jvm.Cond.fieldLink "HintTeamModel" (53 : Nat) "HintTeamModel" "piles" "[I") ∈ lw_all := lw_g (lw_at lw_m12 229 rfl) rfl
theorem q3018 : (Jvm.Cond.fieldLink "HintTeamModel" (349 : Nat) "HintTeamModel" "tokens" "I") ∈ lw_all := lw_g (lw_at lw_m12 230 rfl) rfl
theorem q3019 : (Jvm.Cond.fieldLink "HintTeamModel" (346 : Nat) "HintTeamModel" "nextCard" "I") ∈ lw_all := lw_g (lw_at lw_m12 231 rfl) rfl
theorem q3020 : (Jvm.Cond.fieldLink "HintTeamModel" (343 : Nat) "HintTeamModel" "turn" "I") ∈ lw_all := lw_g (lw_at lw_m12 232 rfl) rfl
theorem q3021 : (Jvm.Cond.fieldLink "HintTeamModel" (340 : Nat) "HintTeamModel" "left" "I") ∈ lw_all := lw_g (lw_at lw_m12 233 rfl) rfl
theorem q3022 : (Jvm.Cond.fieldLink "HintTeamModel" (56 : Nat) "HintTeamModel" "output" "[B") ∈ lw_all := lw_g (lw_at lw_m12 234 rfl) rfl
theorem q3023 : (Jvm.Cond.fieldLink "HintTeamModel" (403 : Nat) "HintTeamModel" "written" "I") ∈ lw_all := lw_g (lw_at lw_m12 235 rfl) rfl
theorem q3024 : (Jvm.Cond.laysFinal "HintTeamModel" "HintTeamModel" "now" "[I") ∈ lw_all := lw_g (lw_at lw_m12 236 rfl) rfl
theorem q3025 : (Jvm.Cond.soleField "HintTeamModel" "now") ∈ lw_all := lw_g (lw_at lw_m12 237 rfl) rfl
theorem q3026 : (Jvm.Cond.laysFinal "HintTeamModel" "HintTeamModel" "read" "[I") ∈ lw_all := lw_g (lw_at lw_m12 238 rfl) rfl
theorem q3027 : (Jvm.Cond.soleField "HintTeamModel" "read") ∈ lw_all := lw_g (lw_at lw_m12 239 rfl) rfl
theorem q3028 : (Jvm.Cond.laysFinal "HintTeamModel" "HintTeamModel" "aside" "[I") ∈ lw_all := lw_g (lw_at lw_m13 0 rfl) rfl
theorem q3029 : (Jvm.Cond.soleField "HintTeamModel" "aside") ∈ lw_all := lw_g (lw_at lw_m13 1 rfl) rfl
theorem q3030 : (Jvm.Cond.laysFinal "HintTeamModel" "HintTeamModel" "past" "[I") ∈ lw_all := lw_g (lw_at lw_m13 2 rfl) rfl
theorem q3031 : (Jvm.Cond.soleField "HintTeamModel" "past") ∈ lw_all := lw_g (lw_at lw_m13 3 rfl) rfl
theorem q3032 : (Jvm.Cond.laysFinal "HintTeamModel" "HintTeamModel" "copies" "[I") ∈ lw_all := lw_g (lw_at lw_m13 4 rfl) rfl
theorem q3033 : (Jvm.Cond.soleField "HintTeamModel" "copies") ∈ lw_all := lw_g (lw_at lw_m13 5 rfl) rfl
theorem q3034 : (Jvm.Cond.laysFinal "HintTeamModel" "HintTeamModel" "isSaved" "[Z") ∈ lw_all := lw_g (lw_at lw_m13 6 rfl) rfl
theorem q3035 : (Jvm.Cond.soleField "HintTeamModel" "isSaved") ∈ lw_all := lw_g (lw_at lw_m13 7 rfl) rfl
theorem q3036 : (Jvm.Cond.lays "HintTeamModel" "HintTeamModel" "pastMany" "I") ∈ lw_all := lw_g (lw_at lw_m13 8 rfl) rfl
theorem q3037 : (Jvm.Cond.soleField "HintTeamModel" "pastMany") ∈ lw_all := lw_g (lw_at lw_m13 9 rfl) rfl
theorem q3038 : (Jvm.Cond.lays "HintTeamModel" "HintTeamModel" "thrown" "I") ∈ lw_all := lw_g (lw_at lw_m13 10 rfl) rfl
theorem q3039 : (Jvm.Cond.soleField "HintTeamModel" "thrown") ∈ lw_all := lw_g (lw_at lw_m13 11 rfl) rfl
theorem q3040 : (Jvm.Cond.laysFinal "HintTeamModel" "HintTeamModel" "buffer" "[B") ∈ lw_all := lw_g (lw_at lw_m13 12 rfl) rfl
theorem q3041 : (Jvm.Cond.soleField "HintTeamModel" "buffer") ∈ lw_all := lw_g (lw_at lw_m13 13 rfl) rfl
theorem q3042 : (Jvm.Cond.lays "HintTeamModel" "HintTeamModel" "length" "I") ∈ lw_all := lw_g (lw_at lw_m13 14 rfl) rfl
theorem q3043 : (Jvm.Cond.soleField "HintTeamModel" "length") ∈ lw_all := lw_g (lw_at lw_m13 15 rfl) rfl
theorem q3044 : (Jvm.Cond.lays "HintTeamModel" "HintTeamModel" "at" "I") ∈ lw_all := lw_g (lw_at lw_m13 16 rfl) rfl
theorem q3045 : (Jvm.Cond.soleField "HintTeamModel" "at") ∈ lw_all := lw_g (lw_at lw_m13 17 rfl) rfl
theorem q3046 : (Jvm.Cond.lays "HintTeamModel" "HintTeamModel" "begin" "I") ∈ lw_all := lw_g (lw_at lw_m13 18 rfl) rfl
theorem q3047 : (Jvm.Cond.soleField "HintTeamModel" "begin") ∈ lw_all := lw_g (lw_at lw_m13 19 rfl) rfl
theorem q3048 : (Jvm.Cond.lays "HintTeamModel" "HintTeamModel" "error" "I") ∈ lw_all := lw_g (lw_at lw_m13 20 rfl) rfl
theorem q3049 : (Jvm.Cond.soleField "HintTeamModel" "error") ∈ lw_all := lw_g (lw_at lw_m13 21 rfl) rfl
theorem q3050 : (Jvm.Cond.lays "HintTeamModel" "HintTeamModel" "errorAt" "I") ∈ lw_all := lw_g (lw_at lw_m13 22 rfl) rfl
theorem q3051 : (Jvm.Cond.soleField "HintTeamModel" "errorAt") ∈ lw_all := lw_g (lw_at lw_m13 23 rfl) rfl
theorem q3052 : (Jvm.Cond.lays "HintTeamModel" "HintTeamModel" "statement" "I") ∈ lw_all := lw_g (lw_at lw_m13 24 rfl) rfl
theorem q3053 : (Jvm.Cond.soleField "HintTeamModel" "statement") ∈ lw_all := lw_g (lw_at lw_m13 25 rfl) rfl
theorem q3054 : (Jvm.Cond.lays "HintTeamModel" "HintTeamModel" "seed" "I") ∈ lw_all := lw_g (lw_at lw_m13 26 rfl) rfl
theorem q3055 : (Jvm.Cond.soleField "HintTeamModel" "seed") ∈ lw_all := lw_g (lw_at lw_m13 27 rfl) rfl
theorem q3056 : (Jvm.Cond.lays "HintTeamModel" "HintTeamModel" "lastError" "I") ∈ lw_all := lw_g (lw_at lw_m13 28 rfl) rfl
theorem q3057 : (Jvm.Cond.soleField "HintTeamModel" "lastError") ∈ lw_all := lw_g (lw_at lw_m13 29 rfl) rfl
theorem q3058 : (Jvm.Cond.lays "HintTeamModel" "HintTeamModel" "lastStatement" "I") ∈ lw_all := lw_g (lw_at lw_m13 30 rfl) rfl
theorem q3059 : (Jvm.Cond.soleField "HintTeamModel" "lastStatement") ∈ lw_all := lw_g (lw_at lw_m13 31 rfl) rfl
theorem q3060 : (Jvm.Cond.laysFinal "HintTeamModel" "HintTeamModel" "advised" "[I") ∈ lw_all := lw_g (lw_at lw_m13 32 rfl) rfl
theorem q3061 : (Jvm.Cond.soleField "HintTeamModel" "advised") ∈ lw_all := lw_g (lw_at lw_m13 33 rfl) rfl
theorem q3062 : (Jvm.Cond.laysFinal "HintTeamModel" "HintTeamModel" "cards" "[J") ∈ lw_all := lw_g (lw_at lw_m13 34 rfl) rfl
theorem q3063 : (Jvm.Cond.soleField "HintTeamModel" "cards") ∈ lw_all := lw_g (lw_at lw_m13 35 rfl) rfl
theorem q3064 : (Jvm.Cond.laysFinal "HintTeamModel" "HintTeamModel" "rest" "[I") ∈ lw_all := lw_g (lw_at lw_m13 36 rfl) rfl
theorem q3065 : (Jvm.Cond.soleField "HintTeamModel" "rest") ∈ lw_all := lw_g (lw_at lw_m13 37 rfl) rfl
theorem q3066 : (Jvm.Cond.laysFinal "HintTeamModel" "HintTeamModel" "slots" "[I") ∈ lw_all := lw_g (lw_at lw_m13 38 rfl) rfl
theorem q3067 : (Jvm.Cond.soleField "HintTeamModel" "slots") ∈ lw_all := lw_g (lw_at lw_m13 39 rfl) rfl
theorem q3068 : (Jvm.Cond.lays "HintTeamModel" "HintTeamModel" "positions" "I") ∈ lw_all := lw_g (lw_at lw_m13 40 rfl) rfl
theorem q3069 : (Jvm.Cond.soleField "HintTeamModel" "positions") ∈ lw_all := lw_g (lw_at lw_m13 41 rfl) rfl
theorem q3070 : (Jvm.Cond.laysFinal "HintTeamModel" "HintTeamModel" "hands" "[J") ∈ lw_all := lw_g (lw_at lw_m13 42 rfl) rfl
theorem q3071 : (Jvm.Cond.soleField "HintTeamModel" "hands") ∈ lw_all := lw_g (lw_at lw_m13 43 rfl) rfl
theorem q3072 : (Jvm.Cond.laysFinal "HintTeamModel" "HintTeamModel" "piles" "[I") ∈ lw_all := lw_g (lw_at lw_m13 44 rfl) rfl
theorem q3073 : (Jvm.Cond.soleField "HintTeamModel" "piles") ∈ lw_all := lw_g (lw_at lw_m13 45 rfl) rfl
theorem q3074 : (Jvm.Cond.lays "HintTeamModel" "HintTeamModel" "tokens" "I") ∈ lw_all := lw_g (lw_at lw_m13 46 rfl) rfl
theorem q3075 : (Jvm.Cond.soleField "HintTeamModel" "tokens") ∈ lw_all := lw_g (lw_at lw_m13 47 rfl) rfl
theorem q3076 : (Jvm.Cond.lays "HintTeamModel" "HintTeamModel" "nextCard" "I") ∈ lw_all := lw_g (lw_at lw_m13 48 rfl) rfl
theorem q3077 : (Jvm.Cond.soleField "HintTeamModel" "nextCard") ∈ lw_all := lw_g (lw_at lw_m13 49 rfl) rfl
theorem q3078 : (Jvm.Cond.lays "HintTeamModel" "HintTeamModel" "turn" "I") ∈ lw_all := lw_g (lw_at lw_m13 50 rfl) rfl
theorem q3079 : (Jvm.Cond.soleField "HintTeamModel" "turn") ∈ lw_all := lw_g (lw_at lw_m13 51 rfl) rfl
theorem q3080 : (Jvm.Cond.lays "HintTeamModel" "HintTeamModel" "left" "I") ∈ lw_all := lw_g (lw_at lw_m13 52 rfl) rfl
theorem q3081 : (Jvm.Cond.soleField "HintTeamModel" "left") ∈ lw_all := lw_g (lw_at lw_m13 53 rfl) rfl
theorem q3082 : (Jvm.Cond.laysFinal "HintTeamModel" "HintTeamModel" "output" "[B") ∈ lw_all := lw_g (lw_at lw_m13 54 rfl) rfl
theorem q3083 : (Jvm.Cond.soleField "HintTeamModel" "output") ∈ lw_all := lw_g (lw_at lw_m13 55 rfl) rfl
theorem q3084 : (Jvm.Cond.lays "HintTeamModel" "HintTeamModel" "written" "I") ∈ lw_all := lw_g (lw_at lw_m13 56 rfl) rfl
theorem q3085 : (Jvm.Cond.soleField "HintTeamModel" "written") ∈ lw_all := lw_g (lw_at lw_m13 57 rfl) rfl
theorem q3086 : (Jvm.Cond.superclass "HintTeamModel" "java/lang/Object") ∈ lw_all := lw_g (lw_at lw_m13 58 rfl) rfl
theorem q3089 : (Jvm.Cond.instanceMethod ({ cls := "HintTeamModel", name := "thrown", desc := "()I" } : Jvm.MethodName)) ∈ lw_all := lw_g (lw_at lw_m13 61 rfl) rfl
theorem q3090 : (Jvm.Cond.selects "HintTeamModel" ({ cls := "HintTeamModel", name := "thrown", desc := "()I" } : Jvm.MethodName) ({ cls := "HintTeamModel", name := "thrown", desc := "()I" } : Jvm.MethodName)) ∈ lw_all := lw_g (lw_at lw_m13 62 rfl) rfl
theorem q3091 : (Jvm.Cond.code ({ cls := "HintTeamModel", name := "thrown", desc := "()I" } : Jvm.MethodName) prog_15_method_2_code (1 : Nat) (Option.some Jvm.ClassFile.FieldType.int)) ∈ lw_all := lw_g (lw_at lw_m13 63 rfl) rfl
theorem q3093 : (Jvm.Cond.instanceMethod ({ cls := "HintTeamModel", name := "append", desc := "(J)I" } : Jvm.MethodName)) ∈ lw_all := lw_g (lw_at lw_m13 65 rfl) rfl
theorem q3094 : (Jvm.Cond.selects "HintTeamModel" ({ cls := "HintTeamModel", name := "append", desc := "(J)I" } : Jvm.MethodName) ({ cls := "HintTeamModel", name := "append", desc := "(J)I" } : Jvm.MethodName)) ∈ lw_all := lw_g (lw_at lw_m13 66 rfl) rfl
theorem q3095 : (Jvm.Cond.code ({ cls := "HintTeamModel", name := "append", desc := "(J)I" } : Jvm.MethodName) prog_15_method_15_code (5 : Nat) (Option.some Jvm.ClassFile.FieldType.int)) ∈ lw_all := lw_g (lw_at lw_m13 67 rfl) rfl
theorem q3096 : (Jvm.Cond.methodLink "HintTeamModel" (79 : Nat) ({ cls := "HintTeamModel", name := "byteOf", desc := "(JI)I" } : Jvm.MethodName)) ∈ lw_all := lw_g (lw_at lw_m13 68 rfl) rfl
theorem q3097 : (Jvm.Cond.static ({ cls := "HintTeamModel", name := "byteOf", desc := "(JI)I" } : Jvm.MethodName)) ∈ lw_all := lw_g (lw_at lw_m13 69 rfl) rfl
theorem q3098 : (Jvm.Cond.code ({ cls := "HintTeamModel", name := "byteOf", desc := "(JI)I" } : Jvm.MethodName) prog_15_method_14_code (3 : Nat) (Option.some Jvm.ClassFile.FieldType.int)) ∈ lw_all := lw_g (lw_at lw_m13 70 rfl) rfl
theorem q3099 : (Jvm.Cond.constantLong "HintTeamModel" (77 : Nat) (255 : Int64)) ∈ lw_all := lw_g (lw_at lw_m13 71 rfl) rfl
theorem q3101 : (Jvm.Cond.instanceMethod ({ cls := "HintTeamModel", name := "load", desc := "()I" } : Jvm.MethodName)) ∈ lw_all := lw_g (lw_at lw_m13 73 rfl) rfl
theorem q3102 : (Jvm.Cond.selects "HintTeamModel" ({ cls := "HintTeamModel", name := "load", desc := "()I" } : Jvm.MethodName) ({ cls := "HintTeamModel", name := "load", desc := "()I" } : Jvm.MethodName)) ∈ lw_all := lw_g (lw_at lw_m13 74 rfl) rfl
theorem q3103 : (Jvm.Cond.code ({ cls := "HintTeamModel", name := "load", desc := "()I" } : Jvm.MethodName) prog_15_method_30_code (3 : Nat) (Option.some Jvm.ClassFile.FieldType.int)) ∈ lw_all := lw_g (lw_at lw_m13 75 rfl) rfl
theorem q3104 : (Jvm.Cond.methodLink "HintTeamModel" (62 : Nat) ({ cls := "HintTeamModel", name := "in", desc := "(III)Z" } : Jvm.MethodName)) ∈ lw_all := lw_g (lw_at lw_m13 76 rfl) rfl
theorem q3105 : (Jvm.Cond.static ({ cls := "HintTeamModel", name := "in", desc := "(III)Z" } : Jvm.MethodName)) ∈ lw_all := lw_g (lw_at lw_m13 77 rfl) rfl
theorem q3106 : (Jvm.Cond.code ({ cls := "HintTeamModel", name := "in", desc := "(III)Z" } : Jvm.MethodName) prog_15_method_3_code (3 : Nat) (Option.some Jvm.ClassFile.FieldType.boolean)) ∈ lw_all := lw_g (lw_at lw_m13 78 rfl) rfl
theorem q3107 : (Jvm.Cond.methodLink "HintTeamModel" (185 : Nat) ({ cls := "HintTeamModel", name := "statement", desc := "()V" } : Jvm.MethodName)) ∈ lw_all := lw_g (lw_at lw_m13 79 rfl) rfl
theorem q3108 : (Jvm.Cond.privateMethod ({ cls := "HintTeamModel", name := "statement", desc := "()V" } : Jvm.MethodName)) ∈ lw_tbl := lw_at lw_m13 80 rfl
theorem q3109 : (Jvm.Cond.instanceMethod ({ cls := "HintTeamModel", name := "statement", desc := "()V" } : Jvm.MethodName)) ∈ lw_all := lw_g (lw_at lw_m13 81 rfl) rfl
theorem q3110 : (Jvm.Cond.code ({ cls := "HintTeamModel", name := "statement", desc := "()V" } : Jvm.MethodName) prog_15_method_27_code (1 : Nat) (Option.none : Option Jvm.ClassFile.FieldType)) ∈ lw_all := lw_g (lw_at lw_m13 82 rfl) rfl
theorem q3111 : (Jvm.Cond.methodLink "HintTeamModel" (133 : Nat) ({ cls := "HintTeamModel", name := "reads", desc := "()V" } : Jvm.MethodName)) ∈ lw_all := lw_g (lw_at lw_m13 83 rfl) rfl
theorem q3112 : (Jvm.Cond.privateMethod ({ cls := "HintTeamModel", name := "reads", desc := "()V" } : Jvm.MethodName)) ∈ lw_tbl := lw_at lw_m13 84 rfl
theorem q3113 : (Jvm.Cond.instanceMethod ({ cls := "HintTeamModel", name := "reads", desc := "()V" } : Jvm.MethodName)) ∈ lw_all := lw_g (lw_at lw_m13 85 rfl) rfl
theorem q3114 : (Jvm.Cond.code ({ cls := "HintTeamModel", name := "reads", desc := "()V" } : Jvm.MethodName) prog_15_method_19_code (1 : Nat) (Option.none : Option Jvm.ClassFile.FieldType)) ∈ lw_all := lw_g (lw_at lw_m13 86 rfl) rfl
theorem q3115 : (Jvm.Cond.methodLink "HintTeamModel" (102 : Nat) ({ cls := "HintTeamModel", name := "next", desc := "()I" } : Jvm.MethodName)) ∈ lw_all := lw_g (lw_at lw_m13 87 rfl) rfl
theorem q3116 : (Jvm.Cond.privateMethod ({ cls := "HintTeamModel", name := "next", desc := "()I" } : Jvm.MethodName)) ∈ lw_tbl := lw_at lw_m13 88 rfl
theorem q3117 : (Jvm.Cond.instanceMethod ({ cls := "HintTeamModel", name := "next", desc := "()I" } : Jvm.MethodName)) ∈ lw_all := lw_g (lw_at lw_m13 89 rfl) rfl
theorem q3118 : (Jvm.Cond.code ({ cls := "HintTeamModel", name := "next", desc := "()I" } : Jvm.MethodName) prog_15_method_17_code (1 : Nat) (Option.some Jvm.ClassFile.FieldType.int)) ∈ lw_all := lw_g (lw_at lw_m13 90 rfl) rfl
theorem q3119 : (Jvm.Cond.methodLink "HintTeamModel" (89 : Nat) ({ cls := "HintTeamModel", name := "here", desc := "()I" } : Jvm.MethodName)) ∈ lw_all := lw_g (lw_at lw_m13 91 rfl) rfl
theorem q3120 : (Jvm.Cond.privateMethod ({ cls := "HintTeamModel", name := "here", desc := "()I" } : Jvm.MethodName)) ∈ lw_tbl := lw_at lw_m13 92 rfl
theorem q3121 : (Jvm.Cond.instanceMethod ({ cls := "HintTeamModel", name := "here", desc := "()I" } : Jvm.MethodName)) ∈ lw_all := lw_g (lw_at lw_m13 93 rfl) rfl
theorem q3122 : (Jvm.Cond.code ({ cls := "HintTeamModel", name := "here", desc := "()I" } : Jvm.MethodName) prog_15_method_16_code (1 : Nat) (Option.some Jvm.ClassFile.FieldType.int)) ∈ lw_all := lw_g (lw_at lw_m13 94 rfl) rfl
theorem q3123 : (Jvm.Cond.stringRef "HintTeamModel" (145 : Nat) "game") ∈ lw_tbl := lw_at lw_m13 95 rfl
theorem q3124 : (Jvm.Cond.methodLink "HintTeamModel" (147 : Nat) ({ cls := "HintTeamModel", name := "isWord", desc := "(Ljava/lang/String;)Z" } : Jvm.MethodName)) ∈ lw_all := lw_g (lw_at lw_m13 96 rfl) rfl
theorem q3125 : (Jvm.Cond.privateMethod ({ cls := "HintTeamModel", name := "isWord", desc := "(Ljava/lang/String;)Z" } : Jvm.MethodName)) ∈ lw_tbl := lw_at lw_m13 97 rfl
theorem q3126 : (Jvm.Cond.instanceMethod ({ cls := "HintTeamModel", name := "isWord", desc := "(Ljava/lang/String;)Z" } : Jvm.MethodName)) ∈ lw_all := lw_g (lw_at lw_m13 98 rfl) rfl
theorem q3127 : (Jvm.Cond.code ({ cls := "HintTeamModel", name := "isWord", desc := "(Ljava/lang/String;)Z" } : Jvm.MethodName) prog_15_method_20_code (4 : Nat) (Option.some Jvm.ClassFile.FieldType.boolean)) ∈ lw_all := lw_g (lw_at lw_m13 99 rfl) rfl
theorem q3128 : (Jvm.Cond.methodLink "HintTeamModel" (105 : Nat) ({ cls := "java/lang/String", name := "length", desc := "()I" } : Jvm.MethodName)) ∈ lw_all := lw_g (lw_at lw_m13 100 rfl) rfl
theorem q3129 : (Jvm.Cond.methodLink "HintTeamModel" (109 : Nat) ({ cls := "java/lang/String", name := "charAt", desc := "(I)C" } : Jvm.MethodName)) ∈ lw_all := lw_g (lw_at lw_m13 101 rfl) rfl
theorem q3130 : (Jvm.Cond.methodLink "HintTeamModel" (151 : Nat) ({ cls := "HintTeamModel", name := "gamePart", desc := "()V" } : Jvm.MethodName)) ∈ lw_all := lw_g (lw_at lw_m13 102 rfl) rfl
theorem q3131 : (Jvm.Cond.privateMethod ({ cls := "HintTeamModel", name := "gamePart", desc := "()V" } : Jvm.MethodName)) ∈ lw_tbl := lw_at lw_m13 103 rfl
theorem q3132 : (Jvm.Cond.instanceMethod ({ cls := "HintTeamModel", name := "gamePart", desc := "()V" } : Jvm.MethodName)) ∈ lw_all := lw_g (lw_at lw_m13 104 rfl) rfl
theorem q3133 : (Jvm.Cond.code ({ cls := "HintTeamModel", name := "gamePart", desc := "()V" } : Jvm.MethodName) prog_15_method_23_code (1 : Nat) (Option.none : Option Jvm.ClassFile.FieldType)) ∈ lw_all := lw_g (lw_at lw_m13 105 rfl) rfl
theorem q3134 : (Jvm.Cond.methodLink "HintTeamModel" (120 : Nat) ({ cls := "HintTeamModel", name := "fails", desc := "(I)V" } : Jvm.MethodName)) ∈ lw_all := lw_g (lw_at lw_m13 106 rfl) rfl
theorem q3135 : (Jvm.Cond.privateMethod ({ cls := "HintTeamModel", name := "fails", desc := "(I)V" } : Jvm.MethodName)) ∈ lw_tbl := lw_at lw_m13 107 rfl
theorem q3136 : (Jvm.Cond.instanceMethod ({ cls := "HintTeamModel", name := "fails", desc := "(I)V" } : Jvm.MethodName)) ∈ lw_all := lw_g (lw_at lw_m13 108 rfl) rfl
theorem q3137 : (Jvm.Cond.code ({ cls := "HintTeamModel", name := "fails", desc := "(I)V" } : Jvm.MethodName) prog_15_method_18_code (2 : Nat) (Option.none : Option Jvm.ClassFile.FieldType)) ∈ lw_all := lw_g (lw_at lw_m13 109 rfl) rfl
theorem q3138 : (Jvm.Cond.methodLink "HintTeamModel" (130 : Nat) ({ cls := "HintTeamModel", name := "number", desc := "(II)I" } : Jvm.MethodName)) ∈ lw_all := lw_g (lw_at lw_m13 110 rfl) rfl
theorem q3139 : (Jvm.Cond.privateMethod ({ cls := "HintTeamModel", name := "number", desc := "(II)I" } : Jvm.MethodName)) ∈ lw_tbl := lw_at lw_m13 111 rfl
theorem q3140 : (Jvm.Cond.instanceMethod ({ cls := "HintTeamModel", name := "number", desc := "(II)I" } : Jvm.MethodName)) ∈ lw_all := lw_g (lw_at lw_m13 112 rfl) rfl
theorem q3141 : (Jvm.Cond.code ({ cls := "HintTeamModel", name := "number", desc := "(II)I" } : Jvm.MethodName) prog_15_method_22_code (4 : Nat) (Option.some Jvm.ClassFile.FieldType.int)) ∈ lw_all := lw_g (lw_at lw_m13 113 rfl) rfl
theorem q3142 : (Jvm.Cond.methodLink "HintTeamModel" (124 : Nat) ({ cls := "HintTeamModel", name := "digits", desc := "()I" } : Jvm.MethodName)) ∈ lw_all := lw_g (lw_at lw_m13 114 rfl) rfl
theorem q3143 : (Jvm.Cond.privateMethod ({ cls := "HintTeamModel", name := "digits", desc := "()I" } : Jvm.MethodName)) ∈ lw_tbl := lw_at lw_m13 115 rfl
theorem q3144 : (Jvm.Cond.instanceMethod ({ cls := "HintTeamModel", name := "digits", desc := "()I" } : Jvm.MethodName)) ∈ lw_all := lw_g (lw_at lw_m13 116 rfl) rfl
theorem q3145 : (Jvm.Cond.code ({ cls := "HintTeamModel", name := "digits", desc := "()I" } : Jvm.MethodName) prog_15_method_21_code (2 : Nat) (Option.some Jvm.ClassFile.FieldType.int)) ∈ lw_all := lw_g (lw_at lw_m13 117 rfl) rfl
theorem q3146 : (Jvm.Cond.constant "HintTeamModel" (113 : Nat) (10000000 : Int32)) ∈ lw_all := lw_g (lw_at lw_m13 118 rfl) rfl
theorem q3147 : (Jvm.Cond.methodLink "HintTeamModel" (114 : Nat) ({ cls := "java/lang/Math", name := "min", desc := "(II)I" } : Jvm.MethodName)) ∈ lw_all := lw_g (lw_at lw_m13 119 rfl) rfl
theorem q3148 : (Jvm.Cond.stringRef "HintTeamModel" (154 : Nat) "deck") ∈ lw_tbl := lw_at lw_m13 120 rfl
theorem q3149 : (Jvm.Cond.methodLink "HintTeamModel" (156 : Nat) ({ cls := "HintTeamModel", name := "deckPart", desc := "()V" } : Jvm.MethodName)) ∈ lw_all := lw_g (lw_at lw_m13 121 rfl) rfl
theorem q3150 : (Jvm.Cond.privateMethod ({ cls := "HintTeamModel", name := "deckPart", desc := "()V" } : Jvm.MethodName)) ∈ lw_tbl := lw_at lw_m13 122 rfl
theorem q3151 : (Jvm.Cond.instanceMethod ({ cls := "HintTeamModel", name := "deckPart", desc := "()V" } : Jvm.MethodName)) ∈ lw_all := lw_g (lw_at lw_m13 123 rfl) rfl
theorem q3152 : (Jvm.Cond.code ({ cls := "HintTeamModel", name := "deckPart", desc := "()V" } : Jvm.MethodName) prog_15_method_25_code (1 : Nat) (Option.none : Option Jvm.ClassFile.FieldType)) ∈ lw_all := lw_g (lw_at lw_m13 124 rfl) rfl
theorem q3153 : (Jvm.Cond.methodLink "HintTeamModel" (139 : Nat) ({ cls := "HintTeamModel", name := "cardPart", desc := "()V" } : Jvm.MethodName)) ∈ lw_all := lw_g (lw_at lw_m13 125 rfl) rfl
theorem q3154 : (Jvm.Cond.privateMethod ({ cls := "HintTeamModel", name := "cardPart", desc := "()V" } : Jvm.MethodName)) ∈ lw_tbl := lw_at lw_m13 126 rfl
theorem q3155 : (Jvm.Cond.instanceMethod ({ cls := "HintTeamModel", name := "cardPart", desc := "()V" } : Jvm.MethodName)) ∈ lw_all := lw_g (lw_at lw_m13 127 rfl) rfl
theorem q3156 : (Jvm.Cond.code ({ cls := "HintTeamModel", name := "cardPart", desc := "()V" } : Jvm.MethodName) prog_15_method_24_code (3 : Nat) (Option.none : Option Jvm.ClassFile.FieldType)) ∈ lw_all := lw_g (lw_at lw_m13 128 rfl) rfl
theorem q3157 : (Jvm.Cond.methodLink "HintTeamModel" (136 : Nat) ({ cls := "HintTeamModel", name := "kind", desc := "(II)I" } : Jvm.MethodName)) ∈ lw_all := lw_g (lw_at lw_m13 129 rfl) rfl
theorem q3158 : (Jvm.Cond.static ({ cls := "HintTeamModel", name := "kind", desc := "(II)I" } : Jvm.MethodName)) ∈ lw_all := lw_g (lw_at lw_m13 130 rfl) rfl
theorem q3159 : (Jvm.Cond.code ({ cls := "HintTeamModel", name := "kind", desc := "(II)I" } : Jvm.MethodName) prog_15_method_9_code (2 : Nat) (Option.some Jvm.ClassFile.FieldType.int)) ∈ lw_all := lw_g (lw_at lw_m13 131 rfl) rfl
theorem q3160 : (Jvm.Cond.stringRef "HintTeamModel" (159 : Nat) "tokens") ∈ lw_tbl := lw_at lw_m13 132 rfl
theorem q3161 : (Jvm.Cond.stringRef "HintTeamModel" (161 : Nat) "lives") ∈ lw_tbl := lw_at lw_m13 133 rfl
theorem q3162 : (Jvm.Cond.stringRef "HintTeamModel" (163 : Nat) "color") ∈ lw_tbl := lw_at lw_m13 134 rfl
theorem q3163 : (Jvm.Cond.methodLink "HintTeamModel" (165 : Nat) ({ cls := "HintTeamModel", name := "wordPart", desc := "(Z)V" } : Jvm.MethodName)) ∈ lw_all := lw_g (lw_at lw_m13 135 rfl) rfl
theorem q3164 : (Jvm.Cond.privateMethod ({ cls := "HintTeamModel", name := "wordPart", desc := "(Z)V" } : Jvm.MethodName)) ∈ lw_tbl := lw_at lw_m13 136 rfl
theorem q3165 : (Jvm.Cond.instanceMethod ({ cls := "HintTeamModel", name := "wordPart", desc := "(Z)V" } : Jvm.MethodName)) ∈ lw_all := lw_g (lw_at lw_m13 137 rfl) rfl
theorem q3166 : (Jvm.Cond.code ({ cls := "HintTeamModel", name := "wordPart", desc := "(Z)V" } : Jvm.MethodName) prog_15_method_26_code (3 : Nat) (Option.none : Option Jvm.ClassFile.FieldType)) ∈ lw_all := lw_g (lw_at lw_m13 138 rfl) rfl
theorem q3167 : (Jvm.Cond.methodLink "HintTeamModel" (142 : Nat) ({ cls := "HintTeamModel", name := "wordAt", desc := "(II)I" } : Jvm.MethodName)) ∈ lw_all := lw_g (lw_at lw_m13 139 rfl) rfl
theorem q3168 : (Jvm.Cond.static ({ cls := "HintTeamModel", name := "wordAt", desc := "(II)I" } : Jvm.MethodName)) ∈ lw_all := lw_g (lw_at lw_m13 140 rfl) rfl
theorem q3169 : (Jvm.Cond.code ({ cls := "HintTeamModel", name := "wordAt", desc := "(II)I" } : Jvm.MethodName) prog_15_method_61_code (2 : Nat) (Option.some Jvm.ClassFile.FieldType.int)) ∈ lw_all := lw_g (lw_at lw_m13 141 rfl) rfl
theorem q3170 : (Jvm.Cond.stringRef "HintTeamModel" (169 : Nat) "rank") ∈ lw_tbl := lw_at lw_m13 142 rfl
theorem q3171 : (Jvm.Cond.stringRef "HintTeamModel" (171 : Nat) "shuffle") ∈ lw_tbl := lw_at lw_m13 143 rfl
theorem q3172 : (Jvm.Cond.constant "HintTeamModel" (173 : Nat) (999999 : Int32)) ∈ lw_all := lw_g (lw_at lw_m13 144 rfl) rfl
theorem q3173 : (Jvm.Cond.methodLink "HintTeamModel" (187 : Nat) ({ cls := "HintTeamModel", name := "isMore", desc := "()Z" } : Jvm.MethodName)) ∈ lw_all := lw_g (lw_at lw_m13 145 rfl) rfl
theorem q3174 : (Jvm.Cond.privateMethod ({ cls := "HintTeamModel", name := "isMore", desc := "()Z" } : Jvm.MethodName)) ∈ lw_tbl := lw_at lw_m13 146 rfl
theorem q3175 : (Jvm.Cond.instanceMethod ({ cls := "HintTeamModel", name := "isMore", desc := "()Z" } : Jvm.MethodName)) ∈ lw_all := lw_g (lw_at lw_m13 147 rfl) rfl
theorem q3176 : (Jvm.Cond.code ({ cls := "HintTeamModel", name := "isMore", desc := "()Z" } : Jvm.MethodName) prog_15_method_28_code (1 : Nat) (Option.some Jvm.ClassFile.FieldType.boolean)) ∈ lw_all := lw_g (lw_at lw_m13 148 rfl) rfl
theorem q3177 : (Jvm.Cond.methodLink "HintTeamModel" (194 : Nat) ({ cls := "HintTeamModel", name := "shuffles", desc := "()V" } : Jvm.MethodName)) ∈ lw_all := lw_g (lw_at lw_m13 149 rfl) rfl
theorem q3178 : (Jvm.Cond.privateMethod ({ cls := "HintTeamModel", name := "shuffles", desc := "()V" } : Jvm.MethodName)) ∈ lw_tbl := lw_at lw_m13 150 rfl
theorem q3179 : (Jvm.Cond.instanceMethod ({ cls := "HintTeamModel", name := "shuffles", desc := "()V" } : Jvm.MethodName)) ∈ lw_all := lw_g (lw_at lw_m13 151 rfl) rfl
theorem q3180 : (Jvm.Cond.code ({ cls := "HintTeamModel", name := "shuffles", desc := "()V" } : Jvm.MethodName) prog_15_method_29_code (6 : Nat) (Option.none : Option Jvm.ClassFile.FieldType)) ∈ lw_all := lw_g (lw_at lw_m13 152 rfl) rfl
theorem q3181 : (Jvm.Cond.constantLong "HintTeamModel" (177 : Nat) (1103515245 : Int64)) ∈ lw_all := lw_g (lw_at lw_m13 153 rfl) rfl
theorem q3182 : (Jvm.Cond.constantLong "HintTeamModel" (179 : Nat) (12345 : Int64)) ∈ lw_all := lw_g (lw_at lw_m13 154 rfl) rfl
theorem q3183 : (Jvm.Cond.constantLong "HintTeamModel" (181 : Nat) (2147483648 : Int64)) ∈ lw_all := lw_g (lw_at lw_m13 155 rfl) rfl
theorem q3184 : (Jvm.Cond.constantLong "HintTeamModel" (183 : Nat) (65536 : Int64)) ∈ lw_all := lw_g (lw_at lw_m13 156 rfl) rfl
theorem q3185 : (Jvm.Cond.methodLink "HintTeamModel" (197 : Nat) ({ cls := "HintTeamModel", name := "copies", desc := "([II[II)V" } : Jvm.MethodName)) ∈ lw_all := lw_g (lw_at lw_m13 157 rfl) rfl
theorem q3186 : (Jvm.Cond.static ({ cls := "HintTeamModel", name := "copies", desc := "([II[II)V" } : Jvm.MethodName)) ∈ lw_all := lw_g (lw_at lw_m13 158 rfl) rfl
theorem q3187 : (Jvm.Cond.code ({ cls := "HintTeamModel", name := "copies", desc := "([II[II)V" } : Jvm.MethodName) prog_15_method_4_code (5 : Nat) (Option.none : Option Jvm.ClassFile.FieldType)) ∈ lw_all := lw_g (lw_at lw_m13 159 rfl) rfl
theorem q3188 : (Jvm.Cond.methodLink "HintTeamModel" (203 : Nat) ({ cls := "HintTeamModel", name := "draws", desc := "(I)V" } : Jvm.MethodName)) ∈ lw_all := lw_g (lw_at lw_m13 160 rfl) rfl
theorem q3189 : (Jvm.Cond.privateMethod ({ cls := "HintTeamModel", name := "draws", desc := "(I)V" } : Jvm.MethodName)) ∈ lw_tbl := lw_at lw_m13 161 rfl
theorem q3190 : (Jvm.Cond.instanceMethod ({ cls := "HintTeamModel", name := "draws", desc := "(I)V" } : Jvm.MethodName)) ∈ lw_all := lw_g (lw_at lw_m13 162 rfl) rfl
theorem q3191 : (Jvm.Cond.code ({ cls := "HintTeamModel", name := "draws", desc := "(I)V" } : Jvm.MethodName) prog_15_method_33_code (2 : Nat) (Option.none : Option Jvm.ClassFile.FieldType)) ∈ lw_all := lw_g (lw_at lw_m13 163 rfl) rfl
theorem q3193 : (Jvm.Cond.instanceMethod ({ cls := "HintTeamModel", name := "loadError", desc := "()I" } : Jvm.MethodName)) ∈ lw_all := lw_g (lw_at lw_m13 165 rfl) rfl
theorem q3194 : (Jvm.Cond.selects "HintTeamModel" ({ cls := "HintTeamModel", name := "loadError", desc := "()I" } : Jvm.MethodName) ({ cls := "HintTeamModel", name := "loadError", desc := "()I" } : Jvm.MethodName)) ∈ lw_all := lw_g (lw_at lw_m13 166 rfl) rfl
theorem q3195 : (Jvm.Cond.code ({ cls := "HintTeamModel", name := "loadError", desc := "()I" } : Jvm.MethodName) prog_15_method_31_code (1 : Nat) (Option.some Jvm.ClassFile.FieldType.int)) ∈ lw_all := lw_g (lw_at lw_m13 167 rfl) rfl
theorem q3197 : (Jvm.Cond.instanceMethod ({ cls := "HintTeamModel", name := "loadStatement", desc := "()I" } : Jvm.MethodName)) ∈ lw_all := lw_g (lw_at lw_m13 169 rfl) rfl
theorem q3198 : (Jvm.Cond.selects "HintTeamModel" ({ cls := "HintTeamModel", name := "loadStatement", desc := "()I" } : Jvm.MethodName) ({ cls := "HintTeamModel", name := "loadStatement", desc := "()I" } : Jvm.MethodName)) ∈ lw_all := lw_g (lw_at lw_m13 170 rfl) rfl
theorem q3199 : (Jvm.Cond.code ({ cls := "HintTeamModel", name := "loadStatement", desc := "()I" } : Jvm.MethodName) prog_15_method_32_code (1 : Nat) (Option.some Jvm.ClassFile.FieldType.int)) ∈ lw_all := lw_g (lw_at lw_m13 171 rfl) rfl
theorem q3201 : (Jvm.Cond.instanceMethod ({ cls := "HintTeamModel", name := "count", desc := "(I)I" } : Jvm.MethodName)) ∈ lw_all := lw_g (lw_at lw_m13 173 rfl) rfl
theorem q3202 : (Jvm.Cond.selects "HintTeamModel" ({ cls := "HintTeamModel", name := "count", desc := "(I)I" } : Jvm.MethodName) ({ cls := "HintTeamModel", name := "count", desc := "(I)I" } : Jvm.MethodName)) ∈ lw_all := lw_g (lw_at lw_m13 174 rfl) rfl
theorem q3203 : (Jvm.Cond.code ({ cls := "HintTeamModel", name := "count", desc := "(I)I" } : Jvm.MethodName) prog_15_method_35_code (2 : Nat) (Option.some Jvm.ClassFile.FieldType.int)) ∈ lw_all := lw_g (lw_at lw_m13 175 rfl) rfl
theorem q3204 : (Jvm.Cond.methodLink "HintTeamModel" (206 : Nat) ({ cls := "HintTeamModel", name := "isThrown", desc := "(ZI)Z" } : Jvm.MethodName)) ∈ lw_all := lw_g (lw_at lw_m13 176 rfl) rfl
theorem q3205 : (Jvm.Cond.privateMethod ({ cls := "HintTeamModel", name := "isThrown", desc := "(ZI)Z" } : Jvm.MethodName)) ∈ lw_tbl := lw_at lw_m13 177 rfl
theorem q3206 : (Jvm.Cond.instanceMethod ({ cls := "HintTeamModel", name := "isThrown", desc := "(ZI)Z" } : Jvm.MethodName)) ∈ lw_all := lw_g (lw_at lw_m13 178 rfl) rfl
theorem q3207 : (Jvm.Cond.code ({ cls := "HintTeamModel", name := "isThrown", desc := "(ZI)Z" } : Jvm.MethodName) prog_15_method_5_code (3 : Nat) (Option.some Jvm.ClassFile.FieldType.boolean)) ∈ lw_all := lw_g (lw_at lw_m13 179 rfl) rfl
theorem q3208 : (Jvm.Cond.methodLink "HintTeamModel" (210 : Nat) ({ cls := "HintTeamModel", name := "score", desc := "()I" } : Jvm.MethodName)) ∈ lw_all := lw_g (lw_at lw_m13 180 rfl) rfl
theorem q3209 : (Jvm.Cond.privateMethod ({ cls := "HintTeamModel", name := "score", desc := "()I" } : Jvm.MethodName)) ∈ lw_tbl := lw_at lw_m13 181 rfl
theorem q3210 : (Jvm.Cond.instanceMethod ({ cls := "HintTeamModel", name := "score", desc := "()I" } : Jvm.MethodName)) ∈ lw_all := lw_g (lw_at lw_m13 182 rfl) rfl
theorem q3211 : (Jvm.Cond.code ({ cls := "HintTeamModel", name := "score", desc := "()I" } : Jvm.MethodName) prog_15_method_34_code (3 : Nat) (Option.some Jvm.ClassFile.FieldType.int)) ∈ lw_all := lw_g (lw_at lw_m13 183 rfl) rfl
theorem q3213 : (Jvm.Cond.instanceMethod ({ cls := "HintTeamModel", name := "turnOf", desc := "()I" } : Jvm.MethodName)) ∈ lw_all := lw_g (lw_at lw_m13 185 rfl) rfl
theorem q3214 : (Jvm.Cond.selects "HintTeamModel" ({ cls := "HintTeamModel", name := "turnOf", desc := "()I" } : Jvm.MethodName) ({ cls := "HintTeamModel", name := "turnOf", desc := "()I" } : Jvm.MethodName)) ∈ lw_all := lw_g (lw_at lw_m13 186 rfl) rfl
theorem q3215 : (Jvm.Cond.code ({ cls := "HintTeamModel", name := "turnOf", desc := "()I" } : Jvm.MethodName) prog_15_method_36_code (1 : Nat) (Option.some Jvm.ClassFile.FieldType.int)) ∈ lw_all := lw_g (lw_at lw_m13 187 rfl) rfl
theorem q3217 : (Jvm.Cond.instanceMethod ({ cls := "HintTeamModel", name := "over", desc := "()I" } : Jvm.MethodName)) ∈ lw_all := lw_g (lw_at lw_m13 189 rfl) rfl
theorem q3218 : (Jvm.Cond.selects "HintTeamModel" ({ cls := "HintTeamModel", name := "over", desc := "()I" } : Jvm.MethodName) ({ cls := "HintTeamModel", name := "over", desc := "()I" } : Jvm.MethodName)) ∈ lw_all := lw_g (lw_at lw_m13 190 rfl) rfl
theorem q3219 : (Jvm.Cond.code ({ cls := "HintTeamModel", name := "over", desc := "()I" } : Jvm.MethodName) prog_15_method_37_code (1 : Nat) (Option.some Jvm.ClassFile.FieldType.int)) ∈ lw_all := lw_g (lw_at lw_m13 191 rfl) rfl
theorem q3221 : (Jvm.Cond.instanceMethod ({ cls := "HintTeamModel", name := "pile", desc := "(I)I" } : Jvm.MethodName)) ∈ lw_all := lw_g (lw_at lw_m13 193 rfl) rfl
theorem q3222 : (Jvm.Cond.selects "HintTeamModel" ({ cls := "HintTeamModel", name := "pile", desc := "(I)I" } : Jvm.MethodName) ({ cls := "HintTeamModel", name := "pile", desc := "(I)I" } : Jvm.MethodName)) ∈ lw_all := lw_g (lw_at lw_m13 194 rfl) rfl
theorem q3223 : (Jvm.Cond.code ({ cls := "HintTeamModel", name := "pile", desc := "(I)I" } : Jvm.MethodName) prog_15_method_38_code (2 : Nat) (Option.some Jvm.ClassFile.FieldType.int)) ∈ lw_all := lw_g (lw_at lw_m13 195 rfl) rfl
theorem q3225 : (Jvm.Cond.instanceMethod ({ cls := "HintTeamModel", name := "hand", desc := "(I)I" } : Jvm.MethodName)) ∈ lw_all := lw_g (lw_at lw_m13 197 rfl) rfl
theorem q3226 : (Jvm.Cond.selects "HintTeamModel" ({ cls := "HintTeamModel", name := "hand", desc := "(I)I" } : Jvm.MethodName) ({ cls := "HintTeamModel", name := "hand", desc := "(I)I" } : Jvm.MethodName)) ∈ lw_all := lw_g (lw_at lw_m13 198 rfl) rfl
theorem q3227 : (Jvm.Cond.code ({ cls := "HintTeamModel", name := "hand", desc := "(I)I" } : Jvm.MethodName) prog_15_method_39_code (2 : Nat) (Option.some Jvm.ClassFile.FieldType.int)) ∈ lw_all := lw_g (lw_at lw_m13 199 rfl) rfl
theorem q3228 : (Jvm.Cond.methodLink "HintTeamModel" (66 : Nat) ({ cls := "HintTeamModel", name := "isPlayer", desc := "(I)Z" } : Jvm.MethodName)) ∈ lw_all := lw_g (lw_at lw_m13 200 rfl) rfl
theorem q3229 : (Jvm.Cond.privateMethod ({ cls := "HintTeamModel", name := "isPlayer", desc := "(I)Z" } : Jvm.MethodName)) ∈ lw_tbl := lw_at lw_m13 201 rfl
theorem q3230 : (Jvm.Cond.instanceMethod ({ cls := "HintTeamModel", name := "isPlayer", desc := "(I)Z" } : Jvm.MethodName)) ∈ lw_all := lw_g (lw_at lw_m13 202 rfl) rfl
theorem q3231 : (Jvm.Cond.code ({ cls := "HintTeamModel", name := "isPlayer", desc := "(I)Z" } : Jvm.MethodName) prog_15_method_6_code (2 : Nat) (Option.some Jvm.ClassFile.FieldType.boolean)) ∈ lw_all := lw_g (lw_at lw_m13 203 rfl) rfl
theorem q3233 : (Jvm.Cond.instanceMethod ({ cls := "HintTeamModel", name := "card", desc := "(II)I" } : Jvm.MethodName)) ∈ lw_all := lw_g (lw_at lw_m13 205 rfl) rfl
theorem q3234 : (Jvm.Cond.selects "HintTeamModel" ({ cls := "HintTeamModel", name := "card", desc := "(II)I" } : Jvm.MethodName) ({ cls := "HintTeamModel", name := "card", desc := "(II)I" } : Jvm.MethodName)) ∈ lw_all := lw_g (lw_at lw_m13 206 rfl) rfl
theorem q3235 : (Jvm.Cond.code ({ cls := "HintTeamModel", name := "card", desc := "(II)I" } : Jvm.MethodName) prog_15_method_40_code (3 : Nat) (Option.some Jvm.ClassFile.FieldType.int)) ∈ lw_all := lw_g (lw_at lw_m13 207 rfl) rfl
theorem q3236 : (Jvm.Cond.methodLink "HintTeamModel" (213 : Nat) ({ cls := "HintTeamModel", name := "isPlace", desc := "(II)Z" } : Jvm.MethodName)) ∈ lw_all := lw_g (lw_at lw_m13 208 rfl) rfl
theorem q3237 : (Jvm.Cond.privateMethod ({ cls := "HintTeamModel", name := "isPlace", desc := "(II)Z" } : Jvm.MethodName)) ∈ lw_tbl := lw_at lw_m13 209 rfl
theorem q3238 : (Jvm.Cond.instanceMethod ({ cls := "HintTeamModel", name := "isPlace", desc := "(II)Z" } : Jvm.MethodName)) ∈ lw_all := lw_g (lw_at lw_m13 210 rfl) rfl
theorem q3239 : (Jvm.Cond.code ({ cls := "HintTeamModel", name := "isPlace", desc := "(II)Z" } : Jvm.MethodName) prog_15_method_7_code (3 : Nat) (Option.some Jvm.ClassFile.FieldType.boolean)) ∈ lw_all := lw_g (lw_at lw_m13 211 rfl) rfl
theorem q3240 : (Jvm.Cond.methodLink "HintTeamModel" (217 : Nat) ({ cls := "HintTeamModel", name := "held", desc := "(II)I" } : Jvm.MethodName)) ∈ lw_all := lw_g (lw_at lw_m13 212 rfl) rfl
theorem q3241 : (Jvm.Cond.privateMethod ({ cls := "HintTeamModel", name := "held", desc := "(II)I" } : Jvm.MethodName)) ∈ lw_tbl := lw_at lw_m13 213 rfl
theorem q3242 : (Jvm.Cond.instanceMethod ({ cls := "HintTeamModel", name := "held", desc := "(II)I" } : Jvm.MethodName)) ∈ lw_all := lw_g (lw_at lw_m13 214 rfl) rfl
theorem q3243 : (Jvm.Cond.code ({ cls := "HintTeamModel", name := "held", desc := "(II)I" } : Jvm.MethodName) prog_15_method_8_code (3 : Nat) (Option.some Jvm.ClassFile.FieldType.int)) ∈ lw_all := lw_g (lw_at lw_m13 215 rfl) rfl
theorem q3244 : (Jvm.Cond.methodLink "HintTeamModel" (220 : Nat) ({ cls := "HintTeamModel", name := "told", desc := "(I)I" } : Jvm.MethodName)) ∈ lw_all := lw_g (lw_at lw_m13 216 rfl) rfl
theorem q3245 : (Jvm.Cond.static ({ cls := "HintTeamModel", name := "told", desc := "(I)I" } : Jvm.MethodName)) ∈ lw_all := lw_g (lw_at lw_m13 217 rfl) rfl
theorem q3246 : (Jvm.Cond.code ({ cls := "HintTeamModel", name := "told", desc := "(I)I" } : Jvm.MethodName) prog_15_method_12_code (1 : Nat) (Option.some Jvm.ClassFile.FieldType.int)) ∈ lw_all := lw_g (lw_at lw_m13 218 rfl) rfl
theorem q3247 : (Jvm.Cond.methodLink "HintTeamModel" (70 : Nat) ({ cls := "HintTeamModel", name := "colorOf", desc := "(I)I" } : Jvm.MethodName)) ∈ lw_all := lw_g (lw_at lw_m13 219 rfl) rfl
theorem q3248 : (Jvm.Cond.static ({ cls := "HintTeamModel", name := "colorOf", desc := "(I)I" } : Jvm.MethodName)) ∈ lw_all := lw_g (lw_at lw_m13 220 rfl) rfl
theorem q3249 : (Jvm.Cond.code ({ cls := "HintTeamModel", name := "colorOf", desc := "(I)I" } : Jvm.MethodName) prog_15_method_10_code (1 : Nat) (Option.some Jvm.ClassFile.FieldType.int)) ∈ lw_all := lw_g (lw_at lw_m13 221 rfl) rfl
theorem q3250 : (Jvm.Cond.methodLink "HintTeamModel" (74 : Nat) ({ cls := "HintTeamModel", name := "rankOf", desc := "(I)I" } : Jvm.MethodName)) ∈ lw_all := lw_g (lw_at lw_m13 222 rfl) rfl
theorem q3251 : (Jvm.Cond.static ({ cls := "HintTeamModel", name := "rankOf", desc := "(I)I" } : Jvm.MethodName)) ∈ lw_all := lw_g (lw_at lw_m13 223 rfl) rfl
theorem q3252 : (Jvm.Cond.code ({ cls := "HintTeamModel", name := "rankOf", desc := "(I)I" } : Jvm.MethodName) prog_15_method_11_code (1 : Nat) (Option.some Jvm.ClassFile.FieldType.int)) ∈ lw_all := lw_g (lw_at lw_m13 224 rfl) rfl
theorem q3254 : (Jvm.Cond.instanceMethod ({ cls := "HintTeamModel", name := "drawn", desc := "(I)I" } : Jvm.MethodName)) ∈ lw_all := lw_g (lw_at lw_m13 226 rfl) rfl
theorem q3255 : (Jvm.Cond.selects "HintTeamModel" ({ cls := "HintTeamModel", name := "drawn", desc := "(I)I" } : Jvm.MethodName) ({ cls := "HintTeamModel", name := "drawn", desc := "(I)I" } : Jvm.MethodName)) ∈ lw_all := lw_g (lw_at lw_m13 227 rfl) rfl
theorem q3256 : (Jvm.Cond.code ({ cls := "HintTeamModel", name := "drawn", desc := "(I)I" } : Jvm.MethodName) prog_15_method_41_code (2 : Nat) (Option.some Jvm.ClassFile.FieldType.int)) ∈ lw_all := lw_g (lw_at lw_m13 228 rfl) rfl
theorem q3258 : (Jvm.Cond.instanceMethod ({ cls := "HintTeamModel", name := "copies", desc := "(III)I" } : Jvm.MethodName)) ∈ lw_all := lw_g (lw_at lw_m13 230 rfl) rfl
theorem q3259 : (Jvm.Cond.selects "HintTeamModel" ({ cls := "HintTeamModel", name := "copies", desc := "(III)I" } : Jvm.MethodName) ({ cls := "HintTeamModel", name := "copies", desc := "(III)I" } : Jvm.MethodName)) ∈ lw_all := lw_g (lw_at lw_m13 231 rfl) rfl
theorem q3260 : (Jvm.Cond.code ({ cls := "HintTeamModel", name := "copies", desc := "(III)I" } : Jvm.MethodName) prog_15_method_44_code (5 : Nat) (Option.some Jvm.ClassFile.FieldType.int)) ∈ lw_all := lw_g (lw_at lw_m13 232 rfl) rfl
theorem q3261 : (Jvm.Cond.methodLink "HintTeamModel" (223 : Nat) ({ cls := "HintTeamModel", name := "isKind", desc := "(II)Z" } : Jvm.MethodName)) ∈ lw_all := lw_g (lw_at lw_m13 233 rfl) rfl
theorem q3262 : (Jvm.Cond.privateMethod ({ cls := "HintTeamModel", name := "isKind", desc := "(II)Z" } : Jvm.MethodName)) ∈ lw_tbl := lw_at lw_m13 234 rfl
theorem q3263 : (Jvm.Cond.instanceMethod ({ cls := "HintTeamModel", name := "isKind", desc := "(II)Z" } : Jvm.MethodName)) ∈ lw_all := lw_g (lw_at lw_m13 235 rfl) rfl
theorem q3264 : (Jvm.Cond.code ({ cls := "HintTeamModel", name := "isKind", desc := "(II)Z" } : Jvm.MethodName) prog_15_method_13_code (3 : Nat) (Option.some Jvm.ClassFile.FieldType.boolean)) ∈ lw_all := lw_g (lw_at lw_m13 236 rfl) rfl
theorem q3265 : (Jvm.Cond.methodLink "HintTeamModel" (226 : Nat) ({ cls := "HintTeamModel", name := "inDeck", desc := "(II)I" } : Jvm.MethodName)) ∈ lw_all := lw_g (lw_at lw_m13 237 rfl) rfl
theorem q3266 : (Jvm.Cond.privateMethod ({ cls := "HintTeamModel", name := "inDeck", desc := "(II)I" } : Jvm.MethodName)) ∈ lw_tbl := lw_at lw_m13 238 rfl
theorem q3267 : (Jvm.Cond.instanceMethod ({ cls := "HintTeamModel", name := "inDeck", desc := "(II)I" } : Jvm.MethodName)) ∈ lw_all := lw_g (lw_at lw_m13 239 rfl) rfl
theorem q3268 : (Jvm.Cond.code ({ cls := "HintTeamModel", name := "inDeck", desc := "(II)I" } : Jvm.MethodName) prog_15_method_42_code (5 : Nat) (Option.some Jvm.ClassFile.FieldType.int)) ∈ lw_all := lw_g (lw_at lw_m14 0 rfl) rfl
theorem q3269 : (Jvm.Cond.methodLink "HintTeamModel" (229 : Nat) ({ cls := "HintTeamModel", name := "inHands", desc := "(II)I" } : Jvm.MethodName)) ∈ lw_all := lw_g (lw_at lw_m14 1 rfl) rfl
theorem q3270 : (Jvm.Cond.privateMethod ({ cls := "HintTeamModel", name := "inHands", desc := "(II)I" } : Jvm.MethodName)) ∈ lw_tbl := lw_at lw_m14 2 rfl
theorem q3271 : (Jvm.Cond.instanceMethod ({ cls := "HintTeamModel", name := "inHands", desc := "(II)I" } : Jvm.MethodName)) ∈ lw_all := lw_g (lw_at lw_m14 3 rfl) rfl
theorem q3272 : (Jvm.Cond.code ({ cls := "HintTeamModel", name := "inHands", desc := "(II)I" } : Jvm.MethodName) prog_15_method_43_code (6 : Nat) (Option.some Jvm.ClassFile.FieldType.int)) ∈ lw_all := lw_g (lw_at lw_m14 4 rfl) rfl
theorem q3274 : (Jvm.Cond.instanceMethod ({ cls := "HintTeamModel", name := "isUseless", desc := "(II)Z" } : Jvm.MethodName)) ∈ lw_all := lw_g (lw_at lw_m14 6 rfl) rfl
theorem q3275 : (Jvm.Cond.selects "HintTeamModel" ({ cls := "HintTeamModel", name := "isUseless", desc := "(II)Z" } : Jvm.MethodName) ({ cls := "HintTeamModel", name := "isUseless", desc := "(II)Z" } : Jvm.MethodName)) ∈ lw_all := lw_g (lw_at lw_m14 7 rfl) rfl
theorem q3276 : (Jvm.Cond.code ({ cls := "HintTeamModel", name := "isUseless", desc := "(II)Z" } : Jvm.MethodName) prog_15_method_49_code (3 : Nat) (Option.some Jvm.ClassFile.FieldType.boolean)) ∈ lw_all := lw_g (lw_at lw_m14 8 rfl) rfl
theorem q3277 : (Jvm.Cond.methodLink "HintTeamModel" (235 : Nat) ({ cls := "HintTeamModel", name := "isUselessKind", desc := "(I)Z" } : Jvm.MethodName)) ∈ lw_all := lw_g (lw_at lw_m14 9 rfl) rfl
theorem q3278 : (Jvm.Cond.privateMethod ({ cls := "HintTeamModel", name := "isUselessKind", desc := "(I)Z" } : Jvm.MethodName)) ∈ lw_tbl := lw_at lw_m14 10 rfl
theorem q3279 : (Jvm.Cond.instanceMethod ({ cls := "HintTeamModel", name := "isUselessKind", desc := "(I)Z" } : Jvm.MethodName)) ∈ lw_all := lw_g (lw_at lw_m14 11 rfl) rfl
theorem q3280 : (Jvm.Cond.code ({ cls := "HintTeamModel", name := "isUselessKind", desc := "(I)Z" } : Jvm.MethodName) prog_15_method_46_code (4 : Nat) (Option.some Jvm.ClassFile.FieldType.boolean)) ∈ lw_all := lw_g (lw_at lw_m14 12 rfl) rfl
theorem q3281 : (Jvm.Cond.methodLink "HintTeamModel" (232 : Nat) ({ cls := "HintTeamModel", name := "isGone", desc := "(I)Z" } : Jvm.MethodName)) ∈ lw_all := lw_g (lw_at lw_m14 13 rfl) rfl
theorem q3282 : (Jvm.Cond.privateMethod ({ cls := "HintTeamModel", name := "isGone", desc := "(I)Z" } : Jvm.MethodName)) ∈ lw_tbl := lw_at lw_m14 14 rfl
theorem q3283 : (Jvm.Cond.instanceMethod ({ cls := "HintTeamModel", name := "isGone", desc := "(I)Z" } : Jvm.MethodName)) ∈ lw_all := lw_g (lw_at lw_m14 15 rfl) rfl
theorem q3284 : (Jvm.Cond.code ({ cls := "HintTeamModel", name := "isGone", desc := "(I)Z" } : Jvm.MethodName) prog_15_method_45_code (2 : Nat) (Option.some Jvm.ClassFile.FieldType.boolean)) ∈ lw_all := lw_g (lw_at lw_m14 16 rfl) rfl
theorem q3286 : (Jvm.Cond.instanceMethod ({ cls := "HintTeamModel", name := "isCritical", desc := "(II)Z" } : Jvm.MethodName)) ∈ lw_all := lw_g (lw_at lw_m14 18 rfl) rfl
theorem q3287 : (Jvm.Cond.selects "HintTeamModel" ({ cls := "HintTeamModel", name := "isCritical", desc := "(II)Z" } : Jvm.MethodName) ({ cls := "HintTeamModel", name := "isCritical", desc := "(II)Z" } : Jvm.MethodName)) ∈ lw_all := lw_g (lw_at lw_m14 19 rfl) rfl
theorem q3288 : (Jvm.Cond.code ({ cls := "HintTeamModel", name := "isCritical", desc := "(II)Z" } : Jvm.MethodName) prog_15_method_50_code (3 : Nat) (Option.some Jvm.ClassFile.FieldType.boolean)) ∈ lw_all := lw_g (lw_at lw_m14 20 rfl) rfl
theorem q3289 : (Jvm.Cond.methodLink "HintTeamModel" (238 : Nat) ({ cls := "HintTeamModel", name := "isCriticalKind", desc := "(I)Z" } : Jvm.MethodName)) ∈ lw_all := lw_g (lw_at lw_m14 21 rfl) rfl
theorem q3290 : (Jvm.Cond.privateMethod ({ cls := "HintTeamModel", name := "isCriticalKind", desc := "(I)Z" } : Jvm.MethodName)) ∈ lw_tbl := lw_at lw_m14 22 rfl
theorem q3291 : (Jvm.Cond.instanceMethod ({ cls := "HintTeamModel", name := "isCriticalKind", desc := "(I)Z" } : Jvm.MethodName)) ∈ lw_all := lw_g (lw_at lw_m14 23 rfl) rfl
theorem q3292 : (Jvm.Cond.code ({ cls := "HintTeamModel", name := "isCriticalKind", desc := "(I)Z" } : Jvm.MethodName) prog_15_method_47_code (2 : Nat) (Option.some Jvm.ClassFile.FieldType.boolean)) ∈ lw_all := lw_g (lw_at lw_m14 24 rfl) rfl
theorem q3294 : (Jvm.Cond.instanceMethod ({ cls := "HintTeamModel", name := "colorsOf", desc := "(II)I" } : Jvm.MethodName)) ∈ lw_all := lw_g (lw_at lw_m14 26 rfl) rfl
theorem q3295 : (Jvm.Cond.selects "HintTeamModel" ({ cls := "HintTeamModel", name := "colorsOf", desc := "(II)I" } : Jvm.MethodName) ({ cls := "HintTeamModel", name := "colorsOf", desc := "(II)I" } : Jvm.MethodName)) ∈ lw_all := lw_g (lw_at lw_m14 27 rfl) rfl
theorem q3296 : (Jvm.Cond.code ({ cls := "HintTeamModel", name := "colorsOf", desc := "(II)I" } : Jvm.MethodName) prog_15_method_51_code (3 : Nat) (Option.some Jvm.ClassFile.FieldType.int)) ∈ lw_all := lw_g (lw_at lw_m14 28 rfl) rfl
theorem q3298 : (Jvm.Cond.instanceMethod ({ cls := "HintTeamModel", name := "ranksOf", desc := "(II)I" } : Jvm.MethodName)) ∈ lw_all := lw_g (lw_at lw_m14 30 rfl) rfl
theorem q3299 : (Jvm.Cond.selects "HintTeamModel" ({ cls := "HintTeamModel", name := "ranksOf", desc := "(II)I" } : Jvm.MethodName) ({ cls := "HintTeamModel", name := "ranksOf", desc := "(II)I" } : Jvm.MethodName)) ∈ lw_all := lw_g (lw_at lw_m14 31 rfl) rfl
theorem q3300 : (Jvm.Cond.code ({ cls := "HintTeamModel", name := "ranksOf", desc := "(II)I" } : Jvm.MethodName) prog_15_method_52_code (3 : Nat) (Option.some Jvm.ClassFile.FieldType.int)) ∈ lw_all := lw_g (lw_at lw_m14 32 rfl) rfl
theorem q3302 : (Jvm.Cond.instanceMethod ({ cls := "HintTeamModel", name := "isTouched", desc := "(II)Z" } : Jvm.MethodName)) ∈ lw_all := lw_g (lw_at lw_m14 34 rfl) rfl
theorem q3303 : (Jvm.Cond.selects "HintTeamModel" ({ cls := "HintTeamModel", name := "isTouched", desc := "(II)Z" } : Jvm.MethodName) ({ cls := "HintTeamModel", name := "isTouched", desc := "(II)Z" } : Jvm.MethodName)) ∈ lw_all := lw_g (lw_at lw_m14 35 rfl) rfl
theorem q3304 : (Jvm.Cond.code ({ cls := "HintTeamModel", name := "isTouched", desc := "(II)Z" } : Jvm.MethodName) prog_15_method_53_code (3 : Nat) (Option.some Jvm.ClassFile.FieldType.boolean)) ∈ lw_all := lw_g (lw_at lw_m14 36 rfl) rfl
theorem q3306 : (Jvm.Cond.instanceMethod ({ cls := "HintTeamModel", name := "thinks", desc := "(II)I" } : Jvm.MethodName)) ∈ lw_all := lw_g (lw_at lw_m14 38 rfl) rfl
theorem q3307 : (Jvm.Cond.selects "HintTeamModel" ({ cls := "HintTeamModel", name := "thinks", desc := "(II)I" } : Jvm.MethodName) ({ cls := "HintTeamModel", name := "thinks", desc := "(II)I" } : Jvm.MethodName)) ∈ lw_all := lw_g (lw_at lw_m14 39 rfl) rfl
theorem q3308 : (Jvm.Cond.code ({ cls := "HintTeamModel", name := "thinks", desc := "(II)I" } : Jvm.MethodName) prog_15_method_58_code (3 : Nat) (Option.some Jvm.ClassFile.FieldType.int)) ∈ lw_all := lw_g (lw_at lw_m14 40 rfl) rfl
theorem q3309 : (Jvm.Cond.methodLink "HintTeamModel" (252 : Nat) ({ cls := "HintTeamModel", name := "thoughtAt", desc := "(III)I" } : Jvm.MethodName)) ∈ lw_all := lw_g (lw_at lw_m14 41 rfl) rfl
theorem q3310 : (Jvm.Cond.privateMethod ({ cls := "HintTeamModel", name := "thoughtAt", desc := "(III)I" } : Jvm.MethodName)) ∈ lw_tbl := lw_at lw_m14 42 rfl
theorem q3311 : (Jvm.Cond.instanceMethod ({ cls := "HintTeamModel", name := "thoughtAt", desc := "(III)I" } : Jvm.MethodName)) ∈ lw_all := lw_g (lw_at lw_m14 43 rfl) rfl
theorem q3312 : (Jvm.Cond.code ({ cls := "HintTeamModel", name := "thoughtAt", desc := "(III)I" } : Jvm.MethodName) prog_15_method_57_code (7 : Nat) (Option.some Jvm.ClassFile.FieldType.int)) ∈ lw_all := lw_g (lw_at lw_m14 44 rfl) rfl
theorem q3313 : (Jvm.Cond.methodLink "HintTeamModel" (241 : Nat) ({ cls := "HintTeamModel", name := "isThought", desc := "(IIII)Z" } : Jvm.MethodName)) ∈ lw_all := lw_g (lw_at lw_m14 45 rfl) rfl
theorem q3314 : (Jvm.Cond.privateMethod ({ cls := "HintTeamModel", name := "isThought", desc := "(IIII)Z" } : Jvm.MethodName)) ∈ lw_tbl := lw_at lw_m14 46 rfl
theorem q3315 : (Jvm.Cond.instanceMethod ({ cls := "HintTeamModel", name := "isThought", desc := "(IIII)Z" } : Jvm.MethodName)) ∈ lw_all := lw_g (lw_at lw_m14 47 rfl) rfl
theorem q3316 : (Jvm.Cond.code ({ cls := "HintTeamModel", name := "isThought", desc := "(IIII)Z" } : Jvm.MethodName) prog_15_method_54_code (6 : Nat) (Option.some Jvm.ClassFile.FieldType.boolean)) ∈ lw_all := lw_g (lw_at lw_m14 48 rfl) rfl
theorem q3318 : (Jvm.Cond.instanceMethod ({ cls := "HintTeamModel", name := "thought", desc := "(III)I" } : Jvm.MethodName)) ∈ lw_all := lw_g (lw_at lw_m14 50 rfl) rfl
theorem q3319 : (Jvm.Cond.selects "HintTeamModel" ({ cls := "HintTeamModel", name := "thought", desc := "(III)I" } : Jvm.MethodName) ({ cls := "HintTeamModel", name := "thought", desc := "(III)I" } : Jvm.MethodName)) ∈ lw_all := lw_g (lw_at lw_m14 51 rfl) rfl
theorem q3320 : (Jvm.Cond.code ({ cls := "HintTeamModel", name := "thought", desc := "(III)I" } : Jvm.MethodName) prog_15_method_59_code (4 : Nat) (Option.some Jvm.ClassFile.FieldType.int)) ∈ lw_all := lw_g (lw_at lw_m14 52 rfl) rfl
theorem q3322 : (Jvm.Cond.instanceMethod ({ cls := "HintTeamModel", name := "knows", desc := "(II)I" } : Jvm.MethodName)) ∈ lw_all := lw_g (lw_at lw_m14 54 rfl) rfl
theorem q3323 : (Jvm.Cond.selects "HintTeamModel" ({ cls := "HintTeamModel", name := "knows", desc := "(II)I" } : Jvm.MethodName) ({ cls := "HintTeamModel", name := "knows", desc := "(II)I" } : Jvm.MethodName)) ∈ lw_all := lw_g (lw_at lw_m14 55 rfl) rfl
theorem q3324 : (Jvm.Cond.code ({ cls := "HintTeamModel", name := "knows", desc := "(II)I" } : Jvm.MethodName) prog_15_method_60_code (3 : Nat) (Option.some Jvm.ClassFile.FieldType.int)) ∈ lw_all := lw_g (lw_at lw_m14 56 rfl) rfl
theorem q3325 : (Jvm.Cond.methodLink "HintTeamModel" (255 : Nat) ({ cls := "HintTeamModel", name := "known", desc := "(II)I" } : Jvm.MethodName)) ∈ lw_all := lw_g (lw_at lw_m14 57 rfl) rfl
theorem q3326 : (Jvm.Cond.privateMethod ({ cls := "HintTeamModel", name := "known", desc := "(II)I" } : Jvm.MethodName)) ∈ lw_tbl := lw_at lw_m14 58 rfl
theorem q3327 : (Jvm.Cond.instanceMethod ({ cls := "HintTeamModel", name := "known", desc := "(II)I" } : Jvm.MethodName)) ∈ lw_all := lw_g (lw_at lw_m14 59 rfl) rfl
theorem q3328 : (Jvm.Cond.code ({ cls := "HintTeamModel", name := "known", desc := "(II)I" } : Jvm.MethodName) prog_15_method_56_code (4 : Nat) (Option.some Jvm.ClassFile.FieldType.int)) ∈ lw_all := lw_g (lw_at lw_m14 60 rfl) rfl
theorem q3329 : (Jvm.Cond.methodLink "HintTeamModel" (248 : Nat) ({ cls := "HintTeamModel", name := "knownOf", desc := "(III)I" } : Jvm.MethodName)) ∈ lw_all := lw_g (lw_at lw_m14 61 rfl) rfl
theorem q3330 : (Jvm.Cond.privateMethod ({ cls := "HintTeamModel", name := "knownOf", desc := "(III)I" } : Jvm.MethodName)) ∈ lw_tbl := lw_at lw_m14 62 rfl
theorem q3331 : (Jvm.Cond.instanceMethod ({ cls := "HintTeamModel", name := "knownOf", desc := "(III)I" } : Jvm.MethodName)) ∈ lw_all := lw_g (lw_at lw_m14 63 rfl) rfl
theorem q3332 : (Jvm.Cond.code ({ cls := "HintTeamModel", name := "knownOf", desc := "(III)I" } : Jvm.MethodName) prog_15_method_55_code (8 : Nat) (Option.some Jvm.ClassFile.FieldType.int)) ∈ lw_all := lw_g (lw_at lw_m14 64 rfl) rfl
theorem q3333 : (Jvm.Cond.methodLink "HintTeamModel" (245 : Nat) ({ cls := "HintTeamModel", name := "isNext", desc := "(I)Z" } : Jvm.MethodName)) ∈ lw_all := lw_g (lw_at lw_m14 65 rfl) rfl
theorem q3334 : (Jvm.Cond.privateMethod ({ cls := "HintTeamModel", name := "isNext", desc := "(I)Z" } : Jvm.MethodName)) ∈ lw_tbl := lw_at lw_m14 66 rfl
theorem q3335 : (Jvm.Cond.instanceMethod ({ cls := "HintTeamModel", name := "isNext", desc := "(I)Z" } : Jvm.MethodName)) ∈ lw_all := lw_g (lw_at lw_m14 67 rfl) rfl
theorem q3336 : (Jvm.Cond.code ({ cls := "HintTeamModel", name := "isNext", desc := "(I)Z" } : Jvm.MethodName) prog_15_method_48_code (2 : Nat) (Option.some Jvm.ClassFile.FieldType.boolean)) ∈ lw_all := lw_g (lw_at lw_m14 68 rfl) rfl
theorem q3338 : (Jvm.Cond.instanceMethod ({ cls := "HintTeamModel", name := "wordsLeft", desc := "(II)I" } : Jvm.MethodName)) ∈ lw_all := lw_g (lw_at lw_m14 70 rfl) rfl
theorem q3339 : (Jvm.Cond.selects "HintTeamModel" ({ cls := "HintTeamModel", name := "wordsLeft", desc := "(II)I" } : Jvm.MethodName) ({ cls := "HintTeamModel", name := "wordsLeft", desc := "(II)I" } : Jvm.MethodName)) ∈ lw_all := lw_g (lw_at lw_m14 71 rfl) rfl
theorem q3340 : (Jvm.Cond.code ({ cls := "HintTeamModel", name := "wordsLeft", desc := "(II)I" } : Jvm.MethodName) prog_15_method_63_code (3 : Nat) (Option.some Jvm.ClassFile.FieldType.int)) ∈ lw_all := lw_g (lw_at lw_m14 72 rfl) rfl
theorem q3341 : (Jvm.Cond.methodLink "HintTeamModel" (258 : Nat) ({ cls := "HintTeamModel", name := "isWordOf", desc := "(II)Z" } : Jvm.MethodName)) ∈ lw_all := lw_g (lw_at lw_m14 73 rfl) rfl
theorem q3342 : (Jvm.Cond.privateMethod ({ cls := "HintTeamModel", name := "isWordOf", desc := "(II)Z" } : Jvm.MethodName)) ∈ lw_tbl := lw_at lw_m14 74 rfl
theorem q3343 : (Jvm.Cond.instanceMethod ({ cls := "HintTeamModel", name := "isWordOf", desc := "(II)Z" } : Jvm.MethodName)) ∈ lw_all := lw_g (lw_at lw_m14 75 rfl) rfl
theorem q3344 : (Jvm.Cond.code ({ cls := "HintTeamModel", name := "isWordOf", desc := "(II)Z" } : Jvm.MethodName) prog_15_method_62_code (3 : Nat) (Option.some Jvm.ClassFile.FieldType.boolean)) ∈ lw_all := lw_g (lw_at lw_m14 76 rfl) rfl
theorem q3346 : (Jvm.Cond.instanceMethod ({ cls := "HintTeamModel", name := "touches", desc := "(III)I" } : Jvm.MethodName)) ∈ lw_all := lw_g (lw_at lw_m14 78 rfl) rfl
theorem q3347 : (Jvm.Cond.selects "HintTeamModel" ({ cls := "HintTeamModel", name := "touches", desc := "(III)I" } : Jvm.MethodName) ({ cls := "HintTeamModel", name := "touches", desc := "(III)I" } : Jvm.MethodName)) ∈ lw_all := lw_g (lw_at lw_m14 79 rfl) rfl
theorem q3348 : (Jvm.Cond.code ({ cls := "HintTeamModel", name := "touches", desc := "(III)I" } : Jvm.MethodName) prog_15_method_66_code (4 : Nat) (Option.some Jvm.ClassFile.FieldType.int)) ∈ lw_all := lw_g (lw_at lw_m14 80 rfl) rfl
theorem q3349 : (Jvm.Cond.methodLink "HintTeamModel" (264 : Nat) ({ cls := "HintTeamModel", name := "touched", desc := "(III)I" } : Jvm.MethodName)) ∈ lw_all := lw_g (lw_at lw_m14 81 rfl) rfl
theorem q3350 : (Jvm.Cond.privateMethod ({ cls := "HintTeamModel", name := "touched", desc := "(III)I" } : Jvm.MethodName)) ∈ lw_tbl := lw_at lw_m14 82 rfl
theorem q3351 : (Jvm.Cond.instanceMethod ({ cls := "HintTeamModel", name := "touched", desc := "(III)I" } : Jvm.MethodName)) ∈ lw_all := lw_g (lw_at lw_m14 83 rfl) rfl
theorem q3352 : (Jvm.Cond.code ({ cls := "HintTeamModel", name := "touched", desc := "(III)I" } : Jvm.MethodName) prog_15_method_65_code (6 : Nat) (Option.some Jvm.ClassFile.FieldType.int)) ∈ lw_all := lw_g (lw_at lw_m14 84 rfl) rfl
theorem q3353 : (Jvm.Cond.methodLink "HintTeamModel" (261 : Nat) ({ cls := "HintTeamModel", name := "isTouchedBy", desc := "(III)Z" } : Jvm.MethodName)) ∈ lw_all := lw_g (lw_at lw_m14 85 rfl) rfl
theorem q3354 : (Jvm.Cond.privateMethod ({ cls := "HintTeamModel", name := "isTouchedBy", desc := "(III)Z" } : Jvm.MethodName)) ∈ lw_tbl := lw_at lw_m14 86 rfl
theorem q3355 : (Jvm.Cond.instanceMethod ({ cls := "HintTeamModel", name := "isTouchedBy", desc := "(III)Z" } : Jvm.MethodName)) ∈ lw_all := lw_g (lw_at lw_m14 87 rfl) rfl
theorem q3356 : (Jvm.Cond.code ({ cls := "HintTeamModel", name := "isTouchedBy", desc := "(III)Z" } : Jvm.MethodName) prog_15_method_64_code (5 : Nat) (Option.some Jvm.ClassFile.FieldType.boolean)) ∈ lw_all := lw_g (lw_at lw_m14 88 rfl) rfl
theorem q3358 : (Jvm.Cond.instanceMethod ({ cls := "HintTeamModel", name := "tells", desc := "(III)I" } : Jvm.MethodName)) ∈ lw_all := lw_g (lw_at lw_m14 90 rfl) rfl
theorem q3359 : (Jvm.Cond.selects "HintTeamModel" ({ cls := "HintTeamModel", name := "tells", desc := "(III)I" } : Jvm.MethodName) ({ cls := "HintTeamModel", name := "tells", desc := "(III)I" } : Jvm.MethodName)) ∈ lw_all := lw_g (lw_at lw_m14 91 rfl) rfl
theorem q3360 : (Jvm.Cond.code ({ cls := "HintTeamModel", name := "tells", desc := "(III)I" } : Jvm.MethodName) prog_15_method_71_code (4 : Nat) (Option.some Jvm.ClassFile.FieldType.int)) ∈ lw_all := lw_g (lw_at lw_m14 92 rfl) rfl
theorem q3361 : (Jvm.Cond.methodLink "HintTeamModel" (277 : Nat) ({ cls := "HintTeamModel", name := "telling", desc := "(III)I" } : Jvm.MethodName)) ∈ lw_all := lw_g (lw_at lw_m14 93 rfl) rfl
theorem q3362 : (Jvm.Cond.privateMethod ({ cls := "HintTeamModel", name := "telling", desc := "(III)I" } : Jvm.MethodName)) ∈ lw_tbl := lw_at lw_m14 94 rfl
theorem q3363 : (Jvm.Cond.instanceMethod ({ cls := "HintTeamModel", name := "telling", desc := "(III)I" } : Jvm.MethodName)) ∈ lw_all := lw_g (lw_at lw_m14 95 rfl) rfl
theorem q3364 : (Jvm.Cond.code ({ cls := "HintTeamModel", name := "telling", desc := "(III)I" } : Jvm.MethodName) prog_15_method_70_code (8 : Nat) (Option.some Jvm.ClassFile.FieldType.int)) ∈ lw_all := lw_g (lw_at lw_m14 96 rfl) rfl
theorem q3365 : (Jvm.Cond.methodLink "HintTeamModel" (271 : Nat) ({ cls := "HintTeamModel", name := "colorsBehind", desc := "(III)I" } : Jvm.MethodName)) ∈ lw_all := lw_g (lw_at lw_m14 97 rfl) rfl
theorem q3366 : (Jvm.Cond.privateMethod ({ cls := "HintTeamModel", name := "colorsBehind", desc := "(III)I" } : Jvm.MethodName)) ∈ lw_tbl := lw_at lw_m14 98 rfl
theorem q3367 : (Jvm.Cond.instanceMethod ({ cls := "HintTeamModel", name := "colorsBehind", desc := "(III)I" } : Jvm.MethodName)) ∈ lw_all := lw_g (lw_at lw_m14 99 rfl) rfl
theorem q3368 : (Jvm.Cond.code ({ cls := "HintTeamModel", name := "colorsBehind", desc := "(III)I" } : Jvm.MethodName) prog_15_method_68_code (5 : Nat) (Option.some Jvm.ClassFile.FieldType.int)) ∈ lw_all := lw_g (lw_at lw_m14 100 rfl) rfl
theorem q3369 : (Jvm.Cond.methodLink "HintTeamModel" (267 : Nat) ({ cls := "HintTeamModel", name := "leaves", desc := "(IIZ)I" } : Jvm.MethodName)) ∈ lw_all := lw_g (lw_at lw_m14 101 rfl) rfl
theorem q3370 : (Jvm.Cond.privateMethod ({ cls := "HintTeamModel", name := "leaves", desc := "(IIZ)I" } : Jvm.MethodName)) ∈ lw_tbl := lw_at lw_m14 102 rfl
theorem q3371 : (Jvm.Cond.instanceMethod ({ cls := "HintTeamModel", name := "leaves", desc := "(IIZ)I" } : Jvm.MethodName)) ∈ lw_all := lw_g (lw_at lw_m14 103 rfl) rfl
theorem q3372 : (Jvm.Cond.code ({ cls := "HintTeamModel", name := "leaves", desc := "(IIZ)I" } : Jvm.MethodName) prog_15_method_67_code (4 : Nat) (Option.some Jvm.ClassFile.FieldType.int)) ∈ lw_all := lw_g (lw_at lw_m14 104 rfl) rfl
theorem q3373 : (Jvm.Cond.methodLink "HintTeamModel" (274 : Nat) ({ cls := "HintTeamModel", name := "ranksBehind", desc := "(III)I" } : Jvm.MethodName)) ∈ lw_all := lw_g (lw_at lw_m14 105 rfl) rfl
theorem q3374 : (Jvm.Cond.privateMethod ({ cls := "HintTeamModel", name := "ranksBehind", desc := "(III)I" } : Jvm.MethodName)) ∈ lw_tbl := lw_at lw_m14 106 rfl
theorem q3375 : (Jvm.Cond.instanceMethod ({ cls := "HintTeamModel", name := "ranksBehind", desc := "(III)I" } : Jvm.MethodName)) ∈ lw_all := lw_g (lw_at lw_m14 107 rfl) rfl
theorem q3376 : (Jvm.Cond.code ({ cls := "HintTeamModel", name := "ranksBehind", desc := "(III)I" } : Jvm.MethodName) prog_15_method_69_code (5 : Nat) (Option.some Jvm.ClassFile.FieldType.int)) ∈ lw_all := lw_g (lw_at lw_m14 108 rfl) rfl
theorem q3378 : (Jvm.Cond.instanceMethod ({ cls := "HintTeamModel", name := "undo", desc := "()I" } : Jvm.MethodName)) ∈ lw_all := lw_g (lw_at lw_m14 110 rfl) rfl
theorem q3379 : (Jvm.Cond.selects "HintTeamModel" ({ cls := "HintTeamModel", name := "undo", desc := "()I" } : Jvm.MethodName) ({ cls := "HintTeamModel", name := "undo", desc := "()I" } : Jvm.MethodName)) ∈ lw_all := lw_g (lw_at lw_m14 111 rfl) rfl
theorem q3380 : (Jvm.Cond.code ({ cls := "HintTeamModel", name := "undo", desc := "()I" } : Jvm.MethodName) prog_15_method_73_code (1 : Nat) (Option.some Jvm.ClassFile.FieldType.int)) ∈ lw_all := lw_g (lw_at lw_m14 112 rfl) rfl
theorem q3382 : (Jvm.Cond.instanceMethod ({ cls := "HintTeamModel", name := "play", desc := "(I)I" } : Jvm.MethodName)) ∈ lw_all := lw_g (lw_at lw_m14 114 rfl) rfl
theorem q3383 : (Jvm.Cond.selects "HintTeamModel" ({ cls := "HintTeamModel", name := "play", desc := "(I)I" } : Jvm.MethodName) ({ cls := "HintTeamModel", name := "play", desc := "(I)I" } : Jvm.MethodName)) ∈ lw_all := lw_g (lw_at lw_m14 115 rfl) rfl
theorem q3384 : (Jvm.Cond.code ({ cls := "HintTeamModel", name := "play", desc := "(I)I" } : Jvm.MethodName) prog_15_method_85_code (2 : Nat) (Option.some Jvm.ClassFile.FieldType.int)) ∈ lw_all := lw_g (lw_at lw_m14 116 rfl) rfl
theorem q3385 : (Jvm.Cond.methodLink "HintTeamModel" (299 : Nat) ({ cls := "HintTeamModel", name := "isOver", desc := "()Z" } : Jvm.MethodName)) ∈ lw_all := lw_g (lw_at lw_m14 117 rfl) rfl
theorem q3386 : (Jvm.Cond.privateMethod ({ cls := "HintTeamModel", name := "isOver", desc := "()Z" } : Jvm.MethodName)) ∈ lw_tbl := lw_at lw_m14 118 rfl
theorem q3387 : (Jvm.Cond.instanceMethod ({ cls := "HintTeamModel", name := "isOver", desc := "()Z" } : Jvm.MethodName)) ∈ lw_all := lw_g (lw_at lw_m14 119 rfl) rfl
theorem q3388 : (Jvm.Cond.code ({ cls := "HintTeamModel", name := "isOver", desc := "()Z" } : Jvm.MethodName) prog_15_method_84_code (1 : Nat) (Option.some Jvm.ClassFile.FieldType.boolean)) ∈ lw_all := lw_g (lw_at lw_m14 120 rfl) rfl
theorem q3389 : (Jvm.Cond.methodLink "HintTeamModel" (302 : Nat) ({ cls := "HintTeamModel", name := "keeps", desc := "()V" } : Jvm.MethodName)) ∈ lw_all := lw_g (lw_at lw_m14 121 rfl) rfl
theorem q3390 : (Jvm.Cond.privateMethod ({ cls := "HintTeamModel", name := "keeps", desc := "()V" } : Jvm.MethodName)) ∈ lw_tbl := lw_at lw_m14 122 rfl
theorem q3391 : (Jvm.Cond.instanceMethod ({ cls := "HintTeamModel", name := "keeps", desc := "()V" } : Jvm.MethodName)) ∈ lw_all := lw_g (lw_at lw_m14 123 rfl) rfl
theorem q3392 : (Jvm.Cond.code ({ cls := "HintTeamModel", name := "keeps", desc := "()V" } : Jvm.MethodName) prog_15_method_72_code (2 : Nat) (Option.none : Option Jvm.ClassFile.FieldType)) ∈ lw_all := lw_g (lw_at lw_m14 124 rfl) rfl
theorem q3393 : (Jvm.Cond.methodLink "HintTeamModel" (305 : Nat) ({ cls := "HintTeamModel", name := "plays", desc := "(I)V" } : Jvm.MethodName)) ∈ lw_all := lw_g (lw_at lw_m14 125 rfl) rfl
theorem q3394 : (Jvm.Cond.privateMethod ({ cls := "HintTeamModel", name := "plays", desc := "(I)V" } : Jvm.MethodName)) ∈ lw_tbl := lw_at lw_m14 126 rfl
theorem q3395 : (Jvm.Cond.instanceMethod ({ cls := "HintTeamModel", name := "plays", desc := "(I)V" } : Jvm.MethodName)) ∈ lw_all := lw_g (lw_at lw_m14 127 rfl) rfl
theorem q3396 : (Jvm.Cond.code ({ cls := "HintTeamModel", name := "plays", desc := "(I)V" } : Jvm.MethodName) prog_15_method_78_code (5 : Nat) (Option.none : Option Jvm.ClassFile.FieldType)) ∈ lw_all := lw_g (lw_at lw_m14 128 rfl) rfl
theorem q3397 : (Jvm.Cond.methodLink "HintTeamModel" (280 : Nat) ({ cls := "HintTeamModel", name := "logs", desc := "(III)V" } : Jvm.MethodName)) ∈ lw_all := lw_g (lw_at lw_m14 129 rfl) rfl
theorem q3398 : (Jvm.Cond.privateMethod ({ cls := "HintTeamModel", name := "logs", desc := "(III)V" } : Jvm.MethodName)) ∈ lw_tbl := lw_at lw_m14 130 rfl
theorem q3399 : (Jvm.Cond.instanceMethod ({ cls := "HintTeamModel", name := "logs", desc := "(III)V" } : Jvm.MethodName)) ∈ lw_all := lw_g (lw_at lw_m14 131 rfl) rfl
theorem q3400 : (Jvm.Cond.code ({ cls := "HintTeamModel", name := "logs", desc := "(III)V" } : Jvm.MethodName) prog_15_method_74_code (5 : Nat) (Option.none : Option Jvm.ClassFile.FieldType)) ∈ lw_all := lw_g (lw_at lw_m14 132 rfl) rfl
theorem q3401 : (Jvm.Cond.methodLink "HintTeamModel" (284 : Nat) ({ cls := "HintTeamModel", name := "takesOut", desc := "(I)I" } : Jvm.MethodName)) ∈ lw_all := lw_g (lw_at lw_m14 133 rfl) rfl
theorem q3402 : (Jvm.Cond.privateMethod ({ cls := "HintTeamModel", name := "takesOut", desc := "(I)I" } : Jvm.MethodName)) ∈ lw_tbl := lw_at lw_m14 134 rfl
theorem q3403 : (Jvm.Cond.instanceMethod ({ cls := "HintTeamModel", name := "takesOut", desc := "(I)I" } : Jvm.MethodName)) ∈ lw_all := lw_g (lw_at lw_m14 135 rfl) rfl
theorem q3404 : (Jvm.Cond.code ({ cls := "HintTeamModel", name := "takesOut", desc := "(I)I" } : Jvm.MethodName) prog_15_method_77_code (5 : Nat) (Option.some Jvm.ClassFile.FieldType.int)) ∈ lw_all := lw_g (lw_at lw_m14 136 rfl) rfl
theorem q3405 : (Jvm.Cond.methodLink "HintTeamModel" (287 : Nat) ({ cls := "HintTeamModel", name := "tokenBack", desc := "()V" } : Jvm.MethodName)) ∈ lw_all := lw_g (lw_at lw_m14 137 rfl) rfl
theorem q3406 : (Jvm.Cond.privateMethod ({ cls := "HintTeamModel", name := "tokenBack", desc := "()V" } : Jvm.MethodName)) ∈ lw_tbl := lw_at lw_m14 138 rfl
theorem q3407 : (Jvm.Cond.instanceMethod ({ cls := "HintTeamModel", name := "tokenBack", desc := "()V" } : Jvm.MethodName)) ∈ lw_all := lw_g (lw_at lw_m14 139 rfl) rfl
theorem q3408 : (Jvm.Cond.code ({ cls := "HintTeamModel", name := "tokenBack", desc := "()V" } : Jvm.MethodName) prog_15_method_75_code (1 : Nat) (Option.none : Option Jvm.ClassFile.FieldType)) ∈ lw_all := lw_g (lw_at lw_m14 140 rfl) rfl
theorem q3409 : (Jvm.Cond.methodLink "HintTeamModel" (290 : Nat) ({ cls := "HintTeamModel", name := "toHeap", desc := "(I)V" } : Jvm.MethodName)) ∈ lw_all := lw_g (lw_at lw_m14 141 rfl) rfl
theorem q3410 : (Jvm.Cond.privateMethod ({ cls := "HintTeamModel", name := "toHeap", desc := "(I)V" } : Jvm.MethodName)) ∈ lw_tbl := lw_at lw_m14 142 rfl
theorem q3411 : (Jvm.Cond.instanceMethod ({ cls := "HintTeamModel", name := "toHeap", desc := "(I)V" } : Jvm.MethodName)) ∈ lw_all := lw_g (lw_at lw_m14 143 rfl) rfl
theorem q3412 : (Jvm.Cond.code ({ cls := "HintTeamModel", name := "toHeap", desc := "(I)V" } : Jvm.MethodName) prog_15_method_76_code (2 : Nat) (Option.none : Option Jvm.ClassFile.FieldType)) ∈ lw_all := lw_g (lw_at lw_m14 144 rfl) rfl
theorem q3413 : (Jvm.Cond.methodLink "HintTeamModel" (293 : Nat) ({ cls := "HintTeamModel", name := "endsTurn", desc := "(Z)V" } : Jvm.MethodName)) ∈ lw_all := lw_g (lw_at lw_m14 145 rfl) rfl
theorem q3414 : (Jvm.Cond.privateMethod ({ cls := "HintTeamModel", name := "endsTurn", desc := "(Z)V" } : Jvm.MethodName)) ∈ lw_tbl := lw_at lw_m14 146 rfl
theorem q3415 : (Jvm.Cond.instanceMethod ({ cls := "HintTeamModel", name := "endsTurn", desc := "(Z)V" } : Jvm.MethodName)) ∈ lw_all := lw_g (lw_at lw_m14 147 rfl) rfl
theorem q3416 : (Jvm.Cond.code ({ cls := "HintTeamModel", name := "endsTurn", desc := "(Z)V" } : Jvm.MethodName) prog_15_method_83_code (3 : Nat) (Option.none : Option Jvm.ClassFile.FieldType)) ∈ lw_all := lw_g (lw_at lw_m14 148 rfl) rfl
theorem q3417 : (Jvm.Cond.methodLink "HintTeamModel" (296 : Nat) ({ cls := "HintTeamModel", name := "areWhole", desc := "()Z" } : Jvm.MethodName)) ∈ lw_all := lw_g (lw_at lw_m14 149 rfl) rfl
theorem q3418 : (Jvm.Cond.privateMethod ({ cls := "HintTeamModel", name := "areWhole", desc := "()Z" } : Jvm.MethodName)) ∈ lw_tbl := lw_at lw_m14 150 rfl
theorem q3419 : (Jvm.Cond.instanceMethod ({ cls := "HintTeamModel", name := "areWhole", desc := "()Z" } : Jvm.MethodName)) ∈ lw_all := lw_g (lw_at lw_m14 151 rfl) rfl
theorem q3420 : (Jvm.Cond.code ({ cls := "HintTeamModel", name := "areWhole", desc := "()Z" } : Jvm.MethodName) prog_15_method_82_code (2 : Nat) (Option.some Jvm.ClassFile.FieldType.boolean)) ∈ lw_all := lw_g (lw_at lw_m14 152 rfl) rfl
theorem q3422 : (Jvm.Cond.instanceMethod ({ cls := "HintTeamModel", name := "discard", desc := "(I)I" } : Jvm.MethodName)) ∈ lw_all := lw_g (lw_at lw_m14 154 rfl) rfl
theorem q3423 : (Jvm.Cond.selects "HintTeamModel" ({ cls := "HintTeamModel", name := "discard", desc := "(I)I" } : Jvm.MethodName) ({ cls := "HintTeamModel", name := "discard", desc := "(I)I" } : Jvm.MethodName)) ∈ lw_all := lw_g (lw_at lw_m14 155 rfl) rfl
theorem q3424 : (Jvm.Cond.code ({ cls := "HintTeamModel", name := "discard", desc := "(I)I" } : Jvm.MethodName) prog_15_method_86_code (2 : Nat) (Option.some Jvm.ClassFile.FieldType.int)) ∈ lw_all := lw_g (lw_at lw_m14 156 rfl) rfl
theorem q3425 : (Jvm.Cond.methodLink "HintTeamModel" (308 : Nat) ({ cls := "HintTeamModel", name := "discards", desc := "(I)V" } : Jvm.MethodName)) ∈ lw_all := lw_g (lw_at lw_m14 157 rfl) rfl
theorem q3426 : (Jvm.Cond.privateMethod ({ cls := "HintTeamModel", name := "discards", desc := "(I)V" } : Jvm.MethodName)) ∈ lw_tbl := lw_at lw_m14 158 rfl
theorem q3427 : (Jvm.Cond.instanceMethod ({ cls := "HintTeamModel", name := "discards", desc := "(I)V" } : Jvm.MethodName)) ∈ lw_all := lw_g (lw_at lw_m14 159 rfl) rfl
theorem q3428 : (Jvm.Cond.code ({ cls := "HintTeamModel", name := "discards", desc := "(I)V" } : Jvm.MethodName) prog_15_method_79_code (2 : Nat) (Option.none : Option Jvm.ClassFile.FieldType)) ∈ lw_all := lw_g (lw_at lw_m14 160 rfl) rfl
theorem q3430 : (Jvm.Cond.instanceMethod ({ cls := "HintTeamModel", name := "hint", desc := "(III)I" } : Jvm.MethodName)) ∈ lw_all := lw_g (lw_at lw_m14 162 rfl) rfl
theorem q3431 : (Jvm.Cond.selects "HintTeamModel" ({ cls := "HintTeamModel", name := "hint", desc := "(III)I" } : Jvm.MethodName) ({ cls := "HintTeamModel", name := "hint", desc := "(III)I" } : Jvm.MethodName)) ∈ lw_all := lw_g (lw_at lw_m14 163 rfl) rfl
theorem q3432 : (Jvm.Cond.code ({ cls := "HintTeamModel", name := "hint", desc := "(III)I" } : Jvm.MethodName) prog_15_method_88_code (4 : Nat) (Option.some Jvm.ClassFile.FieldType.int)) ∈ lw_all := lw_g (lw_at lw_m14 164 rfl) rfl
theorem q3433 : (Jvm.Cond.methodLink "HintTeamModel" (311 : Nat) ({ cls := "HintTeamModel", name := "canSay", desc := "(III)Z" } : Jvm.MethodName)) ∈ lw_all := lw_g (lw_at lw_m14 165 rfl) rfl
theorem q3434 : (Jvm.Cond.privateMethod ({ cls := "HintTeamModel", name := "canSay", desc := "(III)Z" } : Jvm.MethodName)) ∈ lw_tbl := lw_at lw_m14 166 rfl
theorem q3435 : (Jvm.Cond.instanceMethod ({ cls := "HintTeamModel", name := "canSay", desc := "(III)Z" } : Jvm.MethodName)) ∈ lw_all := lw_g (lw_at lw_m14 167 rfl) rfl
theorem q3436 : (Jvm.Cond.code ({ cls := "HintTeamModel", name := "canSay", desc := "(III)Z" } : Jvm.MethodName) prog_15_method_87_code (4 : Nat) (Option.some Jvm.ClassFile.FieldType.boolean)) ∈ lw_all := lw_g (lw_at lw_m14 168 rfl) rfl
theorem q3437 : (Jvm.Cond.methodLink "HintTeamModel" (314 : Nat) ({ cls := "HintTeamModel", name := "hints", desc := "(III)I" } : Jvm.MethodName)) ∈ lw_all := lw_g (lw_at lw_m14 169 rfl) rfl
theorem q3438 : (Jvm.Cond.privateMethod ({ cls := "HintTeamModel", name := "hints", desc := "(III)I" } : Jvm.MethodName)) ∈ lw_tbl := lw_at lw_m14 170 rfl
theorem q3439 : (Jvm.Cond.instanceMethod ({ cls := "HintTeamModel", name := "hints", desc := "(III)I" } : Jvm.MethodName)) ∈ lw_all := lw_g (lw_at lw_m14 171 rfl) rfl
theorem q3440 : (Jvm.Cond.code ({ cls := "HintTeamModel", name := "hints", desc := "(III)I" } : Jvm.MethodName) prog_15_method_80_code (8 : Nat) (Option.some Jvm.ClassFile.FieldType.int)) ∈ lw_all := lw_g (lw_at lw_m14 172 rfl) rfl
theorem q3442 : (Jvm.Cond.instanceMethod ({ cls := "HintTeamModel", name := "pass", desc := "()I" } : Jvm.MethodName)) ∈ lw_all := lw_g (lw_at lw_m14 174 rfl) rfl
theorem q3443 : (Jvm.Cond.selects "HintTeamModel" ({ cls := "HintTeamModel", name := "pass", desc := "()I" } : Jvm.MethodName) ({ cls := "HintTeamModel", name := "pass", desc := "()I" } : Jvm.MethodName)) ∈ lw_all := lw_g (lw_at lw_m14 175 rfl) rfl
theorem q3444 : (Jvm.Cond.code ({ cls := "HintTeamModel", name := "pass", desc := "()I" } : Jvm.MethodName) prog_15_method_89_code (1 : Nat) (Option.some Jvm.ClassFile.FieldType.int)) ∈ lw_all := lw_g (lw_at lw_m14 176 rfl) rfl
theorem q3445 : (Jvm.Cond.methodLink "HintTeamModel" (317 : Nat) ({ cls := "HintTeamModel", name := "passes", desc := "()V" } : Jvm.MethodName)) ∈ lw_all := lw_g (lw_at lw_m14 177 rfl) rfl
theorem q3446 : (Jvm.Cond.privateMethod ({ cls := "HintTeamModel", name := "passes", desc := "()V" } : Jvm.MethodName)) ∈ lw_tbl := lw_at lw_m14 178 rfl
theorem q3447 : (Jvm.Cond.instanceMethod ({ cls := "HintTeamModel", name := "passes", desc := "()V" } : Jvm.MethodName)) ∈ lw_all := lw_g (lw_at lw_m14 179 rfl) rfl
theorem q3448 : (Jvm.Cond.code ({ cls := "HintTeamModel", name := "passes", desc := "()V" } : Jvm.MethodName) prog_15_method_81_code (1 : Nat) (Option.none : Option Jvm.ClassFile.FieldType)) ∈ lw_all := lw_g (lw_at lw_m14 180 rfl) rfl
theorem q3450 : (Jvm.Cond.instanceMethod ({ cls := "HintTeamModel", name := "advice", desc := "(I)I" } : Jvm.MethodName)) ∈ lw_all := lw_g (lw_at lw_m14 182 rfl) rfl
theorem q3451 : (Jvm.Cond.selects "HintTeamModel" ({ cls := "HintTeamModel", name := "advice", desc := "(I)I" } : Jvm.MethodName) ({ cls := "HintTeamModel", name := "advice", desc := "(I)I" } : Jvm.MethodName)) ∈ lw_all := lw_g (lw_at lw_m14 183 rfl) rfl
theorem q3452 : (Jvm.Cond.code ({ cls := "HintTeamModel", name := "advice", desc := "(I)I" } : Jvm.MethodName) prog_15_method_94_code (2 : Nat) (Option.some Jvm.ClassFile.FieldType.int)) ∈ lw_all := lw_g (lw_at lw_m14 184 rfl) rfl
theorem q3453 : (Jvm.Cond.methodLink "HintTeamModel" (331 : Nat) ({ cls := "HintTeamModel", name := "findsAdvice", desc := "()V" } : Jvm.MethodName)) ∈ lw_all := lw_g (lw_at lw_m14 185 rfl) rfl
theorem q3454 : (Jvm.Cond.privateMethod ({ cls := "HintTeamModel", name := "findsAdvice", desc := "()V" } : Jvm.MethodName)) ∈ lw_tbl := lw_at lw_m14 186 rfl
theorem q3455 : (Jvm.Cond.instanceMethod ({ cls := "HintTeamModel", name := "findsAdvice", desc := "()V" } : Jvm.MethodName)) ∈ lw_all := lw_g (lw_at lw_m14 187 rfl) rfl
theorem q3456 : (Jvm.Cond.code ({ cls := "HintTeamModel", name := "findsAdvice", desc := "()V" } : Jvm.MethodName) prog_15_method_93_code (2 : Nat) (Option.none : Option Jvm.ClassFile.FieldType)) ∈ lw_all := lw_g (lw_at lw_m14 188 rfl) rfl
theorem q3457 : (Jvm.Cond.methodLink "HintTeamModel" (324 : Nat) ({ cls := "HintTeamModel", name := "placeWith", desc := "(I)I" } : Jvm.MethodName)) ∈ lw_all := lw_g (lw_at lw_m14 189 rfl) rfl
theorem q3458 : (Jvm.Cond.privateMethod ({ cls := "HintTeamModel", name := "placeWith", desc := "(I)I" } : Jvm.MethodName)) ∈ lw_tbl := lw_at lw_m14 190 rfl
theorem q3459 : (Jvm.Cond.instanceMethod ({ cls := "HintTeamModel", name := "placeWith", desc := "(I)I" } : Jvm.MethodName)) ∈ lw_all := lw_g (lw_at lw_m14 191 rfl) rfl
theorem q3460 : (Jvm.Cond.code ({ cls := "HintTeamModel", name := "placeWith", desc := "(I)I" } : Jvm.MethodName) prog_15_method_92_code (4 : Nat) (Option.some Jvm.ClassFile.FieldType.int)) ∈ lw_all := lw_g (lw_at lw_m14 192 rfl) rfl
theorem q3461 : (Jvm.Cond.methodLink "HintTeamModel" (320 : Nat) ({ cls := "HintTeamModel", name := "advises", desc := "(IIII)V" } : Jvm.MethodName)) ∈ lw_all := lw_g (lw_at lw_m14 193 rfl) rfl
theorem q3462 : (Jvm.Cond.privateMethod ({ cls := "HintTeamModel", name := "advises", desc := "(IIII)V" } : Jvm.MethodName)) ∈ lw_tbl := lw_at lw_m14 194 rfl
theorem q3463 : (Jvm.Cond.instanceMethod ({ cls := "HintTeamModel", name := "advises", desc := "(IIII)V" } : Jvm.MethodName)) ∈ lw_all := lw_g (lw_at lw_m14 195 rfl) rfl
theorem q3464 : (Jvm.Cond.code ({ cls := "HintTeamModel", name := "advises", desc := "(IIII)V" } : Jvm.MethodName) prog_15_method_90_code (5 : Nat) (Option.none : Option Jvm.ClassFile.FieldType)) ∈ lw_all := lw_g (lw_at lw_m14 196 rfl) rfl
theorem q3465 : (Jvm.Cond.methodLink "HintTeamModel" (327 : Nat) ({ cls := "HintTeamModel", name := "findsHint", desc := "(Z)Z" } : Jvm.MethodName)) ∈ lw_all := lw_g (lw_at lw_m14 197 rfl) rfl
theorem q3466 : (Jvm.Cond.privateMethod ({ cls := "HintTeamModel", name := "findsHint", desc := "(Z)Z" } : Jvm.MethodName)) ∈ lw_tbl := lw_at lw_m14 198 rfl
theorem q3467 : (Jvm.Cond.instanceMethod ({ cls := "HintTeamModel", name := "findsHint", desc := "(Z)Z" } : Jvm.MethodName)) ∈ lw_all := lw_g (lw_at lw_m14 199 rfl) rfl
theorem q3468 : (Jvm.Cond.code ({ cls := "HintTeamModel", name := "findsHint", desc := "(Z)Z" } : Jvm.MethodName) prog_15_method_91_code (10 : Nat) (Option.some Jvm.ClassFile.FieldType.boolean)) ∈ lw_all := lw_g (lw_at lw_m14 200 rfl) rfl
theorem q3470 : (Jvm.Cond.instanceMethod ({ cls := "HintTeamModel", name := "follow", desc := "(I)I" } : Jvm.MethodName)) ∈ lw_all := lw_g (lw_at lw_m14 202 rfl) rfl
theorem q3471 : (Jvm.Cond.selects "HintTeamModel" ({ cls := "HintTeamModel", name := "follow", desc := "(I)I" } : Jvm.MethodName) ({ cls := "HintTeamModel", name := "follow", desc := "(I)I" } : Jvm.MethodName)) ∈ lw_all := lw_g (lw_at lw_m14 203 rfl) rfl
theorem q3472 : (Jvm.Cond.code ({ cls := "HintTeamModel", name := "follow", desc := "(I)I" } : Jvm.MethodName) prog_15_method_96_code (3 : Nat) (Option.some Jvm.ClassFile.FieldType.int)) ∈ lw_all := lw_g (lw_at lw_m14 204 rfl) rfl
theorem q3473 : (Jvm.Cond.methodLink "HintTeamModel" (334 : Nat) ({ cls := "HintTeamModel", name := "follows", desc := "()V" } : Jvm.MethodName)) ∈ lw_all := lw_g (lw_at lw_m14 205 rfl) rfl
theorem q3474 : (Jvm.Cond.privateMethod ({ cls := "HintTeamModel", name := "follows", desc := "()V" } : Jvm.MethodName)) ∈ lw_tbl := lw_at lw_m14 206 rfl
theorem q3475 : (Jvm.Cond.instanceMethod ({ cls := "HintTeamModel", name := "follows", desc := "()V" } : Jvm.MethodName)) ∈ lw_all := lw_g (lw_at lw_m14 207 rfl) rfl
theorem q3476 : (Jvm.Cond.code ({ cls := "HintTeamModel", name := "follows", desc := "()V" } : Jvm.MethodName) prog_15_method_95_code (2 : Nat) (Option.none : Option Jvm.ClassFile.FieldType)) ∈ lw_all := lw_g (lw_at lw_m14 208 rfl) rfl
theorem q3478 : (Jvm.Cond.instanceMethod ({ cls := "HintTeamModel", name := "foreseen", desc := "()I" } : Jvm.MethodName)) ∈ lw_all := lw_g (lw_at lw_m14 210 rfl) rfl
theorem q3479 : (Jvm.Cond.selects "HintTeamModel" ({ cls := "HintTeamModel", name := "foreseen", desc := "()I" } : Jvm.MethodName) ({ cls := "HintTeamModel", name := "foreseen", desc := "()I" } : Jvm.MethodName)) ∈ lw_all := lw_g (lw_at lw_m14 211 rfl) rfl
theorem q3480 : (Jvm.Cond.code ({ cls := "HintTeamModel", name := "foreseen", desc := "()I" } : Jvm.MethodName) prog_15_method_97_code (2 : Nat) (Option.some Jvm.ClassFile.FieldType.int)) ∈ lw_all := lw_g (lw_at lw_m14 212 rfl) rfl
theorem q3482 : (Jvm.Cond.instanceMethod ({ cls := "HintTeamModel", name := "bound", desc := "()I" } : Jvm.MethodName)) ∈ lw_all := lw_g (lw_at lw_m14 214 rfl) rfl
theorem q3483 : (Jvm.Cond.selects "HintTeamModel" ({ cls := "HintTeamModel", name := "bound", desc := "()I" } : Jvm.MethodName) ({ cls := "HintTeamModel", name := "bound", desc := "()I" } : Jvm.MethodName)) ∈ lw_all := lw_g (lw_at lw_m14 215 rfl) rfl
theorem q3484 : (Jvm.Cond.code ({ cls := "HintTeamModel", name := "bound", desc := "()I" } : Jvm.MethodName) prog_15_method_99_code (1 : Nat) (Option.some Jvm.ClassFile.FieldType.int)) ∈ lw_all := lw_g (lw_at lw_m14 216 rfl) rfl
theorem q3485 : (Jvm.Cond.methodLink "HintTeamModel" (337 : Nat) ({ cls := "HintTeamModel", name := "boundOf", desc := "()I" } : Jvm.MethodName)) ∈ lw_all := lw_g (lw_at lw_m14 217 rfl) rfl
theorem q3486 : (Jvm.Cond.privateMethod ({ cls := "HintTeamModel", name := "boundOf", desc := "()I" } : Jvm.MethodName)) ∈ lw_tbl := lw_at lw_m14 218 rfl
theorem q3487 : (Jvm.Cond.instanceMethod ({ cls := "HintTeamModel", name := "boundOf", desc := "()I" } : Jvm.MethodName)) ∈ lw_all := lw_g (lw_at lw_m14 219 rfl) rfl
theorem q3488 : (Jvm.Cond.code ({ cls := "HintTeamModel", name := "boundOf", desc := "()I" } : Jvm.MethodName) prog_15_method_98_code (4 : Nat) (Option.some Jvm.ClassFile.FieldType.int)) ∈ lw_all := lw_g (lw_at lw_m14 220 rfl) rfl
theorem q3490 : (Jvm.Cond.instanceMethod ({ cls := "HintTeamModel", name := "pace", desc := "()I" } : Jvm.MethodName)) ∈ lw_all := lw_g (lw_at lw_m14 222 rfl) rfl
theorem q3491 : (Jvm.Cond.selects "HintTeamModel" ({ cls := "HintTeamModel", name := "pace", desc := "()I" } : Jvm.MethodName) ({ cls := "HintTeamModel", name := "pace", desc := "()I" } : Jvm.MethodName)) ∈ lw_all := lw_g (lw_at lw_m14 223 rfl) rfl
theorem q3492 : (Jvm.Cond.code ({ cls := "HintTeamModel", name := "pace", desc := "()I" } : Jvm.MethodName) prog_15_method_100_code (1 : Nat) (Option.some Jvm.ClassFile.FieldType.int)) ∈ lw_all := lw_g (lw_at lw_m14 224 rfl) rfl
theorem q3494 : (Jvm.Cond.instanceMethod ({ cls := "HintTeamModel", name := "value", desc := "()I" } : Jvm.MethodName)) ∈ lw_all := lw_g (lw_at lw_m14 226 rfl) rfl
theorem q3495 : (Jvm.Cond.selects "HintTeamModel" ({ cls := "HintTeamModel", name := "value", desc := "()I" } : Jvm.MethodName) ({ cls := "HintTeamModel", name := "value", desc := "()I" } : Jvm.MethodName)) ∈ lw_all := lw_g (lw_at lw_m14 227 rfl) rfl
theorem q3496 : (Jvm.Cond.code ({ cls := "HintTeamModel", name := "value", desc := "()I" } : Jvm.MethodName) prog_15_method_113_code (1 : Nat) (Option.some Jvm.ClassFile.FieldType.int)) ∈ lw_all := lw_g (lw_at lw_m14 228 rfl) rfl
theorem q3497 : (Jvm.Cond.methodLink "HintTeamModel" (397 : Nat) ({ cls := "HintTeamModel", name := "valueNow", desc := "()I" } : Jvm.MethodName)) ∈ lw_all := lw_g (lw_at lw_m14 229 rfl) rfl
theorem q3498 : (Jvm.Cond.privateMethod ({ cls := "HintTeamModel", name := "valueNow", desc := "()I" } : Jvm.MethodName)) ∈ lw_tbl := lw_at lw_m14 230 rfl
theorem q3499 : (Jvm.Cond.instanceMethod ({ cls := "HintTeamModel", name := "valueNow", desc := "()I" } : Jvm.MethodName)) ∈ lw_all := lw_g (lw_at lw_m14 231 rfl) rfl
theorem q3500 : (Jvm.Cond.code ({ cls := "HintTeamModel", name := "valueNow", desc := "()I" } : Jvm.MethodName) prog_15_method_112_code (1 : Nat) (Option.some Jvm.ClassFile.FieldType.int)) ∈ lw_all := lw_g (lw_at lw_m14 232 rfl) rfl
theorem q3501 : (Jvm.Cond.methodLink "HintTeamModel" (391 : Nat) ({ cls := "HintTeamModel", name := "makesPresent", desc := "()V" } : Jvm.MethodName)) ∈ lw_all := lw_g (lw_at lw_m14 233 rfl) rfl
theorem q3502 : (Jvm.Cond.privateMethod ({ cls := "HintTeamModel", name := "makesPresent", desc := "()V" } : Jvm.MethodName)) ∈ lw_tbl := lw_at lw_m14 234 rfl
theorem q3503 : (Jvm.Cond.instanceMethod ({ cls := "HintTeamModel", name := "makesPresent", desc := "()V" } : Jvm.MethodName)) ∈ lw_all := lw_g (lw_at lw_m14 235 rfl) rfl
theorem q3504 : (Jvm.Cond.code ({ cls := "HintTeamModel", name := "makesPresent", desc := "()V" } : Jvm.MethodName) prog_15_method_110_code (3 : Nat) (Option.none : Option Jvm.ClassFile.FieldType)) ∈ lw_all := lw_g (lw_at lw_m14 236 rfl) rfl
theorem q3505 : (Jvm.Cond.methodLink "HintTeamModel" (394 : Nat) ({ cls := "HintTeamModel", name := "searches", desc := "()I" } : Jvm.MethodName)) ∈ lw_all := lw_g (lw_at lw_m14 237 rfl) rfl
theorem q3506 : (Jvm.Cond.privateMethod ({ cls := "HintTeamModel", name := "searches", desc := "()I" } : Jvm.MethodName)) ∈ lw_tbl := lw_at lw_m14 238 rfl
theorem q3507 : (Jvm.Cond.instanceMethod ({ cls := "HintTeamModel", name := "searches", desc := "()I" } : Jvm.MethodName)) ∈ lw_all := lw_g (lw_at lw_m14 239 rfl) rfl
theorem q3508 : (Jvm.Cond.code ({ cls := "HintTeamModel", name := "searches", desc := "()I" } : Jvm.MethodName) prog_15_method_111_code (3 : Nat) (Option.some Jvm.ClassFile.FieldType.int)) ∈ lw_all := lw_g (lw_at lw_m15 0 rfl) rfl
theorem q3509 : (Jvm.Cond.methodLink "HintTeamModel" (379 : Nat) ({ cls := "HintTeamModel", name := "adds", desc := "()V" } : Jvm.MethodName)) ∈ lw_all := lw_g (lw_at lw_m15 1 rfl) rfl
theorem q3510 : (Jvm.Cond.privateMethod ({ cls := "HintTeamModel", name := "adds", desc := "()V" } : Jvm.MethodName)) ∈ lw_tbl := lw_at lw_m15 2 rfl
theorem q3511 : (Jvm.Cond.instanceMethod ({ cls := "HintTeamModel", name := "adds", desc := "()V" } : Jvm.MethodName)) ∈ lw_all := lw_g (lw_at lw_m15 3 rfl) rfl
theorem q3512 : (Jvm.Cond.code ({ cls := "HintTeamModel", name := "adds", desc := "()V" } : Jvm.MethodName) prog_15_method_104_code (6 : Nat) (Option.none : Option Jvm.ClassFile.FieldType)) ∈ lw_all := lw_g (lw_at lw_m15 4 rfl) rfl
theorem q3513 : (Jvm.Cond.methodLink "HintTeamModel" (351 : Nat) ({ cls := "HintTeamModel", name := "packed", desc := "()I" } : Jvm.MethodName)) ∈ lw_all := lw_g (lw_at lw_m15 5 rfl) rfl
theorem q3514 : (Jvm.Cond.privateMethod ({ cls := "HintTeamModel", name := "packed", desc := "()I" } : Jvm.MethodName)) ∈ lw_tbl := lw_at lw_m15 6 rfl
theorem q3515 : (Jvm.Cond.instanceMethod ({ cls := "HintTeamModel", name := "packed", desc := "()I" } : Jvm.MethodName)) ∈ lw_all := lw_g (lw_at lw_m15 7 rfl) rfl
theorem q3516 : (Jvm.Cond.code ({ cls := "HintTeamModel", name := "packed", desc := "()I" } : Jvm.MethodName) prog_15_method_101_code (3 : Nat) (Option.some Jvm.ClassFile.FieldType.int)) ∈ lw_all := lw_g (lw_at lw_m15 8 rfl) rfl
theorem q3517 : (Jvm.Cond.constantLong "HintTeamModel" (354 : Nat) (1000003 : Int64)) ∈ lw_all := lw_g (lw_at lw_m15 9 rfl) rfl
theorem q3518 : (Jvm.Cond.constantLong "HintTeamModel" (356 : Nat) (25214903917 : Int64)) ∈ lw_all := lw_g (lw_at lw_m15 10 rfl) rfl
theorem q3519 : (Jvm.Cond.methodLink "HintTeamModel" (358 : Nat) ({ cls := "HintTeamModel", name := "isSame", desc := "(II)Z" } : Jvm.MethodName)) ∈ lw_all := lw_g (lw_at lw_m15 11 rfl) rfl
theorem q3520 : (Jvm.Cond.privateMethod ({ cls := "HintTeamModel", name := "isSame", desc := "(II)Z" } : Jvm.MethodName)) ∈ lw_tbl := lw_at lw_m15 12 rfl
theorem q3521 : (Jvm.Cond.instanceMethod ({ cls := "HintTeamModel", name := "isSame", desc := "(II)Z" } : Jvm.MethodName)) ∈ lw_all := lw_g (lw_at lw_m15 13 rfl) rfl
theorem q3522 : (Jvm.Cond.code ({ cls := "HintTeamModel", name := "isSame", desc := "(II)Z" } : Jvm.MethodName) prog_15_method_103_code (5 : Nat) (Option.some Jvm.ClassFile.FieldType.boolean)) ∈ lw_all := lw_g (lw_at lw_m15 14 rfl) rfl
theorem q3523 : (Jvm.Cond.methodLink "HintTeamModel" (382 : Nat) ({ cls := "HintTeamModel", name := "goesOn", desc := "(I)V" } : Jvm.MethodName)) ∈ lw_all := lw_g (lw_at lw_m15 15 rfl) rfl
theorem q3524 : (Jvm.Cond.privateMethod ({ cls := "HintTeamModel", name := "goesOn", desc := "(I)V" } : Jvm.MethodName)) ∈ lw_tbl := lw_at lw_m15 16 rfl
theorem q3525 : (Jvm.Cond.instanceMethod ({ cls := "HintTeamModel", name := "goesOn", desc := "(I)V" } : Jvm.MethodName)) ∈ lw_all := lw_g (lw_at lw_m15 17 rfl) rfl
theorem q3526 : (Jvm.Cond.code ({ cls := "HintTeamModel", name := "goesOn", desc := "(I)V" } : Jvm.MethodName) prog_15_method_109_code (5 : Nat) (Option.none : Option Jvm.ClassFile.FieldType)) ∈ lw_all := lw_g (lw_at lw_m15 18 rfl) rfl
theorem q3527 : (Jvm.Cond.methodLink "HintTeamModel" (366 : Nat) ({ cls := "HintTeamModel", name := "unpacks", desc := "(I)V" } : Jvm.MethodName)) ∈ lw_all := lw_g (lw_at lw_m15 19 rfl) rfl
theorem q3528 : (Jvm.Cond.privateMethod ({ cls := "HintTeamModel", name := "unpacks", desc := "(I)V" } : Jvm.MethodName)) ∈ lw_tbl := lw_at lw_m15 20 rfl
theorem q3529 : (Jvm.Cond.instanceMethod ({ cls := "HintTeamModel", name := "unpacks", desc := "(I)V" } : Jvm.MethodName)) ∈ lw_all := lw_g (lw_at lw_m15 21 rfl) rfl
theorem q3530 : (Jvm.Cond.code ({ cls := "HintTeamModel", name := "unpacks", desc := "(I)V" } : Jvm.MethodName) prog_15_method_102_code (4 : Nat) (Option.none : Option Jvm.ClassFile.FieldType)) ∈ lw_all := lw_g (lw_at lw_m15 22 rfl) rfl
theorem q3531 : (Jvm.Cond.methodLink "HintTeamModel" (369 : Nat) ({ cls := "HintTeamModel", name := "isFinal", desc := "()Z" } : Jvm.MethodName)) ∈ lw_all := lw_g (lw_at lw_m15 23 rfl) rfl
theorem q3532 : (Jvm.Cond.privateMethod ({ cls := "HintTeamModel", name := "isFinal", desc := "()Z" } : Jvm.MethodName)) ∈ lw_tbl := lw_at lw_m15 24 rfl
theorem q3533 : (Jvm.Cond.instanceMethod ({ cls := "HintTeamModel", name := "isFinal", desc := "()Z" } : Jvm.MethodName)) ∈ lw_all := lw_g (lw_at lw_m15 25 rfl) rfl
theorem q3534 : (Jvm.Cond.code ({ cls := "HintTeamModel", name := "isFinal", desc := "()Z" } : Jvm.MethodName) prog_15_method_105_code (3 : Nat) (Option.some Jvm.ClassFile.FieldType.boolean)) ∈ lw_all := lw_g (lw_at lw_m15 26 rfl) rfl
theorem q3535 : (Jvm.Cond.methodLink "HintTeamModel" (372 : Nat) ({ cls := "HintTeamModel", name := "canPlay", desc := "(I)Z" } : Jvm.MethodName)) ∈ lw_all := lw_g (lw_at lw_m15 27 rfl) rfl
theorem q3536 : (Jvm.Cond.privateMethod ({ cls := "HintTeamModel", name := "canPlay", desc := "(I)Z" } : Jvm.MethodName)) ∈ lw_tbl := lw_at lw_m15 28 rfl
theorem q3537 : (Jvm.Cond.instanceMethod ({ cls := "HintTeamModel", name := "canPlay", desc := "(I)Z" } : Jvm.MethodName)) ∈ lw_all := lw_g (lw_at lw_m15 29 rfl) rfl
theorem q3538 : (Jvm.Cond.code ({ cls := "HintTeamModel", name := "canPlay", desc := "(I)Z" } : Jvm.MethodName) prog_15_method_108_code (3 : Nat) (Option.some Jvm.ClassFile.FieldType.boolean)) ∈ lw_all := lw_g (lw_at lw_m15 30 rfl) rfl
theorem q3539 : (Jvm.Cond.methodLink "HintTeamModel" (375 : Nat) ({ cls := "HintTeamModel", name := "moves", desc := "(II)V" } : Jvm.MethodName)) ∈ lw_all := lw_g (lw_at lw_m15 31 rfl) rfl
theorem q3540 : (Jvm.Cond.privateMethod ({ cls := "HintTeamModel", name := "moves", desc := "(II)V" } : Jvm.MethodName)) ∈ lw_tbl := lw_at lw_m15 32 rfl
theorem q3541 : (Jvm.Cond.instanceMethod ({ cls := "HintTeamModel", name := "moves", desc := "(II)V" } : Jvm.MethodName)) ∈ lw_all := lw_g (lw_at lw_m15 33 rfl) rfl
theorem q3542 : (Jvm.Cond.code ({ cls := "HintTeamModel", name := "moves", desc := "(II)V" } : Jvm.MethodName) prog_15_method_107_code (5 : Nat) (Option.none : Option Jvm.ClassFile.FieldType)) ∈ lw_all := lw_g (lw_at lw_m15 34 rfl) rfl
theorem q3543 : (Jvm.Cond.constantLong "HintTeamModel" (364 : Nat) (-1 : Int64)) ∈ lw_all := lw_g (lw_at lw_m15 35 rfl) rfl
theorem q3544 : (Jvm.Cond.methodLink "HintTeamModel" (385 : Nat) ({ cls := "HintTeamModel", name := "scoreMade", desc := "()I" } : Jvm.MethodName)) ∈ lw_all := lw_g (lw_at lw_m15 36 rfl) rfl
theorem q3545 : (Jvm.Cond.privateMethod ({ cls := "HintTeamModel", name := "scoreMade", desc := "()I" } : Jvm.MethodName)) ∈ lw_tbl := lw_at lw_m15 37 rfl
theorem q3546 : (Jvm.Cond.instanceMethod ({ cls := "HintTeamModel", name := "scoreMade", desc := "()I" } : Jvm.MethodName)) ∈ lw_all := lw_g (lw_at lw_m15 38 rfl) rfl
theorem q3547 : (Jvm.Cond.code ({ cls := "HintTeamModel", name := "scoreMade", desc := "()I" } : Jvm.MethodName) prog_15_method_106_code (3 : Nat) (Option.some Jvm.ClassFile.FieldType.int)) ∈ lw_all := lw_g (lw_at lw_m15 39 rfl) rfl
theorem q3548 : (Jvm.Cond.methodLink "HintTeamModel" (388 : Nat) ({ cls := "java/lang/Math", name := "max", desc := "(II)I" } : Jvm.MethodName)) ∈ lw_all := lw_g (lw_at lw_m15 40 rfl) rfl
theorem q3550 : (Jvm.Cond.instanceMethod ({ cls := "HintTeamModel", name := "positions", desc := "()I" } : Jvm.MethodName)) ∈ lw_all := lw_g (lw_at lw_m15 42 rfl) rfl
theorem q3551 : (Jvm.Cond.selects "HintTeamModel" ({ cls := "HintTeamModel", name := "positions", desc := "()I" } : Jvm.MethodName) ({ cls := "HintTeamModel", name := "positions", desc := "()I" } : Jvm.MethodName)) ∈ lw_all := lw_g (lw_at lw_m15 43 rfl) rfl
theorem q3552 : (Jvm.Cond.code ({ cls := "HintTeamModel", name := "positions", desc := "()I" } : Jvm.MethodName) prog_15_method_114_code (2 : Nat) (Option.some Jvm.ClassFile.FieldType.int)) ∈ lw_all := lw_g (lw_at lw_m15 44 rfl) rfl
theorem q3554 : (Jvm.Cond.instanceMethod ({ cls := "HintTeamModel", name := "valueBehind", desc := "(II)I" } : Jvm.MethodName)) ∈ lw_all := lw_g (lw_at lw_m15 46 rfl) rfl
theorem q3555 : (Jvm.Cond.selects "HintTeamModel" ({ cls := "HintTeamModel", name := "valueBehind", desc := "(II)I" } : Jvm.MethodName) ({ cls := "HintTeamModel", name := "valueBehind", desc := "(II)I" } : Jvm.MethodName)) ∈ lw_all := lw_g (lw_at lw_m15 47 rfl) rfl
theorem q3556 : (Jvm.Cond.code ({ cls := "HintTeamModel", name := "valueBehind", desc := "(II)I" } : Jvm.MethodName) prog_15_method_116_code (3 : Nat) (Option.some Jvm.ClassFile.FieldType.int)) ∈ lw_all := lw_g (lw_at lw_m15 48 rfl) rfl
theorem q3557 : (Jvm.Cond.methodLink "HintTeamModel" (400 : Nat) ({ cls := "HintTeamModel", name := "valueWith", desc := "(II)I" } : Jvm.MethodName)) ∈ lw_all := lw_g (lw_at lw_m15 49 rfl) rfl
theorem q3558 : (Jvm.Cond.privateMethod ({ cls := "HintTeamModel", name := "valueWith", desc := "(II)I" } : Jvm.MethodName)) ∈ lw_tbl := lw_at lw_m15 50 rfl
theorem q3559 : (Jvm.Cond.instanceMethod ({ cls := "HintTeamModel", name := "valueWith", desc := "(II)I" } : Jvm.MethodName)) ∈ lw_all := lw_g (lw_at lw_m15 51 rfl) rfl
theorem q3560 : (Jvm.Cond.code ({ cls := "HintTeamModel", name := "valueWith", desc := "(II)I" } : Jvm.MethodName) prog_15_method_115_code (6 : Nat) (Option.some Jvm.ClassFile.FieldType.int)) ∈ lw_all := lw_g (lw_at lw_m15 52 rfl) rfl
theorem q3562 : (Jvm.Cond.instanceMethod ({ cls := "HintTeamModel", name := "bestMove", desc := "(I)I" } : Jvm.MethodName)) ∈ lw_all := lw_g (lw_at lw_m15 54 rfl) rfl
theorem q3563 : (Jvm.Cond.selects "HintTeamModel" ({ cls := "HintTeamModel", name := "bestMove", desc := "(I)I" } : Jvm.MethodName) ({ cls := "HintTeamModel", name := "bestMove", desc := "(I)I" } : Jvm.MethodName)) ∈ lw_all := lw_g (lw_at lw_m15 55 rfl) rfl
theorem q3564 : (Jvm.Cond.code ({ cls := "HintTeamModel", name := "bestMove", desc := "(I)I" } : Jvm.MethodName) prog_15_method_117_code (6 : Nat) (Option.some Jvm.ClassFile.FieldType.int)) ∈ lw_all := lw_g (lw_at lw_m15 56 rfl) rfl
theorem q3566 : (Jvm.Cond.instanceMethod ({ cls := "HintTeamModel", name := "total", desc := "(I)I" } : Jvm.MethodName)) ∈ lw_all := lw_g (lw_at lw_m15 58 rfl) rfl
theorem q3567 : (Jvm.Cond.selects "HintTeamModel" ({ cls := "HintTeamModel", name := "total", desc := "(I)I" } : Jvm.MethodName) ({ cls := "HintTeamModel", name := "total", desc := "(I)I" } : Jvm.MethodName)) ∈ lw_all := lw_g (lw_at lw_m15 59 rfl) rfl
theorem q3568 : (Jvm.Cond.code ({ cls := "HintTeamModel", name := "total", desc := "(I)I" } : Jvm.MethodName) prog_15_method_118_code (2 : Nat) (Option.some Jvm.ClassFile.FieldType.int)) ∈ lw_all := lw_g (lw_at lw_m15 60 rfl) rfl
theorem q3570 : (Jvm.Cond.instanceMethod ({ cls := "HintTeamModel", name := "logPart", desc := "(II)I" } : Jvm.MethodName)) ∈ lw_all := lw_g (lw_at lw_m15 62 rfl) rfl
theorem q3571 : (Jvm.Cond.selects "HintTeamModel" ({ cls := "HintTeamModel", name := "logPart", desc := "(II)I" } : Jvm.MethodName) ({ cls := "HintTeamModel", name := "logPart", desc := "(II)I" } : Jvm.MethodName)) ∈ lw_all := lw_g (lw_at lw_m15 63 rfl) rfl
theorem q3572 : (Jvm.Cond.code ({ cls := "HintTeamModel", name := "logPart", desc := "(II)I" } : Jvm.MethodName) prog_15_method_119_code (4 : Nat) (Option.some Jvm.ClassFile.FieldType.int)) ∈ lw_all := lw_g (lw_at lw_m15 64 rfl) rfl
theorem q3574 : (Jvm.Cond.instanceMethod ({ cls := "HintTeamModel", name := "writeHand", desc := "(IZ)I" } : Jvm.MethodName)) ∈ lw_all := lw_g (lw_at lw_m15 66 rfl) rfl
theorem q3575 : (Jvm.Cond.selects "HintTeamModel" ({ cls := "HintTeamModel", name := "writeHand", desc := "(IZ)I" } : Jvm.MethodName) ({ cls := "HintTeamModel", name := "writeHand", desc := "(IZ)I" } : Jvm.MethodName)) ∈ lw_all := lw_g (lw_at lw_m15 67 rfl) rfl
theorem q3576 : (Jvm.Cond.code ({ cls := "HintTeamModel", name := "writeHand", desc := "(IZ)I" } : Jvm.MethodName) prog_15_method_122_code (7 : Nat) (Option.some Jvm.ClassFile.FieldType.int)) ∈ lw_all := lw_g (lw_at lw_m15 68 rfl) rfl
theorem q3577 : (Jvm.Cond.methodLink "HintTeamModel" (406 : Nat) ({ cls := "HintTeamModel", name := "only", desc := "(I)I" } : Jvm.MethodName)) ∈ lw_all := lw_g (lw_at lw_m15 69 rfl) rfl
theorem q3578 : (Jvm.Cond.static ({ cls := "HintTeamModel", name := "only", desc := "(I)I" } : Jvm.MethodName)) ∈ lw_all := lw_g (lw_at lw_m15 70 rfl) rfl
theorem q3579 : (Jvm.Cond.code ({ cls := "HintTeamModel", name := "only", desc := "(I)I" } : Jvm.MethodName) prog_15_method_121_code (2 : Nat) (Option.some Jvm.ClassFile.FieldType.int)) ∈ lw_all := lw_g (lw_at lw_m15 71 rfl) rfl
theorem q3580 : (Jvm.Cond.methodLink "HintTeamModel" (409 : Nat) ({ cls := "HintTeamModel", name := "puts", desc := "(I)V" } : Jvm.MethodName)) ∈ lw_all := lw_g (lw_at lw_m15 72 rfl) rfl
theorem q3581 : (Jvm.Cond.privateMethod ({ cls := "HintTeamModel", name := "puts", desc := "(I)V" } : Jvm.MethodName)) ∈ lw_tbl := lw_at lw_m15 73 rfl
theorem q3582 : (Jvm.Cond.instanceMethod ({ cls := "HintTeamModel", name := "puts", desc := "(I)V" } : Jvm.MethodName)) ∈ lw_all := lw_g (lw_at lw_m15 74 rfl) rfl
theorem q3583 : (Jvm.Cond.code ({ cls := "HintTeamModel", name := "puts", desc := "(I)V" } : Jvm.MethodName) prog_15_method_120_code (2 : Nat) (Option.none : Option Jvm.ClassFile.FieldType)) ∈ lw_all := lw_g (lw_at lw_m15 75 rfl) rfl
theorem q3585 : (Jvm.Cond.instanceMethod ({ cls := "HintTeamModel", name := "outputByte", desc := "(I)I" } : Jvm.MethodName)) ∈ lw_all := lw_g (lw_at lw_m15 77 rfl) rfl
theorem q3586 : (Jvm.Cond.selects "HintTeamModel" ({ cls := "HintTeamModel", name := "outputByte", desc := "(I)I" } : Jvm.MethodName) ({ cls := "HintTeamModel", name := "outputByte", desc := "(I)I" } : Jvm.MethodName)) ∈ lw_all := lw_g (lw_at lw_m15 78 rfl) rfl
theorem q3587 : (Jvm.Cond.code ({ cls := "HintTeamModel", name := "outputByte", desc := "(I)I" } : Jvm.MethodName) prog_15_method_123_code (2 : Nat) (Option.some Jvm.ClassFile.FieldType.int)) ∈ lw_all := lw_g (lw_at lw_m15 79 rfl) rfl
theorem q3589 : (Jvm.Cond.instanceMethod ({ cls := "HintTeamModel", name := "saveSnapshot", desc := "(I)I" } : Jvm.MethodName)) ∈ lw_all := lw_g (lw_at lw_m15 81 rfl) rfl
theorem q3590 : (Jvm.Cond.selects "HintTeamModel" ({ cls := "HintTeamModel", name := "saveSnapshot", desc := "(I)I" } : Jvm.MethodName) ({ cls := "HintTeamModel", name := "saveSnapshot", desc := "(I)I" } : Jvm.MethodName)) ∈ lw_all := lw_g (lw_at lw_m15 82 rfl) rfl
theorem q3591 : (Jvm.Cond.code ({ cls := "HintTeamModel", name := "saveSnapshot", desc := "(I)I" } : Jvm.MethodName) prog_15_method_124_code (2 : Nat) (Option.some Jvm.ClassFile.FieldType.int)) ∈ lw_all := lw_g (lw_at lw_m15 83 rfl) rfl
theorem q3593 : (Jvm.Cond.instanceMethod ({ cls := "HintTeamModel", name := "restoreSnapshot", desc := "(I)I" } : Jvm.MethodName)) ∈ lw_all := lw_g (lw_at lw_m15 85 rfl) rfl
theorem q3594 : (Jvm.Cond.selects "HintTeamModel" ({ cls := "HintTeamModel", name := "restoreSnapshot", desc := "(I)I" } : Jvm.MethodName) ({ cls := "HintTeamModel", name := "restoreSnapshot", desc := "(I)I" } : Jvm.MethodName)) ∈ lw_all := lw_g (lw_at lw_m15 86 rfl) rfl
theorem q3595 : (Jvm.Cond.code ({ cls := "HintTeamModel", name := "restoreSnapshot", desc := "(I)I" } : Jvm.MethodName) prog_15_method_125_code (2 : Nat) (Option.some Jvm.ClassFile.FieldType.int)) ∈ lw_all := lw_g (lw_at lw_m15 87 rfl) rfl
theorem q3637 : (Jvm.Cond.castable "HintTeamModel" "java/lang/Object") ∈ lw_tbl := lw_at lw_m15 129 rfl
theorem in_X7 : ∀ w ∈ wsX70, w ∈ lw_all := lw_in wsX70 [3024, 3026, 3028, 3030, 3032, 3034, 3036, 3038, 3040, 3042, 3044, 3046, 3048, 3050, 3052, 3054, 3056, 3058, 3060, 3062, 3064, 3066, 3068, 3070, 3072, 3074, 3076, 3078, 3080, 3082, 3084] (by decide +kernel) (by decide +kernel)
/-! HintTeam$Parser -/
def RX8 : String := "HintTeam$Parser"
def TX8 : u_T := fun k => match k with
  | 0 => ("HintTeam$Parser", "made", "LHintTeam$Rules;", true)
  | 1 => ("HintTeam$Parser", "position", "I", false)
  | 2 => ("HintTeam$Parser", "start", "I", false)
  | 3 => ("HintTeam$Parser", "statement", "I", false)
  | 4 => ("HintTeam$Parser", "seed", "I", false)
  | _ => ("HintTeam$Parser", "this$0", "LHintTeam;", true)
def tyX8 : Nat → FieldType := fun k => match k with
  | 0 => .object "HintTeam$Rules"
  | 1 => .int
  | 2 => .int
  | 3 => .int
  | 4 => .int
  | _ => .object "HintTeam"
abbrev wsX80 : List Cond := u_ws RX8 TX8 6
theorem nmX8 : ∀ a, a < 6 → ∀ b, b < 6 → a ≠ b → (TX8 a).2.1 ≠ (TX8 b).2.1 := by decide +kernel
theorem tyX8_ok : ∀ k, k < 6 → parseFieldDescriptor (TX8 k).2.2.1 = some (tyX8 k) := by decide +kernel
abbrev cX8_init : ByteArray := prog_11_method_1_code
def yX8_init : MethodName := ⟨RX8, "<init>", "(LHintTeam;)V"⟩
abbrev cX8_parse : ByteArray := prog_11_method_17_code
def yX8_parse : MethodName := ⟨RX8, "parse", "()LHintTeam$Table;"⟩
abbrev cX8_statement : ByteArray := prog_11_method_13_code
def yX8_statement : MethodName := ⟨RX8, "statement", "()V"⟩
abbrev cX8_word : ByteArray := prog_11_method_5_code
def yX8_word : MethodName := ⟨RX8, "word", "()Ljava/lang/String;"⟩
abbrev cX8_peek : ByteArray := prog_11_method_2_code
def yX8_peek : MethodName := ⟨RX8, "peek", "()I"⟩
abbrev cX8_require : ByteArray := prog_11_method_3_code
def yX8_require : MethodName := ⟨RX8, "require", "(ZI)V"⟩
abbrev cX8_isAt : ByteArray := prog_11_method_4_code
def yX8_isAt : MethodName := ⟨RX8, "isAt", "(CC)Z"⟩
abbrev cX8_game : ByteArray := prog_11_method_8_code
def yX8_game : MethodName := ⟨RX8, "game", "()V"⟩
abbrev cX8_number : ByteArray := prog_11_method_7_code
def yX8_number : MethodName := ⟨RX8, "number", "(II)I"⟩
abbrev cX8_digits : ByteArray := prog_11_method_6_code
def yX8_digits : MethodName := ⟨RX8, "digits", "()I"⟩
abbrev cX8_deck : ByteArray := prog_11_method_10_code
def yX8_deck : MethodName := ⟨RX8, "deck", "()V"⟩
abbrev cX8_card : ByteArray := prog_11_method_9_code
def yX8_card : MethodName := ⟨RX8, "card", "()V"⟩
abbrev cX8_tokens : ByteArray := prog_11_method_11_code
def yX8_tokens : MethodName := ⟨RX8, "tokens", "()V"⟩
abbrev cX8_times : ByteArray := prog_11_method_12_code
def yX8_times : MethodName := ⟨RX8, "times", "(I)V"⟩
abbrev cX8_goesOn : ByteArray := prog_11_method_14_code
def yX8_goesOn : MethodName := ⟨RX8, "goesOn", "()Z"⟩
abbrev cX8_shuffles : ByteArray := prog_11_method_16_code
def yX8_shuffles : MethodName := ⟨RX8, "shuffles", "()V"⟩
abbrev cX8_drawnOf : ByteArray := prog_11_method_15_code
def yX8_drawnOf : MethodName := ⟨RX8, "drawnOf", "(I)I"⟩
theorem q181 : (Jvm.Cond.initialized "HintTeam$Parser") ∈ lw_all := lw_g (lw_at lw_m1 33 rfl) rfl
theorem q292 : (Jvm.Cond.fieldLinkNest "HintTeam$Parser" (92 : Nat) "HintTeam$Rules" "colors" "I" "HintTeam") ∈ lw_tbl := lw_at lw_m1 144 rfl
theorem q297 : (Jvm.Cond.fieldLinkNest "HintTeam$Parser" (95 : Nat) "HintTeam$Rules" "ranks" "I" "HintTeam") ∈ lw_tbl := lw_at lw_m1 149 rfl
theorem q300 : (Jvm.Cond.fieldLinkNest "HintTeam$Parser" (98 : Nat) "HintTeam$Rules" "players" "I" "HintTeam") ∈ lw_tbl := lw_at lw_m1 152 rfl
theorem q304 : (Jvm.Cond.fieldLinkNest "HintTeam$Parser" (101 : Nat) "HintTeam$Rules" "hand" "I" "HintTeam") ∈ lw_tbl := lw_at lw_m1 156 rfl
theorem q308 : (Jvm.Cond.fieldLinkNest "HintTeam$Parser" (136 : Nat) "HintTeam$Rules" "most" "I" "HintTeam") ∈ lw_tbl := lw_at lw_m1 160 rfl
theorem q312 : (Jvm.Cond.fieldLinkNest "HintTeam$Parser" (139 : Nat) "HintTeam$Rules" "start" "I" "HintTeam") ∈ lw_tbl := lw_at lw_m1 164 rfl
theorem q315 : (Jvm.Cond.fieldLinkNest "HintTeam$Parser" (179 : Nat) "HintTeam$Rules" "lives" "I" "HintTeam") ∈ lw_tbl := lw_at lw_m1 167 rfl
theorem q319 : (Jvm.Cond.fieldLinkNest "HintTeam$Parser" (115 : Nat) "HintTeam$Rules" "deck" "Ljava/util/List;" "HintTeam") ∈ lw_tbl := lw_at lw_m1 171 rfl
theorem q324 : (Jvm.Cond.fieldLinkNest "HintTeam$Parser" (147 : Nat) "HintTeam$Rules" "times" "[[I" "HintTeam") ∈ lw_tbl := lw_at lw_m1 176 rfl
theorem q869 : (Jvm.Cond.fieldLinkNest "HintTeam$Parser" (32 : Nat) "HintTeam" "text" "[B" "HintTeam") ∈ lw_tbl := lw_at lw_m4 1 rfl
theorem q870 : (Jvm.Cond.fieldLinkNest "HintTeam$Parser" (29 : Nat) "HintTeam" "length" "I" "HintTeam") ∈ lw_tbl := lw_at lw_m4 2 rfl
theorem q909 : (Jvm.Cond.instantiable "HintTeam$Parser" (6 : Nat)) ∈ lw_all := lw_g (lw_at lw_m4 41 rfl) rfl
theorem q911 : (Jvm.Cond.instanceMethod ({ cls := "HintTeam$Parser", name := "<init>", desc := "(LHintTeam;)V" } : Jvm.MethodName)) ∈ lw_all := lw_g (lw_at lw_m4 43 rfl) rfl
theorem q912 : (Jvm.Cond.code ({ cls := "HintTeam$Parser", name := "<init>", desc := "(LHintTeam;)V" } : Jvm.MethodName) prog_11_method_1_code (2 : Nat) (Option.none : Option Jvm.ClassFile.FieldType)) ∈ lw_all := lw_g (lw_at lw_m4 44 rfl) rfl
theorem q913 : (Jvm.Cond.methodLink "HintTeam$Parser" (9 : Nat) ({ cls := "java/lang/Object", name := "<init>", desc := "()V" } : Jvm.MethodName)) ∈ lw_all := lw_g (lw_at lw_m4 45 rfl) rfl
theorem q914 : (Jvm.Cond.classLink "HintTeam$Parser" (15 : Nat) "HintTeam$Rules") ∈ lw_all := lw_g (lw_at lw_m4 46 rfl) rfl
theorem q915 : (Jvm.Cond.methodLink "HintTeam$Parser" (17 : Nat) ({ cls := "HintTeam$Rules", name := "<init>", desc := "()V" } : Jvm.MethodName)) ∈ lw_all := lw_g (lw_at lw_m4 47 rfl) rfl
theorem q916 : (Jvm.Cond.fieldLink "HintTeam$Parser" (18 : Nat) "HintTeam$Parser" "made" "LHintTeam$Rules;") ∈ lw_all := lw_g (lw_at lw_m4 48 rfl) rfl
theorem q917 : (Jvm.Cond.fieldLink "HintTeam$Parser" (26 : Nat) "HintTeam$Parser" "position" "I") ∈ lw_all := lw_g (lw_at lw_m4 49 rfl) rfl
theorem q918 : (Jvm.Cond.fieldLink "HintTeam$Parser" (36 : Nat) "HintTeam$Parser" "start" "I") ∈ lw_all := lw_g (lw_at lw_m4 50 rfl) rfl
theorem q919 : (Jvm.Cond.fieldLink "HintTeam$Parser" (156 : Nat) "HintTeam$Parser" "statement" "I") ∈ lw_all := lw_g (lw_at lw_m4 51 rfl) rfl
theorem q921 : (Jvm.Cond.fieldLink "HintTeam$Parser" (22 : Nat) "HintTeam$Parser" "seed" "I") ∈ lw_all := lw_g (lw_at lw_m4 53 rfl) rfl
theorem q922 : (Jvm.Cond.fieldLink "HintTeam$Parser" (3 : Nat) "HintTeam$Parser" "this$0" "LHintTeam;") ∈ lw_all := lw_g (lw_at lw_m4 54 rfl) rfl
theorem q923 : (Jvm.Cond.laysFinal "HintTeam$Parser" "HintTeam$Parser" "made" "LHintTeam$Rules;") ∈ lw_all := lw_g (lw_at lw_m4 55 rfl) rfl
theorem q924 : (Jvm.Cond.soleField "HintTeam$Parser" "made") ∈ lw_all := lw_g (lw_at lw_m4 56 rfl) rfl
theorem q925 : (Jvm.Cond.lays "HintTeam$Parser" "HintTeam$Parser" "position" "I") ∈ lw_all := lw_g (lw_at lw_m4 57 rfl) rfl
theorem q926 : (Jvm.Cond.soleField "HintTeam$Parser" "position") ∈ lw_all := lw_g (lw_at lw_m4 58 rfl) rfl
theorem q927 : (Jvm.Cond.lays "HintTeam$Parser" "HintTeam$Parser" "start" "I") ∈ lw_all := lw_g (lw_at lw_m4 59 rfl) rfl
theorem q928 : (Jvm.Cond.soleField "HintTeam$Parser" "start") ∈ lw_all := lw_g (lw_at lw_m4 60 rfl) rfl
theorem q929 : (Jvm.Cond.lays "HintTeam$Parser" "HintTeam$Parser" "statement" "I") ∈ lw_all := lw_g (lw_at lw_m4 61 rfl) rfl
theorem q930 : (Jvm.Cond.soleField "HintTeam$Parser" "statement") ∈ lw_all := lw_g (lw_at lw_m4 62 rfl) rfl
theorem q931 : (Jvm.Cond.lays "HintTeam$Parser" "HintTeam$Parser" "seed" "I") ∈ lw_all := lw_g (lw_at lw_m4 63 rfl) rfl
theorem q932 : (Jvm.Cond.soleField "HintTeam$Parser" "seed") ∈ lw_all := lw_g (lw_at lw_m4 64 rfl) rfl
theorem q933 : (Jvm.Cond.laysFinal "HintTeam$Parser" "HintTeam$Parser" "this$0" "LHintTeam;") ∈ lw_all := lw_g (lw_at lw_m4 65 rfl) rfl
theorem q934 : (Jvm.Cond.soleField "HintTeam$Parser" "this$0") ∈ lw_all := lw_g (lw_at lw_m4 66 rfl) rfl
theorem q935 : (Jvm.Cond.superclass "HintTeam$Parser" "java/lang/Object") ∈ lw_all := lw_g (lw_at lw_m4 67 rfl) rfl
theorem q937 : (Jvm.Cond.instanceMethod ({ cls := "HintTeam$Parser", name := "parse", desc := "()LHintTeam$Table;" } : Jvm.MethodName)) ∈ lw_all := lw_g (lw_at lw_m4 69 rfl) rfl
theorem q938 : (Jvm.Cond.selects "HintTeam$Parser" ({ cls := "HintTeam$Parser", name := "parse", desc := "()LHintTeam$Table;" } : Jvm.MethodName) ({ cls := "HintTeam$Parser", name := "parse", desc := "()LHintTeam$Table;" } : Jvm.MethodName)) ∈ lw_all := lw_g (lw_at lw_m4 70 rfl) rfl
theorem q939 : (Jvm.Cond.code ({ cls := "HintTeam$Parser", name := "parse", desc := "()LHintTeam$Table;" } : Jvm.MethodName) prog_11_method_17_code (2 : Nat) (Option.some (Jvm.ClassFile.FieldType.object "HintTeam$Table"))) ∈ lw_all := lw_g (lw_at lw_m4 71 rfl) rfl
theorem q940 : (Jvm.Cond.methodLink "HintTeam$Parser" (207 : Nat) ({ cls := "HintTeam$Parser", name := "statement", desc := "()V" } : Jvm.MethodName)) ∈ lw_all := lw_g (lw_at lw_m4 72 rfl) rfl
theorem q941 : (Jvm.Cond.privateMethod ({ cls := "HintTeam$Parser", name := "statement", desc := "()V" } : Jvm.MethodName)) ∈ lw_tbl := lw_at lw_m4 73 rfl
theorem q942 : (Jvm.Cond.instanceMethod ({ cls := "HintTeam$Parser", name := "statement", desc := "()V" } : Jvm.MethodName)) ∈ lw_all := lw_g (lw_at lw_m4 74 rfl) rfl
theorem q943 : (Jvm.Cond.code ({ cls := "HintTeam$Parser", name := "statement", desc := "()V" } : Jvm.MethodName) prog_11_method_13_code (4 : Nat) (Option.none : Option Jvm.ClassFile.FieldType)) ∈ lw_all := lw_g (lw_at lw_m4 75 rfl) rfl
theorem q944 : (Jvm.Cond.methodLink "HintTeam$Parser" (104 : Nat) ({ cls := "HintTeam$Parser", name := "word", desc := "()Ljava/lang/String;" } : Jvm.MethodName)) ∈ lw_all := lw_g (lw_at lw_m4 76 rfl) rfl
theorem q945 : (Jvm.Cond.privateMethod ({ cls := "HintTeam$Parser", name := "word", desc := "()Ljava/lang/String;" } : Jvm.MethodName)) ∈ lw_tbl := lw_at lw_m4 77 rfl
theorem q946 : (Jvm.Cond.instanceMethod ({ cls := "HintTeam$Parser", name := "word", desc := "()Ljava/lang/String;" } : Jvm.MethodName)) ∈ lw_all := lw_g (lw_at lw_m4 78 rfl) rfl
theorem q947 : (Jvm.Cond.code ({ cls := "HintTeam$Parser", name := "word", desc := "()Ljava/lang/String;" } : Jvm.MethodName) prog_11_method_5_code (2 : Nat) (Option.some (Jvm.ClassFile.FieldType.object "java/lang/String"))) ∈ lw_all := lw_g (lw_at lw_m4 79 rfl) rfl
theorem q948 : (Jvm.Cond.methodLink "HintTeam$Parser" (48 : Nat) ({ cls := "HintTeam$Parser", name := "peek", desc := "()I" } : Jvm.MethodName)) ∈ lw_all := lw_g (lw_at lw_m4 80 rfl) rfl
theorem q949 : (Jvm.Cond.privateMethod ({ cls := "HintTeam$Parser", name := "peek", desc := "()I" } : Jvm.MethodName)) ∈ lw_tbl := lw_at lw_m4 81 rfl
theorem q950 : (Jvm.Cond.instanceMethod ({ cls := "HintTeam$Parser", name := "peek", desc := "()I" } : Jvm.MethodName)) ∈ lw_all := lw_g (lw_at lw_m4 82 rfl) rfl
theorem q951 : (Jvm.Cond.code ({ cls := "HintTeam$Parser", name := "peek", desc := "()I" } : Jvm.MethodName) prog_11_method_2_code (1 : Nat) (Option.some Jvm.ClassFile.FieldType.int)) ∈ lw_all := lw_g (lw_at lw_m4 83 rfl) rfl
theorem q952 : (Jvm.Cond.constantLong "HintTeam$Parser" (52 : Nat) (97 : Int64)) ∈ lw_all := lw_g (lw_at lw_m4 84 rfl) rfl
theorem q953 : (Jvm.Cond.constantLong "HintTeam$Parser" (54 : Nat) (122 : Int64)) ∈ lw_all := lw_g (lw_at lw_m4 85 rfl) rfl
theorem q954 : (Jvm.Cond.methodLinkNest "HintTeam$Parser" (44 : Nat) ({ cls := "HintTeam", name := "inRange", desc := "(JJJ)Z" } : Jvm.MethodName) "HintTeam") ∈ lw_tbl := lw_at lw_m4 86 rfl
theorem q957 : (Jvm.Cond.methodLink "HintTeam$Parser" (56 : Nat) ({ cls := "HintTeam$Parser", name := "require", desc := "(ZI)V" } : Jvm.MethodName)) ∈ lw_all := lw_g (lw_at lw_m4 89 rfl) rfl
theorem q958 : (Jvm.Cond.privateMethod ({ cls := "HintTeam$Parser", name := "require", desc := "(ZI)V" } : Jvm.MethodName)) ∈ lw_tbl := lw_at lw_m4 90 rfl
theorem q959 : (Jvm.Cond.instanceMethod ({ cls := "HintTeam$Parser", name := "require", desc := "(ZI)V" } : Jvm.MethodName)) ∈ lw_all := lw_g (lw_at lw_m4 91 rfl) rfl
theorem q960 : (Jvm.Cond.code ({ cls := "HintTeam$Parser", name := "require", desc := "(ZI)V" } : Jvm.MethodName) prog_11_method_3_code (3 : Nat) (Option.none : Option Jvm.ClassFile.FieldType)) ∈ lw_all := lw_g (lw_at lw_m4 92 rfl) rfl
theorem q961 : (Jvm.Cond.classLink "HintTeam$Parser" (39 : Nat) "HintTeam$Fault") ∈ lw_all := lw_g (lw_at lw_m4 93 rfl) rfl
theorem q970 : (Jvm.Cond.methodLink "HintTeam$Parser" (41 : Nat) ({ cls := "HintTeam$Fault", name := "<init>", desc := "(II)V" } : Jvm.MethodName)) ∈ lw_all := lw_g (lw_at lw_m4 102 rfl) rfl
theorem q989 : (Jvm.Cond.classLink "HintTeam$Parser" (60 : Nat) "java/lang/StringBuilder") ∈ lw_all := lw_g (lw_at lw_m4 121 rfl) rfl
theorem q990 : (Jvm.Cond.methodLink "HintTeam$Parser" (62 : Nat) ({ cls := "java/lang/StringBuilder", name := "<init>", desc := "()V" } : Jvm.MethodName)) ∈ lw_all := lw_g (lw_at lw_m4 122 rfl) rfl
theorem q991 : (Jvm.Cond.methodLink "HintTeam$Parser" (63 : Nat) ({ cls := "HintTeam$Parser", name := "isAt", desc := "(CC)Z" } : Jvm.MethodName)) ∈ lw_all := lw_g (lw_at lw_m4 123 rfl) rfl
theorem q992 : (Jvm.Cond.privateMethod ({ cls := "HintTeam$Parser", name := "isAt", desc := "(CC)Z" } : Jvm.MethodName)) ∈ lw_tbl := lw_at lw_m4 124 rfl
theorem q993 : (Jvm.Cond.instanceMethod ({ cls := "HintTeam$Parser", name := "isAt", desc := "(CC)Z" } : Jvm.MethodName)) ∈ lw_all := lw_g (lw_at lw_m4 125 rfl) rfl
theorem q994 : (Jvm.Cond.code ({ cls := "HintTeam$Parser", name := "isAt", desc := "(CC)Z" } : Jvm.MethodName) prog_11_method_4_code (3 : Nat) (Option.some Jvm.ClassFile.FieldType.boolean)) ∈ lw_all := lw_g (lw_at lw_m4 126 rfl) rfl
theorem q995 : (Jvm.Cond.methodLink "HintTeam$Parser" (67 : Nat) ({ cls := "java/lang/StringBuilder", name := "append", desc := "(C)Ljava/lang/StringBuilder;" } : Jvm.MethodName)) ∈ lw_all := lw_g (lw_at lw_m4 127 rfl) rfl
theorem q1017 : (Jvm.Cond.methodLink "HintTeam$Parser" (71 : Nat) ({ cls := "java/lang/StringBuilder", name := "toString", desc := "()Ljava/lang/String;" } : Jvm.MethodName)) ∈ lw_all := lw_g (lw_at lw_m4 149 rfl) rfl
theorem q1018 : (Jvm.Cond.stringRef "HintTeam$Parser" (151 : Nat) "game") ∈ lw_tbl := lw_at lw_m4 150 rfl
theorem q1019 : (Jvm.Cond.methodLink "HintTeam$Parser" (153 : Nat) ({ cls := "java/lang/String", name := "equals", desc := "(Ljava/lang/Object;)Z" } : Jvm.MethodName)) ∈ lw_all := lw_g (lw_at lw_m4 151 rfl) rfl
theorem q1027 : (Jvm.Cond.methodLink "HintTeam$Parser" (159 : Nat) ({ cls := "java/lang/String", name := "hashCode", desc := "()I" } : Jvm.MethodName)) ∈ lw_all := lw_g (lw_at lw_m4 159 rfl) rfl
theorem q1088 : (Jvm.Cond.stringRef "HintTeam$Parser" (162 : Nat) "deck") ∈ lw_tbl := lw_at lw_m4 220 rfl
theorem q1089 : (Jvm.Cond.stringRef "HintTeam$Parser" (163 : Nat) "tokens") ∈ lw_tbl := lw_at lw_m4 221 rfl
theorem q1090 : (Jvm.Cond.stringRef "HintTeam$Parser" (165 : Nat) "lives") ∈ lw_tbl := lw_at lw_m4 222 rfl
theorem q1091 : (Jvm.Cond.stringRef "HintTeam$Parser" (167 : Nat) "color") ∈ lw_tbl := lw_at lw_m4 223 rfl
theorem q1092 : (Jvm.Cond.stringRef "HintTeam$Parser" (169 : Nat) "rank") ∈ lw_tbl := lw_at lw_m4 224 rfl
theorem q1093 : (Jvm.Cond.stringRef "HintTeam$Parser" (171 : Nat) "shuffle") ∈ lw_tbl := lw_at lw_m4 225 rfl
theorem q1094 : (Jvm.Cond.methodLink "HintTeam$Parser" (173 : Nat) ({ cls := "HintTeam$Parser", name := "game", desc := "()V" } : Jvm.MethodName)) ∈ lw_all := lw_g (lw_at lw_m4 226 rfl) rfl
theorem q1095 : (Jvm.Cond.privateMethod ({ cls := "HintTeam$Parser", name := "game", desc := "()V" } : Jvm.MethodName)) ∈ lw_tbl := lw_at lw_m4 227 rfl
theorem q1096 : (Jvm.Cond.instanceMethod ({ cls := "HintTeam$Parser", name := "game", desc := "()V" } : Jvm.MethodName)) ∈ lw_all := lw_g (lw_at lw_m4 228 rfl) rfl
theorem q1097 : (Jvm.Cond.code ({ cls := "HintTeam$Parser", name := "game", desc := "()V" } : Jvm.MethodName) prog_11_method_8_code (1 : Nat) (Option.none : Option Jvm.ClassFile.FieldType)) ∈ lw_all := lw_g (lw_at lw_m4 229 rfl) rfl
theorem q1098 : (Jvm.Cond.methodLink "HintTeam$Parser" (89 : Nat) ({ cls := "HintTeam$Parser", name := "number", desc := "(II)I" } : Jvm.MethodName)) ∈ lw_all := lw_g (lw_at lw_m4 230 rfl) rfl
theorem q1099 : (Jvm.Cond.privateMethod ({ cls := "HintTeam$Parser", name := "number", desc := "(II)I" } : Jvm.MethodName)) ∈ lw_tbl := lw_at lw_m4 231 rfl
theorem q1100 : (Jvm.Cond.instanceMethod ({ cls := "HintTeam$Parser", name := "number", desc := "(II)I" } : Jvm.MethodName)) ∈ lw_all := lw_g (lw_at lw_m4 232 rfl) rfl
theorem q1101 : (Jvm.Cond.code ({ cls := "HintTeam$Parser", name := "number", desc := "(II)I" } : Jvm.MethodName) prog_11_method_7_code (4 : Nat) (Option.some Jvm.ClassFile.FieldType.int)) ∈ lw_all := lw_g (lw_at lw_m4 233 rfl) rfl
theorem q1102 : (Jvm.Cond.constantLong "HintTeam$Parser" (82 : Nat) (48 : Int64)) ∈ lw_all := lw_g (lw_at lw_m4 234 rfl) rfl
theorem q1103 : (Jvm.Cond.constantLong "HintTeam$Parser" (84 : Nat) (57 : Int64)) ∈ lw_all := lw_g (lw_at lw_m4 235 rfl) rfl
theorem q1104 : (Jvm.Cond.methodLink "HintTeam$Parser" (86 : Nat) ({ cls := "HintTeam$Parser", name := "digits", desc := "()I" } : Jvm.MethodName)) ∈ lw_all := lw_g (lw_at lw_m4 236 rfl) rfl
theorem q1105 : (Jvm.Cond.privateMethod ({ cls := "HintTeam$Parser", name := "digits", desc := "()I" } : Jvm.MethodName)) ∈ lw_tbl := lw_at lw_m4 237 rfl
theorem q1106 : (Jvm.Cond.instanceMethod ({ cls := "HintTeam$Parser", name := "digits", desc := "()I" } : Jvm.MethodName)) ∈ lw_all := lw_g (lw_at lw_m4 238 rfl) rfl
theorem q1107 : (Jvm.Cond.code ({ cls := "HintTeam$Parser", name := "digits", desc := "()I" } : Jvm.MethodName) prog_11_method_6_code (2 : Nat) (Option.some Jvm.ClassFile.FieldType.int)) ∈ lw_all := lw_g (lw_at lw_m4 239 rfl) rfl
theorem q1108 : (Jvm.Cond.constant "HintTeam$Parser" (75 : Nat) (10000000 : Int32)) ∈ lw_all := lw_g (lw_at lw_m5 0 rfl) rfl
theorem q1109 : (Jvm.Cond.methodLink "HintTeam$Parser" (76 : Nat) ({ cls := "java/lang/Math", name := "min", desc := "(II)I" } : Jvm.MethodName)) ∈ lw_all := lw_g (lw_at lw_m5 1 rfl) rfl
theorem q1110 : (Jvm.Cond.methodLink "HintTeam$Parser" (175 : Nat) ({ cls := "HintTeam$Parser", name := "deck", desc := "()V" } : Jvm.MethodName)) ∈ lw_all := lw_g (lw_at lw_m5 2 rfl) rfl
theorem q1111 : (Jvm.Cond.privateMethod ({ cls := "HintTeam$Parser", name := "deck", desc := "()V" } : Jvm.MethodName)) ∈ lw_tbl := lw_at lw_m5 3 rfl
theorem q1112 : (Jvm.Cond.instanceMethod ({ cls := "HintTeam$Parser", name := "deck", desc := "()V" } : Jvm.MethodName)) ∈ lw_all := lw_g (lw_at lw_m5 4 rfl) rfl
theorem q1113 : (Jvm.Cond.code ({ cls := "HintTeam$Parser", name := "deck", desc := "()V" } : Jvm.MethodName) prog_11_method_10_code (1 : Nat) (Option.none : Option Jvm.ClassFile.FieldType)) ∈ lw_all := lw_g (lw_at lw_m5 5 rfl) rfl
theorem q1114 : (Jvm.Cond.methodLink "HintTeam$Parser" (133 : Nat) ({ cls := "HintTeam$Parser", name := "card", desc := "()V" } : Jvm.MethodName)) ∈ lw_all := lw_g (lw_at lw_m5 6 rfl) rfl
theorem q1115 : (Jvm.Cond.privateMethod ({ cls := "HintTeam$Parser", name := "card", desc := "()V" } : Jvm.MethodName)) ∈ lw_tbl := lw_at lw_m5 7 rfl
theorem q1116 : (Jvm.Cond.instanceMethod ({ cls := "HintTeam$Parser", name := "card", desc := "()V" } : Jvm.MethodName)) ∈ lw_all := lw_g (lw_at lw_m5 8 rfl) rfl
theorem q1117 : (Jvm.Cond.code ({ cls := "HintTeam$Parser", name := "card", desc := "()V" } : Jvm.MethodName) prog_11_method_9_code (4 : Nat) (Option.none : Option Jvm.ClassFile.FieldType)) ∈ lw_all := lw_g (lw_at lw_m5 9 rfl) rfl
theorem q1118 : (Jvm.Cond.methodLink "HintTeam$Parser" (107 : Nat) ({ cls := "java/lang/String", name := "length", desc := "()I" } : Jvm.MethodName)) ∈ lw_all := lw_g (lw_at lw_m5 10 rfl) rfl
theorem q1119 : (Jvm.Cond.methodLink "HintTeam$Parser" (111 : Nat) ({ cls := "java/lang/String", name := "charAt", desc := "(I)C" } : Jvm.MethodName)) ∈ lw_all := lw_g (lw_at lw_m5 11 rfl) rfl
theorem q1130 : (Jvm.Cond.interfaceEntry "HintTeam$Parser" (119 : Nat)) ∈ lw_tbl := lw_at lw_m5 22 rfl
theorem q1131 : (Jvm.Cond.methodLink "HintTeam$Parser" (119 : Nat) ({ cls := "java/util/List", name := "size", desc := "()I" } : Jvm.MethodName)) ∈ lw_all := lw_g (lw_at lw_m5 23 rfl) rfl
theorem q1146 : (Jvm.Cond.classLink "HintTeam$Parser" (124 : Nat) "HintTeam$Card") ∈ lw_all := lw_g (lw_at lw_m5 38 rfl) rfl
theorem q1148 : (Jvm.Cond.methodLinkNest "HintTeam$Parser" (126 : Nat) ({ cls := "HintTeam$Card", name := "<init>", desc := "(III)V" } : Jvm.MethodName) "HintTeam") ∈ lw_tbl := lw_at lw_m5 40 rfl
theorem q1165 : (Jvm.Cond.interfaceEntry "HintTeam$Parser" (129 : Nat)) ∈ lw_tbl := lw_at lw_m5 57 rfl
theorem q1166 : (Jvm.Cond.methodLink "HintTeam$Parser" (129 : Nat) ({ cls := "java/util/List", name := "add", desc := "(Ljava/lang/Object;)Z" } : Jvm.MethodName)) ∈ lw_all := lw_g (lw_at lw_m5 58 rfl) rfl
theorem q1202 : (Jvm.Cond.selects "HintTeam$Parser" ({ cls := "java/lang/Object", name := "getClass", desc := "()Ljava/lang/Class;" } : Jvm.MethodName) ({ cls := "java/lang/Object", name := "getClass", desc := "()Ljava/lang/Class;" } : Jvm.MethodName)) ∈ lw_all := lw_g (lw_at lw_m5 94 rfl) rfl
theorem q1264 : (Jvm.Cond.methodLink "HintTeam$Parser" (177 : Nat) ({ cls := "HintTeam$Parser", name := "tokens", desc := "()V" } : Jvm.MethodName)) ∈ lw_all := lw_g (lw_at lw_m5 156 rfl) rfl
theorem q1265 : (Jvm.Cond.privateMethod ({ cls := "HintTeam$Parser", name := "tokens", desc := "()V" } : Jvm.MethodName)) ∈ lw_tbl := lw_at lw_m5 157 rfl
theorem q1266 : (Jvm.Cond.instanceMethod ({ cls := "HintTeam$Parser", name := "tokens", desc := "()V" } : Jvm.MethodName)) ∈ lw_all := lw_g (lw_at lw_m5 158 rfl) rfl
theorem q1267 : (Jvm.Cond.code ({ cls := "HintTeam$Parser", name := "tokens", desc := "()V" } : Jvm.MethodName) prog_11_method_11_code (1 : Nat) (Option.none : Option Jvm.ClassFile.FieldType)) ∈ lw_all := lw_g (lw_at lw_m5 159 rfl) rfl
theorem q1268 : (Jvm.Cond.methodLink "HintTeam$Parser" (181 : Nat) ({ cls := "HintTeam$Parser", name := "times", desc := "(I)V" } : Jvm.MethodName)) ∈ lw_all := lw_g (lw_at lw_m5 160 rfl) rfl
theorem q1269 : (Jvm.Cond.privateMethod ({ cls := "HintTeam$Parser", name := "times", desc := "(I)V" } : Jvm.MethodName)) ∈ lw_tbl := lw_at lw_m5 161 rfl
theorem q1270 : (Jvm.Cond.instanceMethod ({ cls := "HintTeam$Parser", name := "times", desc := "(I)V" } : Jvm.MethodName)) ∈ lw_all := lw_g (lw_at lw_m5 162 rfl) rfl
theorem q1271 : (Jvm.Cond.code ({ cls := "HintTeam$Parser", name := "times", desc := "(I)V" } : Jvm.MethodName) prog_11_method_12_code (3 : Nat) (Option.none : Option Jvm.ClassFile.FieldType)) ∈ lw_all := lw_g (lw_at lw_m5 163 rfl) rfl
theorem q1272 : (Jvm.Cond.methodLink "HintTeam$Parser" (140 : Nat) ({ cls := "HintTeam$Rules", name := "firstValue", desc := "(I)I" } : Jvm.MethodName)) ∈ lw_all := lw_g (lw_at lw_m5 164 rfl) rfl
theorem q1276 : (Jvm.Cond.methodLink "HintTeam$Parser" (144 : Nat) ({ cls := "HintTeam$Rules", name := "lastValue", desc := "(I)I" } : Jvm.MethodName)) ∈ lw_all := lw_g (lw_at lw_m5 168 rfl) rfl
theorem q1280 : (Jvm.Cond.constant "HintTeam$Parser" (184 : Nat) (999999 : Int32)) ∈ lw_all := lw_g (lw_at lw_m5 172 rfl) rfl
theorem q1281 : (Jvm.Cond.methodLink "HintTeam$Parser" (209 : Nat) ({ cls := "HintTeam$Parser", name := "goesOn", desc := "()Z" } : Jvm.MethodName)) ∈ lw_all := lw_g (lw_at lw_m5 173 rfl) rfl
theorem q1282 : (Jvm.Cond.privateMethod ({ cls := "HintTeam$Parser", name := "goesOn", desc := "()Z" } : Jvm.MethodName)) ∈ lw_tbl := lw_at lw_m5 174 rfl
theorem q1283 : (Jvm.Cond.instanceMethod ({ cls := "HintTeam$Parser", name := "goesOn", desc := "()Z" } : Jvm.MethodName)) ∈ lw_all := lw_g (lw_at lw_m5 175 rfl) rfl
theorem q1284 : (Jvm.Cond.code ({ cls := "HintTeam$Parser", name := "goesOn", desc := "()Z" } : Jvm.MethodName) prog_11_method_14_code (2 : Nat) (Option.some Jvm.ClassFile.FieldType.boolean)) ∈ lw_all := lw_g (lw_at lw_m5 176 rfl) rfl
theorem q1285 : (Jvm.Cond.methodLink "HintTeam$Parser" (213 : Nat) ({ cls := "HintTeam$Parser", name := "shuffles", desc := "()V" } : Jvm.MethodName)) ∈ lw_all := lw_g (lw_at lw_m5 177 rfl) rfl
theorem q1286 : (Jvm.Cond.privateMethod ({ cls := "HintTeam$Parser", name := "shuffles", desc := "()V" } : Jvm.MethodName)) ∈ lw_tbl := lw_at lw_m5 178 rfl
theorem q1287 : (Jvm.Cond.instanceMethod ({ cls := "HintTeam$Parser", name := "shuffles", desc := "()V" } : Jvm.MethodName)) ∈ lw_all := lw_g (lw_at lw_m5 179 rfl) rfl
theorem q1288 : (Jvm.Cond.code ({ cls := "HintTeam$Parser", name := "shuffles", desc := "()V" } : Jvm.MethodName) prog_11_method_16_code (5 : Nat) (Option.none : Option Jvm.ClassFile.FieldType)) ∈ lw_all := lw_g (lw_at lw_m5 180 rfl) rfl
theorem q1289 : (Jvm.Cond.methodLink "HintTeam$Parser" (192 : Nat) ({ cls := "HintTeam$Parser", name := "drawnOf", desc := "(I)I" } : Jvm.MethodName)) ∈ lw_all := lw_g (lw_at lw_m5 181 rfl) rfl
theorem q1290 : (Jvm.Cond.privateMethod ({ cls := "HintTeam$Parser", name := "drawnOf", desc := "(I)I" } : Jvm.MethodName)) ∈ lw_tbl := lw_at lw_m5 182 rfl
theorem q1291 : (Jvm.Cond.instanceMethod ({ cls := "HintTeam$Parser", name := "drawnOf", desc := "(I)I" } : Jvm.MethodName)) ∈ lw_all := lw_g (lw_at lw_m5 183 rfl) rfl
theorem q1292 : (Jvm.Cond.code ({ cls := "HintTeam$Parser", name := "drawnOf", desc := "(I)I" } : Jvm.MethodName) prog_11_method_15_code (2 : Nat) (Option.some Jvm.ClassFile.FieldType.int)) ∈ lw_all := lw_g (lw_at lw_m5 184 rfl) rfl
theorem q1293 : (Jvm.Cond.constantLong "HintTeam$Parser" (185 : Nat) (1103515245 : Int64)) ∈ lw_all := lw_g (lw_at lw_m5 185 rfl) rfl
theorem q1294 : (Jvm.Cond.constantLong "HintTeam$Parser" (187 : Nat) (12345 : Int64)) ∈ lw_all := lw_g (lw_at lw_m5 186 rfl) rfl
theorem q1295 : (Jvm.Cond.constantLong "HintTeam$Parser" (189 : Nat) (2147483648 : Int64)) ∈ lw_all := lw_g (lw_at lw_m5 187 rfl) rfl
theorem q1296 : (Jvm.Cond.constant "HintTeam$Parser" (191 : Nat) (65536 : Int32)) ∈ lw_all := lw_g (lw_at lw_m5 188 rfl) rfl
theorem q1297 : (Jvm.Cond.interfaceEntry "HintTeam$Parser" (195 : Nat)) ∈ lw_tbl := lw_at lw_m5 189 rfl
theorem q1298 : (Jvm.Cond.methodLink "HintTeam$Parser" (195 : Nat) ({ cls := "java/util/List", name := "get", desc := "(I)Ljava/lang/Object;" } : Jvm.MethodName)) ∈ lw_all := lw_g (lw_at lw_m5 190 rfl) rfl
theorem q1357 : (Jvm.Cond.interfaceEntry "HintTeam$Parser" (199 : Nat)) ∈ lw_tbl := lw_at lw_m6 9 rfl
theorem q1358 : (Jvm.Cond.methodLink "HintTeam$Parser" (199 : Nat) ({ cls := "java/util/List", name := "set", desc := "(ILjava/lang/Object;)Ljava/lang/Object;" } : Jvm.MethodName)) ∈ lw_all := lw_g (lw_at lw_m6 10 rfl) rfl
theorem q1371 : (Jvm.Cond.methodLink "HintTeam$Parser" (203 : Nat) ({ cls := "HintTeam$Card", name := "color", desc := "()I" } : Jvm.MethodName)) ∈ lw_all := lw_g (lw_at lw_m6 23 rfl) rfl
theorem q1375 : (Jvm.Cond.methodLink "HintTeam$Parser" (205 : Nat) ({ cls := "HintTeam$Card", name := "rank", desc := "()I" } : Jvm.MethodName)) ∈ lw_all := lw_g (lw_at lw_m6 27 rfl) rfl
theorem q1379 : (Jvm.Cond.methodLink "HintTeam$Parser" (216 : Nat) ({ cls := "HintTeam$Rules", name := "counts", desc := "()V" } : Jvm.MethodName)) ∈ lw_all := lw_g (lw_at lw_m6 31 rfl) rfl
theorem q2023 : (Jvm.Cond.classLink "HintTeam$Parser" (219 : Nat) "HintTeam$Table") ∈ lw_all := lw_g (lw_at lw_m8 195 rfl) rfl
theorem q2024 : (Jvm.Cond.methodLink "HintTeam$Parser" (221 : Nat) ({ cls := "HintTeam$Table", name := "<init>", desc := "(LHintTeam$Rules;)V" } : Jvm.MethodName)) ∈ lw_all := lw_g (lw_at lw_m8 196 rfl) rfl
theorem q2025 : (Jvm.Cond.methodLink "HintTeam$Parser" (224 : Nat) ({ cls := "HintTeam$Table", name := "begins", desc := "()V" } : Jvm.MethodName)) ∈ lw_all := lw_g (lw_at lw_m8 197 rfl) rfl
theorem q3638 : (Jvm.Cond.castable "HintTeam$Parser" "java/lang/Object") ∈ lw_tbl := lw_at lw_m15 130 rfl
theorem in_X8 : ∀ w ∈ wsX80, w ∈ lw_all := lw_in wsX80 [923, 925, 927, 929, 931, 933] (by decide +kernel) (by decide +kernel)
/-! HintTeam$Fault -/
def RX9 : String := "HintTeam$Fault"
def TX9 : u_T := fun k => match k with
  | 0 => ("java/lang/Throwable", "cause", "Ljava/lang/Throwable;", false)
  | 1 => ("java/lang/Throwable", "stackTrace", "[Ljava/lang/StackTraceElement;", false)
  | 2 => ("java/lang/Throwable", "suppressedExceptions", "Ljava/util/List;", false)
  | 3 => ("java/lang/Throwable", "detailMessage", "Ljava/lang/String;", false)
  | 4 => ("java/lang/Throwable", "backtrace", "Ljava/lang/Object;", false)
  | 5 => ("java/lang/Throwable", "depth", "I", false)
  | 6 => ("HintTeam$Fault", "kind", "I", true)
  | _ => ("HintTeam$Fault", "position", "I", true)
def tyX9 : Nat → FieldType := fun k => match k with
  | 0 => .object "java/lang/Throwable"
  | 1 => .array (.object "java/lang/StackTraceElement")
  | 2 => .object "java/util/List"
  | 3 => .object "java/lang/String"
  | 4 => .object "java/lang/Object"
  | 5 => .int
  | 6 => .int
  | _ => .int
abbrev wsX90 : List Cond := u_ws RX9 TX9 8
theorem nmX9 : ∀ a, a < 8 → ∀ b, b < 8 → a ≠ b → (TX9 a).2.1 ≠ (TX9 b).2.1 := by decide +kernel
theorem tyX9_ok : ∀ k, k < 8 → parseFieldDescriptor (TX9 k).2.2.1 = some (tyX9 k) := by decide +kernel
abbrev cX9_init : ByteArray := prog_6_method_1_code
def yX9_init : MethodName := ⟨RX9, "<init>", "(II)V"⟩
theorem q182 : (Jvm.Cond.initialized "HintTeam$Fault") ∈ lw_all := lw_g (lw_at lw_m1 34 rfl) rfl
theorem q392 : (Jvm.Cond.selects "HintTeam$Fault" ({ cls := "java/lang/Throwable", name := "fillInStackTrace", desc := "()Ljava/lang/Throwable;" } : Jvm.MethodName) ({ cls := "java/lang/Throwable", name := "fillInStackTrace", desc := "()Ljava/lang/Throwable;" } : Jvm.MethodName)) ∈ lw_all := lw_g (lw_at lw_m2 4 rfl) rfl
theorem q962 : (Jvm.Cond.instantiable "HintTeam$Fault" (8 : Nat)) ∈ lw_all := lw_g (lw_at lw_m4 94 rfl) rfl
theorem q963 : (Jvm.Cond.castable "HintTeam$Fault" "HintTeam$Fault") ∈ lw_tbl := lw_at lw_m4 95 rfl
theorem q964 : (Jvm.Cond.selects "HintTeam$Fault" ({ cls := "java/lang/Throwable", name := "fillInStackTrace", desc := "(I)Ljava/lang/Throwable;" } : Jvm.MethodName) ({ cls := "java/lang/Throwable", name := "fillInStackTrace", desc := "(I)Ljava/lang/Throwable;" } : Jvm.MethodName)) ∈ lw_all := lw_g (lw_at lw_m4 96 rfl) rfl
theorem q965 : (Jvm.Cond.lays "HintTeam$Fault" "java/lang/Throwable" "cause" "Ljava/lang/Throwable;") ∈ lw_all := lw_g (lw_at lw_m4 97 rfl) rfl
theorem q966 : (Jvm.Cond.lays "HintTeam$Fault" "java/lang/Throwable" "stackTrace" "[Ljava/lang/StackTraceElement;") ∈ lw_all := lw_g (lw_at lw_m4 98 rfl) rfl
theorem q967 : (Jvm.Cond.lays "HintTeam$Fault" "java/lang/Throwable" "suppressedExceptions" "Ljava/util/List;") ∈ lw_all := lw_g (lw_at lw_m4 99 rfl) rfl
theorem q968 : (Jvm.Cond.lays "HintTeam$Fault" "java/lang/Throwable" "detailMessage" "Ljava/lang/String;") ∈ lw_all := lw_g (lw_at lw_m4 100 rfl) rfl
theorem q969 : (Jvm.Cond.lays "HintTeam$Fault" "java/lang/Throwable" "backtrace" "Ljava/lang/Object;") ∈ lw_all := lw_g (lw_at lw_m4 101 rfl) rfl
theorem q971 : (Jvm.Cond.instanceMethod ({ cls := "HintTeam$Fault", name := "<init>", desc := "(II)V" } : Jvm.MethodName)) ∈ lw_all := lw_g (lw_at lw_m4 103 rfl) rfl
theorem q972 : (Jvm.Cond.code ({ cls := "HintTeam$Fault", name := "<init>", desc := "(II)V" } : Jvm.MethodName) prog_6_method_1_code (3 : Nat) (Option.none : Option Jvm.ClassFile.FieldType)) ∈ lw_all := lw_g (lw_at lw_m4 104 rfl) rfl
theorem q973 : (Jvm.Cond.methodLink "HintTeam$Fault" (1 : Nat) ({ cls := "java/lang/Exception", name := "<init>", desc := "(Ljava/lang/String;Ljava/lang/Throwable;ZZ)V" } : Jvm.MethodName)) ∈ lw_all := lw_g (lw_at lw_m4 105 rfl) rfl
theorem q979 : (Jvm.Cond.fieldLink "HintTeam$Fault" (7 : Nat) "HintTeam$Fault" "kind" "I") ∈ lw_all := lw_g (lw_at lw_m4 111 rfl) rfl
theorem q981 : (Jvm.Cond.fieldLink "HintTeam$Fault" (13 : Nat) "HintTeam$Fault" "position" "I") ∈ lw_all := lw_g (lw_at lw_m4 113 rfl) rfl
theorem q983 : (Jvm.Cond.laysFinal "HintTeam$Fault" "HintTeam$Fault" "kind" "I") ∈ lw_all := lw_g (lw_at lw_m4 115 rfl) rfl
theorem q984 : (Jvm.Cond.soleField "HintTeam$Fault" "kind") ∈ lw_all := lw_g (lw_at lw_m4 116 rfl) rfl
theorem q985 : (Jvm.Cond.laysFinal "HintTeam$Fault" "HintTeam$Fault" "position" "I") ∈ lw_all := lw_g (lw_at lw_m4 117 rfl) rfl
theorem q986 : (Jvm.Cond.soleField "HintTeam$Fault" "position") ∈ lw_all := lw_g (lw_at lw_m4 118 rfl) rfl
theorem q987 : (Jvm.Cond.lays "HintTeam$Fault" "java/lang/Throwable" "depth" "I") ∈ lw_all := lw_g (lw_at lw_m4 119 rfl) rfl
theorem q988 : (Jvm.Cond.superclass "HintTeam$Fault" "java/lang/Exception") ∈ lw_all := lw_g (lw_at lw_m4 120 rfl) rfl
theorem q1198 : (Jvm.Cond.selects "HintTeam$Fault" ({ cls := "java/lang/Object", name := "getClass", desc := "()Ljava/lang/Class;" } : Jvm.MethodName) ({ cls := "java/lang/Object", name := "getClass", desc := "()Ljava/lang/Class;" } : Jvm.MethodName)) ∈ lw_all := lw_g (lw_at lw_m5 90 rfl) rfl
theorem q1646 : (Jvm.Cond.selects "HintTeam$Fault" ({ cls := "java/lang/Throwable", name := "toString", desc := "()Ljava/lang/String;" } : Jvm.MethodName) ({ cls := "java/lang/Throwable", name := "toString", desc := "()Ljava/lang/String;" } : Jvm.MethodName)) ∈ lw_all := lw_g (lw_at lw_m7 58 rfl) rfl
theorem q1657 : (Jvm.Cond.selects "HintTeam$Fault" ({ cls := "java/lang/Throwable", name := "getLocalizedMessage", desc := "()Ljava/lang/String;" } : Jvm.MethodName) ({ cls := "java/lang/Throwable", name := "getLocalizedMessage", desc := "()Ljava/lang/String;" } : Jvm.MethodName)) ∈ lw_all := lw_g (lw_at lw_m7 69 rfl) rfl
theorem q1667 : (Jvm.Cond.selects "HintTeam$Fault" ({ cls := "java/lang/Throwable", name := "getMessage", desc := "()Ljava/lang/String;" } : Jvm.MethodName) ({ cls := "java/lang/Throwable", name := "getMessage", desc := "()Ljava/lang/String;" } : Jvm.MethodName)) ∈ lw_all := lw_g (lw_at lw_m7 79 rfl) rfl
theorem q3639 : (Jvm.Cond.castable "HintTeam$Fault" "java/lang/Object") ∈ lw_tbl := lw_at lw_m15 131 rfl
theorem in_X9 : ∀ w ∈ wsX90, w ∈ lw_all := lw_in wsX90 [965, 966, 967, 968, 969, 987, 983, 985] (by decide +kernel) (by decide +kernel)
/-! java/lang/Record -/
def RJ24 : String := "java/lang/Record"
abbrev cJ24_init : ByteArray := prog_32_method_1_code
def yJ24_init : MethodName := ⟨RJ24, "<init>", "()V"⟩
theorem q183 : (Jvm.Cond.initialized "java/lang/Record") ∈ lw_all := lw_g (lw_at lw_m1 35 rfl) rfl
theorem q1152 : (Jvm.Cond.instanceMethod ({ cls := "java/lang/Record", name := "<init>", desc := "()V" } : Jvm.MethodName)) ∈ lw_all := lw_g (lw_at lw_m5 44 rfl) rfl
theorem q1153 : (Jvm.Cond.code ({ cls := "java/lang/Record", name := "<init>", desc := "()V" } : Jvm.MethodName) prog_32_method_1_code (1 : Nat) (Option.none : Option Jvm.ClassFile.FieldType)) ∈ lw_all := lw_g (lw_at lw_m5 45 rfl) rfl
theorem q1154 : (Jvm.Cond.methodLink "java/lang/Record" (1 : Nat) ({ cls := "java/lang/Object", name := "<init>", desc := "()V" } : Jvm.MethodName)) ∈ lw_all := lw_g (lw_at lw_m5 46 rfl) rfl
/-! HintTeam$Card -/
def RX10 : String := "HintTeam$Card"
def TX10 : u_T := fun k => match k with
  | 0 => ("HintTeam$Card", "id", "I", true)
  | 1 => ("HintTeam$Card", "color", "I", true)
  | _ => ("HintTeam$Card", "rank", "I", true)
def tyX10 : Nat → FieldType := fun k => match k with
  | 0 => .int
  | 1 => .int
  | _ => .int
abbrev wsX100 : List Cond := u_ws RX10 TX10 3
theorem nmX10 : ∀ a, a < 3 → ∀ b, b < 3 → a ≠ b → (TX10 a).2.1 ≠ (TX10 b).2.1 := by decide +kernel
theorem tyX10_ok : ∀ k, k < 3 → parseFieldDescriptor (TX10 k).2.2.1 = some (tyX10 k) := by decide +kernel
abbrev cX10_init : ByteArray := prog_4_method_1_code
def yX10_init : MethodName := ⟨RX10, "<init>", "(III)V"⟩
abbrev cX10_color : ByteArray := prog_4_method_8_code
def yX10_color : MethodName := ⟨RX10, "color", "()I"⟩
abbrev cX10_rank : ByteArray := prog_4_method_9_code
def yX10_rank : MethodName := ⟨RX10, "rank", "()I"⟩
abbrev cX10_told : ByteArray := prog_4_method_2_code
def yX10_told : MethodName := ⟨RX10, "told", "()I"⟩
abbrev cX10_id : ByteArray := prog_4_method_7_code
def yX10_id : MethodName := ⟨RX10, "id", "()I"⟩
abbrev cX10_written : ByteArray := prog_4_method_3_code
def yX10_written : MethodName := ⟨RX10, "written", "()Ljava/lang/String;"⟩
theorem q184 : (Jvm.Cond.initialized "HintTeam$Card") ∈ lw_all := lw_g (lw_at lw_m1 36 rfl) rfl
theorem q1147 : (Jvm.Cond.instantiable "HintTeam$Card" (3 : Nat)) ∈ lw_all := lw_g (lw_at lw_m5 39 rfl) rfl
theorem q1149 : (Jvm.Cond.instanceMethod ({ cls := "HintTeam$Card", name := "<init>", desc := "(III)V" } : Jvm.MethodName)) ∈ lw_all := lw_g (lw_at lw_m5 41 rfl) rfl
theorem q1150 : (Jvm.Cond.code ({ cls := "HintTeam$Card", name := "<init>", desc := "(III)V" } : Jvm.MethodName) prog_4_method_1_code (4 : Nat) (Option.none : Option Jvm.ClassFile.FieldType)) ∈ lw_all := lw_g (lw_at lw_m5 42 rfl) rfl
theorem q1151 : (Jvm.Cond.methodLink "HintTeam$Card" (1 : Nat) ({ cls := "java/lang/Record", name := "<init>", desc := "()V" } : Jvm.MethodName)) ∈ lw_all := lw_g (lw_at lw_m5 43 rfl) rfl
theorem q1155 : (Jvm.Cond.fieldLink "HintTeam$Card" (7 : Nat) "HintTeam$Card" "id" "I") ∈ lw_all := lw_g (lw_at lw_m5 47 rfl) rfl
theorem q1156 : (Jvm.Cond.fieldLink "HintTeam$Card" (13 : Nat) "HintTeam$Card" "color" "I") ∈ lw_all := lw_g (lw_at lw_m5 48 rfl) rfl
theorem q1157 : (Jvm.Cond.fieldLink "HintTeam$Card" (16 : Nat) "HintTeam$Card" "rank" "I") ∈ lw_all := lw_g (lw_at lw_m5 49 rfl) rfl
theorem q1158 : (Jvm.Cond.laysFinal "HintTeam$Card" "HintTeam$Card" "id" "I") ∈ lw_all := lw_g (lw_at lw_m5 50 rfl) rfl
theorem q1159 : (Jvm.Cond.soleField "HintTeam$Card" "id") ∈ lw_all := lw_g (lw_at lw_m5 51 rfl) rfl
theorem q1160 : (Jvm.Cond.laysFinal "HintTeam$Card" "HintTeam$Card" "color" "I") ∈ lw_all := lw_g (lw_at lw_m5 52 rfl) rfl
theorem q1161 : (Jvm.Cond.soleField "HintTeam$Card" "color") ∈ lw_all := lw_g (lw_at lw_m5 53 rfl) rfl
theorem q1162 : (Jvm.Cond.laysFinal "HintTeam$Card" "HintTeam$Card" "rank" "I") ∈ lw_all := lw_g (lw_at lw_m5 54 rfl) rfl
theorem q1163 : (Jvm.Cond.soleField "HintTeam$Card" "rank") ∈ lw_all := lw_g (lw_at lw_m5 55 rfl) rfl
theorem q1164 : (Jvm.Cond.superclass "HintTeam$Card" "java/lang/Record") ∈ lw_all := lw_g (lw_at lw_m5 56 rfl) rfl
theorem q1196 : (Jvm.Cond.selects "HintTeam$Card" ({ cls := "java/lang/Object", name := "getClass", desc := "()Ljava/lang/Class;" } : Jvm.MethodName) ({ cls := "java/lang/Object", name := "getClass", desc := "()Ljava/lang/Class;" } : Jvm.MethodName)) ∈ lw_all := lw_g (lw_at lw_m5 88 rfl) rfl
theorem q1372 : (Jvm.Cond.instanceMethod ({ cls := "HintTeam$Card", name := "color", desc := "()I" } : Jvm.MethodName)) ∈ lw_all := lw_g (lw_at lw_m6 24 rfl) rfl
theorem q1373 : (Jvm.Cond.selects "HintTeam$Card" ({ cls := "HintTeam$Card", name := "color", desc := "()I" } : Jvm.MethodName) ({ cls := "HintTeam$Card", name := "color", desc := "()I" } : Jvm.MethodName)) ∈ lw_all := lw_g (lw_at lw_m6 25 rfl) rfl
theorem q1374 : (Jvm.Cond.code ({ cls := "HintTeam$Card", name := "color", desc := "()I" } : Jvm.MethodName) prog_4_method_8_code (1 : Nat) (Option.some Jvm.ClassFile.FieldType.int)) ∈ lw_all := lw_g (lw_at lw_m6 26 rfl) rfl
theorem q1376 : (Jvm.Cond.instanceMethod ({ cls := "HintTeam$Card", name := "rank", desc := "()I" } : Jvm.MethodName)) ∈ lw_all := lw_g (lw_at lw_m6 28 rfl) rfl
theorem q1377 : (Jvm.Cond.selects "HintTeam$Card" ({ cls := "HintTeam$Card", name := "rank", desc := "()I" } : Jvm.MethodName) ({ cls := "HintTeam$Card", name := "rank", desc := "()I" } : Jvm.MethodName)) ∈ lw_all := lw_g (lw_at lw_m6 29 rfl) rfl
theorem q1378 : (Jvm.Cond.code ({ cls := "HintTeam$Card", name := "rank", desc := "()I" } : Jvm.MethodName) prog_4_method_9_code (1 : Nat) (Option.some Jvm.ClassFile.FieldType.int)) ∈ lw_all := lw_g (lw_at lw_m6 30 rfl) rfl
theorem q1704 : (Jvm.Cond.instanceMethod ({ cls := "HintTeam$Card", name := "told", desc := "()I" } : Jvm.MethodName)) ∈ lw_all := lw_g (lw_at lw_m7 116 rfl) rfl
theorem q1705 : (Jvm.Cond.selects "HintTeam$Card" ({ cls := "HintTeam$Card", name := "told", desc := "()I" } : Jvm.MethodName) ({ cls := "HintTeam$Card", name := "told", desc := "()I" } : Jvm.MethodName)) ∈ lw_all := lw_g (lw_at lw_m7 117 rfl) rfl
theorem q1706 : (Jvm.Cond.code ({ cls := "HintTeam$Card", name := "told", desc := "()I" } : Jvm.MethodName) prog_4_method_2_code (1 : Nat) (Option.some Jvm.ClassFile.FieldType.int)) ∈ lw_all := lw_g (lw_at lw_m7 118 rfl) rfl
theorem q2501 : (Jvm.Cond.instanceMethod ({ cls := "HintTeam$Card", name := "id", desc := "()I" } : Jvm.MethodName)) ∈ lw_all := lw_g (lw_at lw_m10 193 rfl) rfl
theorem q2502 : (Jvm.Cond.selects "HintTeam$Card" ({ cls := "HintTeam$Card", name := "id", desc := "()I" } : Jvm.MethodName) ({ cls := "HintTeam$Card", name := "id", desc := "()I" } : Jvm.MethodName)) ∈ lw_all := lw_g (lw_at lw_m10 194 rfl) rfl
theorem q2503 : (Jvm.Cond.code ({ cls := "HintTeam$Card", name := "id", desc := "()I" } : Jvm.MethodName) prog_4_method_7_code (1 : Nat) (Option.some Jvm.ClassFile.FieldType.int)) ∈ lw_all := lw_g (lw_at lw_m10 195 rfl) rfl
theorem q2949 : (Jvm.Cond.instanceMethod ({ cls := "HintTeam$Card", name := "written", desc := "()Ljava/lang/String;" } : Jvm.MethodName)) ∈ lw_all := lw_g (lw_at lw_m12 161 rfl) rfl
theorem q2950 : (Jvm.Cond.selects "HintTeam$Card" ({ cls := "HintTeam$Card", name := "written", desc := "()Ljava/lang/String;" } : Jvm.MethodName) ({ cls := "HintTeam$Card", name := "written", desc := "()Ljava/lang/String;" } : Jvm.MethodName)) ∈ lw_all := lw_g (lw_at lw_m12 162 rfl) rfl
theorem q2951 : (Jvm.Cond.code ({ cls := "HintTeam$Card", name := "written", desc := "()Ljava/lang/String;" } : Jvm.MethodName) prog_4_method_3_code (1 : Nat) (Option.some (Jvm.ClassFile.FieldType.object "java/lang/String"))) ∈ lw_all := lw_g (lw_at lw_m12 163 rfl) rfl
theorem q2952 : (Jvm.Cond.classLink "HintTeam$Card" (19 : Nat) "java/lang/StringBuilder") ∈ lw_all := lw_g (lw_at lw_m12 164 rfl) rfl
theorem q2953 : (Jvm.Cond.methodLink "HintTeam$Card" (21 : Nat) ({ cls := "java/lang/StringBuilder", name := "<init>", desc := "()V" } : Jvm.MethodName)) ∈ lw_all := lw_g (lw_at lw_m12 165 rfl) rfl
theorem q2954 : (Jvm.Cond.stringRef "HintTeam$Card" (22 : Nat) "") ∈ lw_tbl := lw_at lw_m12 166 rfl
theorem q2955 : (Jvm.Cond.methodLink "HintTeam$Card" (24 : Nat) ({ cls := "java/lang/StringBuilder", name := "append", desc := "(Ljava/lang/String;)Ljava/lang/StringBuilder;" } : Jvm.MethodName)) ∈ lw_all := lw_g (lw_at lw_m12 167 rfl) rfl
theorem q2956 : (Jvm.Cond.methodLink "HintTeam$Card" (28 : Nat) ({ cls := "java/lang/StringBuilder", name := "append", desc := "(C)Ljava/lang/StringBuilder;" } : Jvm.MethodName)) ∈ lw_all := lw_g (lw_at lw_m12 168 rfl) rfl
theorem q2957 : (Jvm.Cond.methodLink "HintTeam$Card" (31 : Nat) ({ cls := "java/lang/StringBuilder", name := "append", desc := "(I)Ljava/lang/StringBuilder;" } : Jvm.MethodName)) ∈ lw_all := lw_g (lw_at lw_m12 169 rfl) rfl
theorem q2958 : (Jvm.Cond.methodLink "HintTeam$Card" (34 : Nat) ({ cls := "java/lang/StringBuilder", name := "toString", desc := "()Ljava/lang/String;" } : Jvm.MethodName)) ∈ lw_all := lw_g (lw_at lw_m12 170 rfl) rfl
theorem q3641 : (Jvm.Cond.castable "HintTeam$Card" "java/lang/Object") ∈ lw_tbl := lw_at lw_m15 133 rfl
theorem in_X10 : ∀ w ∈ wsX100, w ∈ lw_all := lw_in wsX100 [1158, 1160, 1162] (by decide +kernel) (by decide +kernel)
/-! java/util/LinkedList$Node -/
def RJ25 : String := "java/util/LinkedList$Node"
def TJ25 : u_T := fun k => match k with
  | 0 => ("java/util/LinkedList$Node", "item", "Ljava/lang/Object;", false)
  | 1 => ("java/util/LinkedList$Node", "next", "Ljava/util/LinkedList$Node;", false)
  | _ => ("java/util/LinkedList$Node", "prev", "Ljava/util/LinkedList$Node;", false)
def tyJ25 : Nat → FieldType := fun k => match k with
  | 0 => .object "java/lang/Object"
  | 1 => .object "java/util/LinkedList$Node"
  | _ => .object "java/util/LinkedList$Node"
abbrev wsJ250 : List Cond := u_ws RJ25 TJ25 3
theorem nmJ25 : ∀ a, a < 3 → ∀ b, b < 3 → a ≠ b → (TJ25 a).2.1 ≠ (TJ25 b).2.1 := by decide +kernel
theorem tyJ25_ok : ∀ k, k < 3 → parseFieldDescriptor (TJ25 k).2.2.1 = some (tyJ25 k) := by decide +kernel
abbrev cJ25_init : ByteArray := prog_62_method_1_code
def yJ25_init : MethodName := ⟨RJ25, "<init>", "(Ljava/util/LinkedList$Node;Ljava/lang/Object;Ljava/util/LinkedList$Node;)V"⟩
theorem q185 : (Jvm.Cond.initialized "java/util/LinkedList$Node") ∈ lw_all := lw_g (lw_at lw_m1 37 rfl) rfl
theorem q1222 : (Jvm.Cond.selects "java/util/LinkedList$Node" ({ cls := "java/lang/Object", name := "getClass", desc := "()Ljava/lang/Class;" } : Jvm.MethodName) ({ cls := "java/lang/Object", name := "getClass", desc := "()Ljava/lang/Class;" } : Jvm.MethodName)) ∈ lw_all := lw_g (lw_at lw_m5 114 rfl) rfl
theorem q1244 : (Jvm.Cond.instantiable "java/util/LinkedList$Node" (3 : Nat)) ∈ lw_all := lw_g (lw_at lw_m5 136 rfl) rfl
theorem q1246 : (Jvm.Cond.instanceMethod ({ cls := "java/util/LinkedList$Node", name := "<init>", desc := "(Ljava/util/LinkedList$Node;Ljava/lang/Object;Ljava/util/LinkedList$Node;)V" } : Jvm.MethodName)) ∈ lw_all := lw_g (lw_at lw_m5 138 rfl) rfl
theorem q1247 : (Jvm.Cond.code ({ cls := "java/util/LinkedList$Node", name := "<init>", desc := "(Ljava/util/LinkedList$Node;Ljava/lang/Object;Ljava/util/LinkedList$Node;)V" } : Jvm.MethodName) prog_62_method_1_code (4 : Nat) (Option.none : Option Jvm.ClassFile.FieldType)) ∈ lw_all := lw_g (lw_at lw_m5 139 rfl) rfl
theorem q1248 : (Jvm.Cond.methodLink "java/util/LinkedList$Node" (1 : Nat) ({ cls := "java/lang/Object", name := "<init>", desc := "()V" } : Jvm.MethodName)) ∈ lw_all := lw_g (lw_at lw_m5 140 rfl) rfl
theorem q1249 : (Jvm.Cond.fieldLink "java/util/LinkedList$Node" (7 : Nat) "java/util/LinkedList$Node" "item" "Ljava/lang/Object;") ∈ lw_all := lw_g (lw_at lw_m5 141 rfl) rfl
theorem q1252 : (Jvm.Cond.fieldLink "java/util/LinkedList$Node" (13 : Nat) "java/util/LinkedList$Node" "next" "Ljava/util/LinkedList$Node;") ∈ lw_all := lw_g (lw_at lw_m5 144 rfl) rfl
theorem q1255 : (Jvm.Cond.fieldLink "java/util/LinkedList$Node" (17 : Nat) "java/util/LinkedList$Node" "prev" "Ljava/util/LinkedList$Node;") ∈ lw_all := lw_g (lw_at lw_m5 147 rfl) rfl
theorem q1257 : (Jvm.Cond.lays "java/util/LinkedList$Node" "java/util/LinkedList$Node" "item" "Ljava/lang/Object;") ∈ lw_all := lw_g (lw_at lw_m5 149 rfl) rfl
theorem q1258 : (Jvm.Cond.soleField "java/util/LinkedList$Node" "item") ∈ lw_all := lw_g (lw_at lw_m5 150 rfl) rfl
theorem q1259 : (Jvm.Cond.lays "java/util/LinkedList$Node" "java/util/LinkedList$Node" "next" "Ljava/util/LinkedList$Node;") ∈ lw_all := lw_g (lw_at lw_m5 151 rfl) rfl
theorem q1260 : (Jvm.Cond.soleField "java/util/LinkedList$Node" "next") ∈ lw_all := lw_g (lw_at lw_m5 152 rfl) rfl
theorem q1261 : (Jvm.Cond.lays "java/util/LinkedList$Node" "java/util/LinkedList$Node" "prev" "Ljava/util/LinkedList$Node;") ∈ lw_all := lw_g (lw_at lw_m5 153 rfl) rfl
theorem q1262 : (Jvm.Cond.soleField "java/util/LinkedList$Node" "prev") ∈ lw_all := lw_g (lw_at lw_m5 154 rfl) rfl
theorem q1263 : (Jvm.Cond.superclass "java/util/LinkedList$Node" "java/lang/Object") ∈ lw_all := lw_g (lw_at lw_m5 155 rfl) rfl
theorem q3642 : (Jvm.Cond.castable "java/util/LinkedList$Node" "java/lang/Object") ∈ lw_tbl := lw_at lw_m15 134 rfl
theorem in_J25 : ∀ w ∈ wsJ250, w ∈ lw_all := lw_in wsJ250 [1257, 1259, 1261] (by decide +kernel) (by decide +kernel)
/-! java/util/Objects -/
def RJ26 : String := "java/util/Objects"
abbrev cJ26_checkIndex : ByteArray := prog_69_method_17_code
def yJ26_checkIndex : MethodName := ⟨RJ26, "checkIndex", "(II)I"⟩
abbrev cJ26_requireNonNull : ByteArray := prog_69_method_10_code
def yJ26_requireNonNull : MethodName := ⟨RJ26, "requireNonNull", "(Ljava/lang/Object;)Ljava/lang/Object;"⟩
theorem q186 : (Jvm.Cond.initialized "java/util/Objects") ∈ lw_all := lw_g (lw_at lw_m1 38 rfl) rfl
theorem q1307 : (Jvm.Cond.static ({ cls := "java/util/Objects", name := "checkIndex", desc := "(II)I" } : Jvm.MethodName)) ∈ lw_all := lw_g (lw_at lw_m5 199 rfl) rfl
theorem q1308 : (Jvm.Cond.code ({ cls := "java/util/Objects", name := "checkIndex", desc := "(II)I" } : Jvm.MethodName) prog_69_method_17_code (2 : Nat) (Option.some Jvm.ClassFile.FieldType.int)) ∈ lw_all := lw_g (lw_at lw_m5 200 rfl) rfl
theorem q1309 : (Jvm.Cond.methodLink "java/util/Objects" (105 : Nat) ({ cls := "jdk/internal/util/Preconditions", name := "checkIndex", desc := "(IILjava/util/function/BiFunction;)I" } : Jvm.MethodName)) ∈ lw_all := lw_g (lw_at lw_m5 201 rfl) rfl
theorem q1744 : (Jvm.Cond.static ({ cls := "java/util/Objects", name := "requireNonNull", desc := "(Ljava/lang/Object;)Ljava/lang/Object;" } : Jvm.MethodName)) ∈ lw_all := lw_g (lw_at lw_m7 156 rfl) rfl
theorem q1745 : (Jvm.Cond.code ({ cls := "java/util/Objects", name := "requireNonNull", desc := "(Ljava/lang/Object;)Ljava/lang/Object;" } : Jvm.MethodName) prog_69_method_10_code (1 : Nat) (Option.some (Jvm.ClassFile.FieldType.object "java/lang/Object"))) ∈ lw_all := lw_g (lw_at lw_m7 157 rfl) rfl
/-! java/lang/IndexOutOfBoundsException -/
def RJ27 : String := "java/lang/IndexOutOfBoundsException"
def TJ27 : u_T := fun k => match k with
  | 0 => ("java/lang/Throwable", "cause", "Ljava/lang/Throwable;", false)
  | 1 => ("java/lang/Throwable", "stackTrace", "[Ljava/lang/StackTraceElement;", false)
  | 2 => ("java/lang/Throwable", "suppressedExceptions", "Ljava/util/List;", false)
  | 3 => ("java/lang/Throwable", "detailMessage", "Ljava/lang/String;", false)
  | 4 => ("java/lang/Throwable", "backtrace", "Ljava/lang/Object;", false)
  | _ => ("java/lang/Throwable", "depth", "I", false)
def tyJ27 : Nat → FieldType := fun k => match k with
  | 0 => .object "java/lang/Throwable"
  | 1 => .array (.object "java/lang/StackTraceElement")
  | 2 => .object "java/util/List"
  | 3 => .object "java/lang/String"
  | 4 => .object "java/lang/Object"
  | _ => .int
abbrev wsJ270 : List Cond := u_ws RJ27 TJ27 6
theorem nmJ27 : ∀ a, a < 6 → ∀ b, b < 6 → a ≠ b → (TJ27 a).2.1 ≠ (TJ27 b).2.1 := by decide +kernel
theorem tyJ27_ok : ∀ k, k < 6 → parseFieldDescriptor (TJ27 k).2.2.1 = some (tyJ27 k) := by decide +kernel
abbrev cJ27_init : ByteArray := prog_25_method_2_code
def yJ27_init : MethodName := ⟨RJ27, "<init>", "(Ljava/lang/String;)V"⟩
abbrev cJ27_init_2 : ByteArray := prog_25_method_1_code
def yJ27_init_2 : MethodName := ⟨RJ27, "<init>", "()V"⟩
theorem q187 : (Jvm.Cond.initialized "java/lang/IndexOutOfBoundsException") ∈ lw_all := lw_g (lw_at lw_m1 39 rfl) rfl
theorem q394 : (Jvm.Cond.selects "java/lang/IndexOutOfBoundsException" ({ cls := "java/lang/Throwable", name := "fillInStackTrace", desc := "()Ljava/lang/Throwable;" } : Jvm.MethodName) ({ cls := "java/lang/Throwable", name := "fillInStackTrace", desc := "()Ljava/lang/Throwable;" } : Jvm.MethodName)) ∈ lw_all := lw_g (lw_at lw_m2 6 rfl) rfl
theorem q1208 : (Jvm.Cond.selects "java/lang/IndexOutOfBoundsException" ({ cls := "java/lang/Object", name := "getClass", desc := "()Ljava/lang/Class;" } : Jvm.MethodName) ({ cls := "java/lang/Object", name := "getClass", desc := "()Ljava/lang/Class;" } : Jvm.MethodName)) ∈ lw_all := lw_g (lw_at lw_m5 100 rfl) rfl
theorem q1328 : (Jvm.Cond.instantiable "java/lang/IndexOutOfBoundsException" (6 : Nat)) ∈ lw_all := lw_g (lw_at lw_m5 220 rfl) rfl
theorem q1329 : (Jvm.Cond.castable "java/lang/IndexOutOfBoundsException" "java/lang/IndexOutOfBoundsException") ∈ lw_tbl := lw_at lw_m5 221 rfl
theorem q1330 : (Jvm.Cond.selects "java/lang/IndexOutOfBoundsException" ({ cls := "java/lang/Throwable", name := "fillInStackTrace", desc := "(I)Ljava/lang/Throwable;" } : Jvm.MethodName) ({ cls := "java/lang/Throwable", name := "fillInStackTrace", desc := "(I)Ljava/lang/Throwable;" } : Jvm.MethodName)) ∈ lw_all := lw_g (lw_at lw_m5 222 rfl) rfl
theorem q1331 : (Jvm.Cond.lays "java/lang/IndexOutOfBoundsException" "java/lang/Throwable" "cause" "Ljava/lang/Throwable;") ∈ lw_all := lw_g (lw_at lw_m5 223 rfl) rfl
theorem q1332 : (Jvm.Cond.lays "java/lang/IndexOutOfBoundsException" "java/lang/Throwable" "stackTrace" "[Ljava/lang/StackTraceElement;") ∈ lw_all := lw_g (lw_at lw_m5 224 rfl) rfl
theorem q1333 : (Jvm.Cond.lays "java/lang/IndexOutOfBoundsException" "java/lang/Throwable" "suppressedExceptions" "Ljava/util/List;") ∈ lw_all := lw_g (lw_at lw_m5 225 rfl) rfl
theorem q1334 : (Jvm.Cond.lays "java/lang/IndexOutOfBoundsException" "java/lang/Throwable" "detailMessage" "Ljava/lang/String;") ∈ lw_all := lw_g (lw_at lw_m5 226 rfl) rfl
theorem q1335 : (Jvm.Cond.lays "java/lang/IndexOutOfBoundsException" "java/lang/Throwable" "backtrace" "Ljava/lang/Object;") ∈ lw_all := lw_g (lw_at lw_m5 227 rfl) rfl
theorem q1348 : (Jvm.Cond.instanceMethod ({ cls := "java/lang/IndexOutOfBoundsException", name := "<init>", desc := "(Ljava/lang/String;)V" } : Jvm.MethodName)) ∈ lw_all := lw_g (lw_at lw_m6 0 rfl) rfl
theorem q1349 : (Jvm.Cond.code ({ cls := "java/lang/IndexOutOfBoundsException", name := "<init>", desc := "(Ljava/lang/String;)V" } : Jvm.MethodName) prog_25_method_2_code (2 : Nat) (Option.none : Option Jvm.ClassFile.FieldType)) ∈ lw_all := lw_g (lw_at lw_m6 1 rfl) rfl
theorem q1350 : (Jvm.Cond.methodLink "java/lang/IndexOutOfBoundsException" (7 : Nat) ({ cls := "java/lang/RuntimeException", name := "<init>", desc := "(Ljava/lang/String;)V" } : Jvm.MethodName)) ∈ lw_all := lw_g (lw_at lw_m6 2 rfl) rfl
theorem q1351 : (Jvm.Cond.lays "java/lang/IndexOutOfBoundsException" "java/lang/Throwable" "depth" "I") ∈ lw_all := lw_g (lw_at lw_m6 3 rfl) rfl
theorem q1352 : (Jvm.Cond.superclass "java/lang/IndexOutOfBoundsException" "java/lang/RuntimeException") ∈ lw_all := lw_g (lw_at lw_m6 4 rfl) rfl
theorem q1649 : (Jvm.Cond.selects "java/lang/IndexOutOfBoundsException" ({ cls := "java/lang/Throwable", name := "toString", desc := "()Ljava/lang/String;" } : Jvm.MethodName) ({ cls := "java/lang/Throwable", name := "toString", desc := "()Ljava/lang/String;" } : Jvm.MethodName)) ∈ lw_all := lw_g (lw_at lw_m7 61 rfl) rfl
theorem q1660 : (Jvm.Cond.selects "java/lang/IndexOutOfBoundsException" ({ cls := "java/lang/Throwable", name := "getLocalizedMessage", desc := "()Ljava/lang/String;" } : Jvm.MethodName) ({ cls := "java/lang/Throwable", name := "getLocalizedMessage", desc := "()Ljava/lang/String;" } : Jvm.MethodName)) ∈ lw_all := lw_g (lw_at lw_m7 72 rfl) rfl
theorem q1670 : (Jvm.Cond.selects "java/lang/IndexOutOfBoundsException" ({ cls := "java/lang/Throwable", name := "getMessage", desc := "()Ljava/lang/String;" } : Jvm.MethodName) ({ cls := "java/lang/Throwable", name := "getMessage", desc := "()Ljava/lang/String;" } : Jvm.MethodName)) ∈ lw_all := lw_g (lw_at lw_m7 82 rfl) rfl
theorem q2624 : (Jvm.Cond.declares ({ cls := "java/lang/IndexOutOfBoundsException", name := "<init>", desc := "()V" } : Jvm.MethodName)) ∈ lw_tbl := lw_at lw_m11 76 rfl
theorem q2625 : (Jvm.Cond.declares ({ cls := "java/lang/IndexOutOfBoundsException", name := "<init>", desc := "(Ljava/lang/String;)V" } : Jvm.MethodName)) ∈ lw_tbl := lw_at lw_m11 77 rfl
theorem q2636 : (Jvm.Cond.instanceMethod ({ cls := "java/lang/IndexOutOfBoundsException", name := "<init>", desc := "()V" } : Jvm.MethodName)) ∈ lw_all := lw_g (lw_at lw_m11 88 rfl) rfl
theorem q2637 : (Jvm.Cond.code ({ cls := "java/lang/IndexOutOfBoundsException", name := "<init>", desc := "()V" } : Jvm.MethodName) prog_25_method_1_code (1 : Nat) (Option.none : Option Jvm.ClassFile.FieldType)) ∈ lw_all := lw_g (lw_at lw_m11 89 rfl) rfl
theorem q2638 : (Jvm.Cond.methodLink "java/lang/IndexOutOfBoundsException" (1 : Nat) ({ cls := "java/lang/RuntimeException", name := "<init>", desc := "()V" } : Jvm.MethodName)) ∈ lw_all := lw_g (lw_at lw_m11 90 rfl) rfl
theorem q3643 : (Jvm.Cond.castable "java/lang/IndexOutOfBoundsException" "java/lang/Object") ∈ lw_tbl := lw_at lw_m15 135 rfl
theorem in_J27 : ∀ w ∈ wsJ270, w ∈ lw_all := lw_in wsJ270 [1331, 1332, 1333, 1334, 1335, 1351] (by decide +kernel) (by decide +kernel)
/-! java/util/ArrayList$Itr -/
def RJ28 : String := "java/util/ArrayList$Itr"
def TJ28 : u_T := fun k => match k with
  | 0 => ("java/util/ArrayList$Itr", "cursor", "I", false)
  | 1 => ("java/util/ArrayList$Itr", "lastRet", "I", false)
  | 2 => ("java/util/ArrayList$Itr", "expectedModCount", "I", false)
  | _ => ("java/util/ArrayList$Itr", "this$0", "Ljava/util/ArrayList;", true)
def tyJ28 : Nat → FieldType := fun k => match k with
  | 0 => .int
  | 1 => .int
  | 2 => .int
  | _ => .object "java/util/ArrayList"
abbrev wsJ280 : List Cond := u_ws RJ28 TJ28 4
theorem nmJ28 : ∀ a, a < 4 → ∀ b, b < 4 → a ≠ b → (TJ28 a).2.1 ≠ (TJ28 b).2.1 := by decide +kernel
theorem tyJ28_ok : ∀ k, k < 4 → parseFieldDescriptor (TJ28 k).2.2.1 = some (tyJ28 k) := by decide +kernel
abbrev cJ28_init : ByteArray := prog_52_method_1_code
def yJ28_init : MethodName := ⟨RJ28, "<init>", "(Ljava/util/ArrayList;)V"⟩
abbrev cJ28_hasNext : ByteArray := prog_52_method_2_code
def yJ28_hasNext : MethodName := ⟨RJ28, "hasNext", "()Z"⟩
abbrev cJ28_next : ByteArray := prog_52_method_3_code
def yJ28_next : MethodName := ⟨RJ28, "next", "()Ljava/lang/Object;"⟩
abbrev cJ28_checkForComodification : ByteArray := prog_52_method_6_code
def yJ28_checkForComodification : MethodName := ⟨RJ28, "checkForComodification", "()V"⟩
theorem q188 : (Jvm.Cond.initialized "java/util/ArrayList$Itr") ∈ lw_all := lw_g (lw_at lw_m1 40 rfl) rfl
theorem q236 : (Jvm.Cond.fieldLink "java/util/ArrayList$Itr" (37 : Nat) "java/util/ArrayList" "elementData" "[Ljava/lang/Object;") ∈ lw_all := lw_g (lw_at lw_m1 88 rfl) rfl
theorem q237 : (Jvm.Cond.fieldLinkNest "java/util/ArrayList$Itr" (28 : Nat) "java/util/ArrayList" "size" "I" "java/util/ArrayList") ∈ lw_tbl := lw_at lw_m1 89 rfl
theorem q242 : (Jvm.Cond.fieldLink "java/util/ArrayList$Itr" (17 : Nat) "java/util/ArrayList" "modCount" "I") ∈ lw_all := lw_g (lw_at lw_m1 94 rfl) rfl
theorem q1217 : (Jvm.Cond.selects "java/util/ArrayList$Itr" ({ cls := "java/lang/Object", name := "getClass", desc := "()Ljava/lang/Class;" } : Jvm.MethodName) ({ cls := "java/lang/Object", name := "getClass", desc := "()Ljava/lang/Class;" } : Jvm.MethodName)) ∈ lw_all := lw_g (lw_at lw_m5 109 rfl) rfl
theorem q1393 : (Jvm.Cond.instantiable "java/util/ArrayList$Itr" (4 : Nat)) ∈ lw_all := lw_g (lw_at lw_m6 45 rfl) rfl
theorem q1395 : (Jvm.Cond.instanceMethod ({ cls := "java/util/ArrayList$Itr", name := "<init>", desc := "(Ljava/util/ArrayList;)V" } : Jvm.MethodName)) ∈ lw_all := lw_g (lw_at lw_m6 47 rfl) rfl
theorem q1396 : (Jvm.Cond.code ({ cls := "java/util/ArrayList$Itr", name := "<init>", desc := "(Ljava/util/ArrayList;)V" } : Jvm.MethodName) prog_52_method_1_code (2 : Nat) (Option.none : Option Jvm.ClassFile.FieldType)) ∈ lw_all := lw_g (lw_at lw_m6 48 rfl) rfl
theorem q1397 : (Jvm.Cond.methodLink "java/util/ArrayList$Itr" (7 : Nat) ({ cls := "java/lang/Object", name := "<init>", desc := "()V" } : Jvm.MethodName)) ∈ lw_all := lw_g (lw_at lw_m6 49 rfl) rfl
theorem q1400 : (Jvm.Cond.fieldLink "java/util/ArrayList$Itr" (25 : Nat) "java/util/ArrayList$Itr" "cursor" "I") ∈ lw_all := lw_g (lw_at lw_m6 52 rfl) rfl
theorem q1401 : (Jvm.Cond.fieldLink "java/util/ArrayList$Itr" (13 : Nat) "java/util/ArrayList$Itr" "lastRet" "I") ∈ lw_all := lw_g (lw_at lw_m6 53 rfl) rfl
theorem q1402 : (Jvm.Cond.fieldLink "java/util/ArrayList$Itr" (22 : Nat) "java/util/ArrayList$Itr" "expectedModCount" "I") ∈ lw_all := lw_g (lw_at lw_m6 54 rfl) rfl
theorem q1403 : (Jvm.Cond.fieldLink "java/util/ArrayList$Itr" (1 : Nat) "java/util/ArrayList$Itr" "this$0" "Ljava/util/ArrayList;") ∈ lw_all := lw_g (lw_at lw_m6 55 rfl) rfl
theorem q1404 : (Jvm.Cond.lays "java/util/ArrayList$Itr" "java/util/ArrayList$Itr" "cursor" "I") ∈ lw_all := lw_g (lw_at lw_m6 56 rfl) rfl
theorem q1405 : (Jvm.Cond.soleField "java/util/ArrayList$Itr" "cursor") ∈ lw_all := lw_g (lw_at lw_m6 57 rfl) rfl
theorem q1406 : (Jvm.Cond.lays "java/util/ArrayList$Itr" "java/util/ArrayList$Itr" "lastRet" "I") ∈ lw_all := lw_g (lw_at lw_m6 58 rfl) rfl
theorem q1407 : (Jvm.Cond.soleField "java/util/ArrayList$Itr" "lastRet") ∈ lw_all := lw_g (lw_at lw_m6 59 rfl) rfl
theorem q1408 : (Jvm.Cond.lays "java/util/ArrayList$Itr" "java/util/ArrayList$Itr" "expectedModCount" "I") ∈ lw_all := lw_g (lw_at lw_m6 60 rfl) rfl
theorem q1409 : (Jvm.Cond.soleField "java/util/ArrayList$Itr" "expectedModCount") ∈ lw_all := lw_g (lw_at lw_m6 61 rfl) rfl
theorem q1410 : (Jvm.Cond.laysFinal "java/util/ArrayList$Itr" "java/util/ArrayList$Itr" "this$0" "Ljava/util/ArrayList;") ∈ lw_all := lw_g (lw_at lw_m6 62 rfl) rfl
theorem q1411 : (Jvm.Cond.soleField "java/util/ArrayList$Itr" "this$0") ∈ lw_all := lw_g (lw_at lw_m6 63 rfl) rfl
theorem q1412 : (Jvm.Cond.superclass "java/util/ArrayList$Itr" "java/lang/Object") ∈ lw_all := lw_g (lw_at lw_m6 64 rfl) rfl
theorem q1512 : (Jvm.Cond.castable "java/util/ArrayList$Itr" "java/util/Iterator") ∈ lw_tbl := lw_at lw_m6 164 rfl
theorem q1513 : (Jvm.Cond.selects "java/util/ArrayList$Itr" ({ cls := "java/util/Iterator", name := "hasNext", desc := "()Z" } : Jvm.MethodName) ({ cls := "java/util/ArrayList$Itr", name := "hasNext", desc := "()Z" } : Jvm.MethodName)) ∈ lw_all := lw_g (lw_at lw_m6 165 rfl) rfl
theorem q1514 : (Jvm.Cond.unhidden "java/util/ArrayList$Itr" "hasNext" "()Z") ∈ lw_tbl := lw_at lw_m6 166 rfl
theorem q1515 : (Jvm.Cond.instanceMethod ({ cls := "java/util/ArrayList$Itr", name := "hasNext", desc := "()Z" } : Jvm.MethodName)) ∈ lw_all := lw_g (lw_at lw_m6 167 rfl) rfl
theorem q1516 : (Jvm.Cond.publicMethod ({ cls := "java/util/ArrayList$Itr", name := "hasNext", desc := "()Z" } : Jvm.MethodName)) ∈ lw_tbl := lw_at lw_m6 168 rfl
theorem q1517 : (Jvm.Cond.code ({ cls := "java/util/ArrayList$Itr", name := "hasNext", desc := "()Z" } : Jvm.MethodName) prog_52_method_2_code (1 : Nat) (Option.some Jvm.ClassFile.FieldType.boolean)) ∈ lw_all := lw_g (lw_at lw_m6 169 rfl) rfl
theorem q1679 : (Jvm.Cond.selects "java/util/ArrayList$Itr" ({ cls := "java/util/Iterator", name := "next", desc := "()Ljava/lang/Object;" } : Jvm.MethodName) ({ cls := "java/util/ArrayList$Itr", name := "next", desc := "()Ljava/lang/Object;" } : Jvm.MethodName)) ∈ lw_all := lw_g (lw_at lw_m7 91 rfl) rfl
theorem q1680 : (Jvm.Cond.unhidden "java/util/ArrayList$Itr" "next" "()Ljava/lang/Object;") ∈ lw_tbl := lw_at lw_m7 92 rfl
theorem q1681 : (Jvm.Cond.instanceMethod ({ cls := "java/util/ArrayList$Itr", name := "next", desc := "()Ljava/lang/Object;" } : Jvm.MethodName)) ∈ lw_all := lw_g (lw_at lw_m7 93 rfl) rfl
theorem q1682 : (Jvm.Cond.publicMethod ({ cls := "java/util/ArrayList$Itr", name := "next", desc := "()Ljava/lang/Object;" } : Jvm.MethodName)) ∈ lw_tbl := lw_at lw_m7 94 rfl
theorem q1683 : (Jvm.Cond.code ({ cls := "java/util/ArrayList$Itr", name := "next", desc := "()Ljava/lang/Object;" } : Jvm.MethodName) prog_52_method_3_code (3 : Nat) (Option.some (Jvm.ClassFile.FieldType.object "java/lang/Object"))) ∈ lw_all := lw_g (lw_at lw_m7 95 rfl) rfl
theorem q1684 : (Jvm.Cond.methodLink "java/util/ArrayList$Itr" (31 : Nat) ({ cls := "java/util/ArrayList$Itr", name := "checkForComodification", desc := "()V" } : Jvm.MethodName)) ∈ lw_all := lw_g (lw_at lw_m7 96 rfl) rfl
theorem q1685 : (Jvm.Cond.instanceMethod ({ cls := "java/util/ArrayList$Itr", name := "checkForComodification", desc := "()V" } : Jvm.MethodName)) ∈ lw_all := lw_g (lw_at lw_m7 97 rfl) rfl
theorem q1686 : (Jvm.Cond.selects "java/util/ArrayList$Itr" ({ cls := "java/util/ArrayList$Itr", name := "checkForComodification", desc := "()V" } : Jvm.MethodName) ({ cls := "java/util/ArrayList$Itr", name := "checkForComodification", desc := "()V" } : Jvm.MethodName)) ∈ lw_all := lw_g (lw_at lw_m7 98 rfl) rfl
theorem q1687 : (Jvm.Cond.sameMethod "java/util/ArrayList$Itr" "java/util/ArrayList$Itr" "checkForComodification" "()V") ∈ lw_all := lw_g (lw_at lw_m7 99 rfl) rfl
theorem q1689 : (Jvm.Cond.code ({ cls := "java/util/ArrayList$Itr", name := "checkForComodification", desc := "()V" } : Jvm.MethodName) prog_52_method_6_code (1 : Nat) (Option.none : Option Jvm.ClassFile.FieldType)) ∈ lw_all := lw_g (lw_at lw_m7 101 rfl) rfl
theorem q3644 : (Jvm.Cond.castable "java/util/ArrayList$Itr" "java/lang/Object") ∈ lw_tbl := lw_at lw_m15 136 rfl
theorem in_J28 : ∀ w ∈ wsJ280, w ∈ lw_all := lw_in wsJ280 [1404, 1406, 1408, 1410] (by decide +kernel) (by decide +kernel)
/-! java/util/AbstractList$Itr -/
def RJ29 : String := "java/util/AbstractList$Itr"
abbrev cJ29_hasNext : ByteArray := prog_46_method_2_code
def yJ29_hasNext : MethodName := ⟨RJ29, "hasNext", "()Z"⟩
abbrev cJ29_next : ByteArray := prog_46_method_3_code
def yJ29_next : MethodName := ⟨RJ29, "next", "()Ljava/lang/Object;"⟩
abbrev cJ29_checkForComodification : ByteArray := prog_46_method_5_code
def yJ29_checkForComodification : MethodName := ⟨RJ29, "checkForComodification", "()V"⟩
theorem q189 : (Jvm.Cond.initialized "java/util/AbstractList$Itr") ∈ lw_all := lw_g (lw_at lw_m1 41 rfl) rfl
theorem q244 : (Jvm.Cond.fieldLink "java/util/AbstractList$Itr" (20 : Nat) "java/util/AbstractList" "modCount" "I") ∈ lw_all := lw_g (lw_at lw_m1 96 rfl) rfl
theorem q1504 : (Jvm.Cond.instanceMethod ({ cls := "java/util/AbstractList$Itr", name := "hasNext", desc := "()Z" } : Jvm.MethodName)) ∈ lw_all := lw_g (lw_at lw_m6 156 rfl) rfl
theorem q1505 : (Jvm.Cond.publicMethod ({ cls := "java/util/AbstractList$Itr", name := "hasNext", desc := "()Z" } : Jvm.MethodName)) ∈ lw_tbl := lw_at lw_m6 157 rfl
theorem q1506 : (Jvm.Cond.code ({ cls := "java/util/AbstractList$Itr", name := "hasNext", desc := "()Z" } : Jvm.MethodName) prog_46_method_2_code (1 : Nat) (Option.some Jvm.ClassFile.FieldType.boolean)) ∈ lw_all := lw_g (lw_at lw_m6 158 rfl) rfl
theorem q1507 : (Jvm.Cond.methodLink "java/util/AbstractList$Itr" (28 : Nat) ({ cls := "java/util/AbstractList", name := "size", desc := "()I" } : Jvm.MethodName)) ∈ lw_all := lw_g (lw_at lw_m6 159 rfl) rfl
theorem q1617 : (Jvm.Cond.instanceMethod ({ cls := "java/util/AbstractList$Itr", name := "next", desc := "()Ljava/lang/Object;" } : Jvm.MethodName)) ∈ lw_all := lw_g (lw_at lw_m7 29 rfl) rfl
theorem q1618 : (Jvm.Cond.publicMethod ({ cls := "java/util/AbstractList$Itr", name := "next", desc := "()Ljava/lang/Object;" } : Jvm.MethodName)) ∈ lw_tbl := lw_at lw_m7 30 rfl
theorem q1619 : (Jvm.Cond.codeWith ({ cls := "java/util/AbstractList$Itr", name := "next", desc := "()Ljava/lang/Object;" } : Jvm.MethodName) prog_46_method_3_code (3 : Nat) (Option.some (Jvm.ClassFile.FieldType.object "java/lang/Object")) [((4 : Nat), (31 : Nat), (32 : Nat), (39 : Nat))]) ∈ lw_all := lw_g (lw_at lw_m7 31 rfl) rfl
theorem q1620 : (Jvm.Cond.methodLink "java/util/AbstractList$Itr" (32 : Nat) ({ cls := "java/util/AbstractList$Itr", name := "checkForComodification", desc := "()V" } : Jvm.MethodName)) ∈ lw_all := lw_g (lw_at lw_m7 32 rfl) rfl
theorem q1621 : (Jvm.Cond.instanceMethod ({ cls := "java/util/AbstractList$Itr", name := "checkForComodification", desc := "()V" } : Jvm.MethodName)) ∈ lw_all := lw_g (lw_at lw_m7 33 rfl) rfl
theorem q1622 : (Jvm.Cond.sameMethod "java/util/AbstractList$Itr" "java/util/AbstractList$Itr" "checkForComodification" "()V") ∈ lw_all := lw_g (lw_at lw_m7 34 rfl) rfl
theorem q1624 : (Jvm.Cond.code ({ cls := "java/util/AbstractList$Itr", name := "checkForComodification", desc := "()V" } : Jvm.MethodName) prog_46_method_5_code (1 : Nat) (Option.none : Option Jvm.ClassFile.FieldType)) ∈ lw_all := lw_g (lw_at lw_m7 36 rfl) rfl
theorem q1625 : (Jvm.Cond.methodLink "java/util/AbstractList$Itr" (35 : Nat) ({ cls := "java/util/AbstractList", name := "get", desc := "(I)Ljava/lang/Object;" } : Jvm.MethodName)) ∈ lw_all := lw_g (lw_at lw_m7 37 rfl) rfl
theorem q1630 : (Jvm.Cond.classLink "java/util/AbstractList$Itr" (41 : Nat) "java/util/NoSuchElementException") ∈ lw_all := lw_g (lw_at lw_m7 42 rfl) rfl
theorem q1631 : (Jvm.Cond.methodLink "java/util/AbstractList$Itr" (43 : Nat) ({ cls := "java/util/NoSuchElementException", name := "<init>", desc := "(Ljava/lang/Throwable;)V" } : Jvm.MethodName)) ∈ lw_all := lw_g (lw_at lw_m7 43 rfl) rfl
theorem q3673 : (Jvm.Cond.fieldLink "java/util/AbstractList$Itr" (1 : Nat) "java/util/AbstractList$Itr" "this$0" "Ljava/util/AbstractList;") ∈ lw_all := lw_g (lw_at lw_m15 165 rfl) rfl
theorem q3674 : (Jvm.Cond.fieldLink "java/util/AbstractList$Itr" (13 : Nat) "java/util/AbstractList$Itr" "cursor" "I") ∈ lw_all := lw_g (lw_at lw_m15 166 rfl) rfl
theorem q3675 : (Jvm.Cond.fieldLink "java/util/AbstractList$Itr" (17 : Nat) "java/util/AbstractList$Itr" "lastRet" "I") ∈ lw_all := lw_g (lw_at lw_m15 167 rfl) rfl
theorem q3676 : (Jvm.Cond.fieldLink "java/util/AbstractList$Itr" (25 : Nat) "java/util/AbstractList$Itr" "expectedModCount" "I") ∈ lw_all := lw_g (lw_at lw_m15 168 rfl) rfl
/-! java/util/ArrayList$ListItr -/
def RJ30 : String := "java/util/ArrayList$ListItr"
def TJ30 : u_T := fun k => match k with
  | 0 => ("java/util/ArrayList$Itr", "cursor", "I", false)
  | 1 => ("java/util/ArrayList$Itr", "lastRet", "I", false)
  | 2 => ("java/util/ArrayList$Itr", "expectedModCount", "I", false)
  | 3 => ("java/util/ArrayList$Itr", "this$0", "Ljava/util/ArrayList;", true)
  | _ => ("java/util/ArrayList$ListItr", "this$0", "Ljava/util/ArrayList;", true)
def tyJ30 : Nat → FieldType := fun k => match k with
  | 0 => .int
  | 1 => .int
  | 2 => .int
  | 3 => .object "java/util/ArrayList"
  | _ => .object "java/util/ArrayList"
abbrev wsJ300 : List Cond := u_ws RJ30 TJ30 5
-- two fields of one name: no nmJ30
theorem tyJ30_ok : ∀ k, k < 5 → parseFieldDescriptor (TJ30 k).2.2.1 = some (tyJ30 k) := by decide +kernel
abbrev cJ30_init : ByteArray := prog_53_method_1_code
def yJ30_init : MethodName := ⟨RJ30, "<init>", "(Ljava/util/ArrayList;I)V"⟩
theorem q191 : (Jvm.Cond.initialized "java/util/ArrayList$ListItr") ∈ lw_all := lw_g (lw_at lw_m1 43 rfl) rfl
theorem q1218 : (Jvm.Cond.selects "java/util/ArrayList$ListItr" ({ cls := "java/lang/Object", name := "getClass", desc := "()Ljava/lang/Class;" } : Jvm.MethodName) ({ cls := "java/lang/Object", name := "getClass", desc := "()Ljava/lang/Class;" } : Jvm.MethodName)) ∈ lw_all := lw_g (lw_at lw_m5 110 rfl) rfl
theorem q1398 : (Jvm.Cond.fieldLink "java/util/ArrayList$ListItr" (13 : Nat) "java/util/ArrayList$ListItr" "cursor" "I") ∈ lw_all := lw_g (lw_at lw_m6 50 rfl) rfl
theorem q1399 : (Jvm.Cond.sameField "java/util/ArrayList$ListItr" "java/util/ArrayList$Itr" "cursor" "I") ∈ lw_all := lw_g (lw_at lw_m6 51 rfl) rfl
theorem q1443 : (Jvm.Cond.instantiable "java/util/ArrayList$ListItr" (5 : Nat)) ∈ lw_all := lw_g (lw_at lw_m6 95 rfl) rfl
theorem q1445 : (Jvm.Cond.instanceMethod ({ cls := "java/util/ArrayList$ListItr", name := "<init>", desc := "(Ljava/util/ArrayList;I)V" } : Jvm.MethodName)) ∈ lw_all := lw_g (lw_at lw_m6 97 rfl) rfl
theorem q1446 : (Jvm.Cond.code ({ cls := "java/util/ArrayList$ListItr", name := "<init>", desc := "(Ljava/util/ArrayList;I)V" } : Jvm.MethodName) prog_53_method_1_code (3 : Nat) (Option.none : Option Jvm.ClassFile.FieldType)) ∈ lw_all := lw_g (lw_at lw_m6 98 rfl) rfl
theorem q1447 : (Jvm.Cond.methodLink "java/util/ArrayList$ListItr" (7 : Nat) ({ cls := "java/util/ArrayList$Itr", name := "<init>", desc := "(Ljava/util/ArrayList;)V" } : Jvm.MethodName)) ∈ lw_all := lw_g (lw_at lw_m6 99 rfl) rfl
theorem q1448 : (Jvm.Cond.fieldLink "java/util/ArrayList$ListItr" (1 : Nat) "java/util/ArrayList$ListItr" "this$0" "Ljava/util/ArrayList;") ∈ lw_all := lw_g (lw_at lw_m6 100 rfl) rfl
theorem q1449 : (Jvm.Cond.laysFinal "java/util/ArrayList$ListItr" "java/util/ArrayList$ListItr" "this$0" "Ljava/util/ArrayList;") ∈ lw_all := lw_g (lw_at lw_m6 101 rfl) rfl
theorem q1450 : (Jvm.Cond.soleField "java/util/ArrayList$ListItr" "this$0") ∈ lw_all := lw_g (lw_at lw_m6 102 rfl) rfl
theorem q1451 : (Jvm.Cond.lays "java/util/ArrayList$ListItr" "java/util/ArrayList$Itr" "cursor" "I") ∈ lw_all := lw_g (lw_at lw_m6 103 rfl) rfl
theorem q1452 : (Jvm.Cond.lays "java/util/ArrayList$ListItr" "java/util/ArrayList$Itr" "lastRet" "I") ∈ lw_all := lw_g (lw_at lw_m6 104 rfl) rfl
theorem q1453 : (Jvm.Cond.lays "java/util/ArrayList$ListItr" "java/util/ArrayList$Itr" "expectedModCount" "I") ∈ lw_all := lw_g (lw_at lw_m6 105 rfl) rfl
theorem q1454 : (Jvm.Cond.laysFinal "java/util/ArrayList$ListItr" "java/util/ArrayList$Itr" "this$0" "Ljava/util/ArrayList;") ∈ lw_all := lw_g (lw_at lw_m6 106 rfl) rfl
theorem q1455 : (Jvm.Cond.superclass "java/util/ArrayList$ListItr" "java/util/ArrayList$Itr") ∈ lw_all := lw_g (lw_at lw_m6 107 rfl) rfl
theorem q1518 : (Jvm.Cond.castable "java/util/ArrayList$ListItr" "java/util/Iterator") ∈ lw_tbl := lw_at lw_m6 170 rfl
theorem q1519 : (Jvm.Cond.selects "java/util/ArrayList$ListItr" ({ cls := "java/util/Iterator", name := "hasNext", desc := "()Z" } : Jvm.MethodName) ({ cls := "java/util/ArrayList$Itr", name := "hasNext", desc := "()Z" } : Jvm.MethodName)) ∈ lw_all := lw_g (lw_at lw_m6 171 rfl) rfl
theorem q1520 : (Jvm.Cond.unhidden "java/util/ArrayList$ListItr" "hasNext" "()Z") ∈ lw_tbl := lw_at lw_m6 172 rfl
theorem q1688 : (Jvm.Cond.selects "java/util/ArrayList$ListItr" ({ cls := "java/util/ArrayList$Itr", name := "checkForComodification", desc := "()V" } : Jvm.MethodName) ({ cls := "java/util/ArrayList$Itr", name := "checkForComodification", desc := "()V" } : Jvm.MethodName)) ∈ lw_all := lw_g (lw_at lw_m7 100 rfl) rfl
theorem q1690 : (Jvm.Cond.selects "java/util/ArrayList$ListItr" ({ cls := "java/util/Iterator", name := "next", desc := "()Ljava/lang/Object;" } : Jvm.MethodName) ({ cls := "java/util/ArrayList$Itr", name := "next", desc := "()Ljava/lang/Object;" } : Jvm.MethodName)) ∈ lw_all := lw_g (lw_at lw_m7 102 rfl) rfl
theorem q1691 : (Jvm.Cond.unhidden "java/util/ArrayList$ListItr" "next" "()Ljava/lang/Object;") ∈ lw_tbl := lw_at lw_m7 103 rfl
theorem q3646 : (Jvm.Cond.castable "java/util/ArrayList$ListItr" "java/lang/Object") ∈ lw_tbl := lw_at lw_m15 138 rfl
theorem in_J30 : ∀ w ∈ wsJ300, w ∈ lw_all := lw_in wsJ300 [1451, 1452, 1453, 1454, 1449] (by decide +kernel) (by decide +kernel)
/-! java/util/LinkedList$ListItr -/
def RJ31 : String := "java/util/LinkedList$ListItr"
def TJ31 : u_T := fun k => match k with
  | 0 => ("java/util/LinkedList$ListItr", "lastReturned", "Ljava/util/LinkedList$Node;", false)
  | 1 => ("java/util/LinkedList$ListItr", "next", "Ljava/util/LinkedList$Node;", false)
  | 2 => ("java/util/LinkedList$ListItr", "nextIndex", "I", false)
  | 3 => ("java/util/LinkedList$ListItr", "expectedModCount", "I", false)
  | _ => ("java/util/LinkedList$ListItr", "this$0", "Ljava/util/LinkedList;", true)
def tyJ31 : Nat → FieldType := fun k => match k with
  | 0 => .object "java/util/LinkedList$Node"
  | 1 => .object "java/util/LinkedList$Node"
  | 2 => .int
  | 3 => .int
  | _ => .object "java/util/LinkedList"
abbrev wsJ310 : List Cond := u_ws RJ31 TJ31 5
theorem nmJ31 : ∀ a, a < 5 → ∀ b, b < 5 → a ≠ b → (TJ31 a).2.1 ≠ (TJ31 b).2.1 := by decide +kernel
theorem tyJ31_ok : ∀ k, k < 5 → parseFieldDescriptor (TJ31 k).2.2.1 = some (tyJ31 k) := by decide +kernel
abbrev cJ31_init : ByteArray := prog_61_method_1_code
def yJ31_init : MethodName := ⟨RJ31, "<init>", "(Ljava/util/LinkedList;I)V"⟩
abbrev cJ31_hasNext : ByteArray := prog_61_method_2_code
def yJ31_hasNext : MethodName := ⟨RJ31, "hasNext", "()Z"⟩
abbrev cJ31_next : ByteArray := prog_61_method_3_code
def yJ31_next : MethodName := ⟨RJ31, "next", "()Ljava/lang/Object;"⟩
abbrev cJ31_checkForComodification : ByteArray := prog_61_method_12_code
def yJ31_checkForComodification : MethodName := ⟨RJ31, "checkForComodification", "()V"⟩
theorem q192 : (Jvm.Cond.initialized "java/util/LinkedList$ListItr") ∈ lw_all := lw_g (lw_at lw_m1 44 rfl) rfl
theorem q240 : (Jvm.Cond.fieldLink "java/util/LinkedList$ListItr" (13 : Nat) "java/util/LinkedList" "modCount" "I") ∈ lw_all := lw_g (lw_at lw_m1 92 rfl) rfl
theorem q687 : (Jvm.Cond.fieldLink "java/util/LinkedList$ListItr" (22 : Nat) "java/util/LinkedList" "size" "I") ∈ lw_all := lw_g (lw_at lw_m3 59 rfl) rfl
theorem q1221 : (Jvm.Cond.selects "java/util/LinkedList$ListItr" ({ cls := "java/lang/Object", name := "getClass", desc := "()Ljava/lang/Class;" } : Jvm.MethodName) ({ cls := "java/lang/Object", name := "getClass", desc := "()Ljava/lang/Class;" } : Jvm.MethodName)) ∈ lw_all := lw_g (lw_at lw_m5 113 rfl) rfl
theorem q1250 : (Jvm.Cond.fieldLink "java/util/LinkedList$ListItr" (52 : Nat) "java/util/LinkedList$Node" "item" "Ljava/lang/Object;") ∈ lw_all := lw_g (lw_at lw_m5 142 rfl) rfl
theorem q1253 : (Jvm.Cond.fieldLink "java/util/LinkedList$ListItr" (49 : Nat) "java/util/LinkedList$Node" "next" "Ljava/util/LinkedList$Node;") ∈ lw_all := lw_g (lw_at lw_m5 145 rfl) rfl
theorem q1468 : (Jvm.Cond.instantiable "java/util/LinkedList$ListItr" (5 : Nat)) ∈ lw_all := lw_g (lw_at lw_m6 120 rfl) rfl
theorem q1470 : (Jvm.Cond.instanceMethod ({ cls := "java/util/LinkedList$ListItr", name := "<init>", desc := "(Ljava/util/LinkedList;I)V" } : Jvm.MethodName)) ∈ lw_all := lw_g (lw_at lw_m6 122 rfl) rfl
theorem q1471 : (Jvm.Cond.code ({ cls := "java/util/LinkedList$ListItr", name := "<init>", desc := "(Ljava/util/LinkedList;I)V" } : Jvm.MethodName) prog_61_method_1_code (3 : Nat) (Option.none : Option Jvm.ClassFile.FieldType)) ∈ lw_all := lw_g (lw_at lw_m6 123 rfl) rfl
theorem q1472 : (Jvm.Cond.methodLink "java/util/LinkedList$ListItr" (7 : Nat) ({ cls := "java/lang/Object", name := "<init>", desc := "()V" } : Jvm.MethodName)) ∈ lw_all := lw_g (lw_at lw_m6 124 rfl) rfl
theorem q1473 : (Jvm.Cond.methodLink "java/util/LinkedList$ListItr" (25 : Nat) ({ cls := "java/util/LinkedList", name := "node", desc := "(I)Ljava/util/LinkedList$Node;" } : Jvm.MethodName)) ∈ lw_all := lw_g (lw_at lw_m6 125 rfl) rfl
theorem q1474 : (Jvm.Cond.fieldLink "java/util/LinkedList$ListItr" (46 : Nat) "java/util/LinkedList$ListItr" "lastReturned" "Ljava/util/LinkedList$Node;") ∈ lw_all := lw_g (lw_at lw_m6 126 rfl) rfl
theorem q1475 : (Jvm.Cond.fieldLink "java/util/LinkedList$ListItr" (29 : Nat) "java/util/LinkedList$ListItr" "next" "Ljava/util/LinkedList$Node;") ∈ lw_all := lw_g (lw_at lw_m6 127 rfl) rfl
theorem q1476 : (Jvm.Cond.fieldLink "java/util/LinkedList$ListItr" (33 : Nat) "java/util/LinkedList$ListItr" "nextIndex" "I") ∈ lw_all := lw_g (lw_at lw_m6 128 rfl) rfl
theorem q1477 : (Jvm.Cond.fieldLink "java/util/LinkedList$ListItr" (19 : Nat) "java/util/LinkedList$ListItr" "expectedModCount" "I") ∈ lw_all := lw_g (lw_at lw_m6 129 rfl) rfl
theorem q1478 : (Jvm.Cond.fieldLink "java/util/LinkedList$ListItr" (1 : Nat) "java/util/LinkedList$ListItr" "this$0" "Ljava/util/LinkedList;") ∈ lw_all := lw_g (lw_at lw_m6 130 rfl) rfl
theorem q1479 : (Jvm.Cond.lays "java/util/LinkedList$ListItr" "java/util/LinkedList$ListItr" "lastReturned" "Ljava/util/LinkedList$Node;") ∈ lw_all := lw_g (lw_at lw_m6 131 rfl) rfl
theorem q1480 : (Jvm.Cond.soleField "java/util/LinkedList$ListItr" "lastReturned") ∈ lw_all := lw_g (lw_at lw_m6 132 rfl) rfl
theorem q1481 : (Jvm.Cond.lays "java/util/LinkedList$ListItr" "java/util/LinkedList$ListItr" "next" "Ljava/util/LinkedList$Node;") ∈ lw_all := lw_g (lw_at lw_m6 133 rfl) rfl
theorem q1482 : (Jvm.Cond.soleField "java/util/LinkedList$ListItr" "next") ∈ lw_all := lw_g (lw_at lw_m6 134 rfl) rfl
theorem q1483 : (Jvm.Cond.lays "java/util/LinkedList$ListItr" "java/util/LinkedList$ListItr" "nextIndex" "I") ∈ lw_all := lw_g (lw_at lw_m6 135 rfl) rfl
theorem q1484 : (Jvm.Cond.soleField "java/util/LinkedList$ListItr" "nextIndex") ∈ lw_all := lw_g (lw_at lw_m6 136 rfl) rfl
theorem q1485 : (Jvm.Cond.lays "java/util/LinkedList$ListItr" "java/util/LinkedList$ListItr" "expectedModCount" "I") ∈ lw_all := lw_g (lw_at lw_m6 137 rfl) rfl
theorem q1486 : (Jvm.Cond.soleField "java/util/LinkedList$ListItr" "expectedModCount") ∈ lw_all := lw_g (lw_at lw_m6 138 rfl) rfl
theorem q1487 : (Jvm.Cond.laysFinal "java/util/LinkedList$ListItr" "java/util/LinkedList$ListItr" "this$0" "Ljava/util/LinkedList;") ∈ lw_all := lw_g (lw_at lw_m6 139 rfl) rfl
theorem q1488 : (Jvm.Cond.soleField "java/util/LinkedList$ListItr" "this$0") ∈ lw_all := lw_g (lw_at lw_m6 140 rfl) rfl
theorem q1489 : (Jvm.Cond.superclass "java/util/LinkedList$ListItr" "java/lang/Object") ∈ lw_all := lw_g (lw_at lw_m6 141 rfl) rfl
theorem q1521 : (Jvm.Cond.castable "java/util/LinkedList$ListItr" "java/util/Iterator") ∈ lw_tbl := lw_at lw_m6 173 rfl
theorem q1522 : (Jvm.Cond.selects "java/util/LinkedList$ListItr" ({ cls := "java/util/Iterator", name := "hasNext", desc := "()Z" } : Jvm.MethodName) ({ cls := "java/util/LinkedList$ListItr", name := "hasNext", desc := "()Z" } : Jvm.MethodName)) ∈ lw_all := lw_g (lw_at lw_m6 174 rfl) rfl
theorem q1523 : (Jvm.Cond.unhidden "java/util/LinkedList$ListItr" "hasNext" "()Z") ∈ lw_tbl := lw_at lw_m6 175 rfl
theorem q1524 : (Jvm.Cond.instanceMethod ({ cls := "java/util/LinkedList$ListItr", name := "hasNext", desc := "()Z" } : Jvm.MethodName)) ∈ lw_all := lw_g (lw_at lw_m6 176 rfl) rfl
theorem q1525 : (Jvm.Cond.publicMethod ({ cls := "java/util/LinkedList$ListItr", name := "hasNext", desc := "()Z" } : Jvm.MethodName)) ∈ lw_tbl := lw_at lw_m6 177 rfl
theorem q1526 : (Jvm.Cond.code ({ cls := "java/util/LinkedList$ListItr", name := "hasNext", desc := "()Z" } : Jvm.MethodName) prog_61_method_2_code (1 : Nat) (Option.some Jvm.ClassFile.FieldType.boolean)) ∈ lw_all := lw_g (lw_at lw_m6 178 rfl) rfl
theorem q1692 : (Jvm.Cond.selects "java/util/LinkedList$ListItr" ({ cls := "java/util/Iterator", name := "next", desc := "()Ljava/lang/Object;" } : Jvm.MethodName) ({ cls := "java/util/LinkedList$ListItr", name := "next", desc := "()Ljava/lang/Object;" } : Jvm.MethodName)) ∈ lw_all := lw_g (lw_at lw_m7 104 rfl) rfl
theorem q1693 : (Jvm.Cond.unhidden "java/util/LinkedList$ListItr" "next" "()Ljava/lang/Object;") ∈ lw_tbl := lw_at lw_m7 105 rfl
theorem q1694 : (Jvm.Cond.instanceMethod ({ cls := "java/util/LinkedList$ListItr", name := "next", desc := "()Ljava/lang/Object;" } : Jvm.MethodName)) ∈ lw_all := lw_g (lw_at lw_m7 106 rfl) rfl
theorem q1695 : (Jvm.Cond.publicMethod ({ cls := "java/util/LinkedList$ListItr", name := "next", desc := "()Ljava/lang/Object;" } : Jvm.MethodName)) ∈ lw_tbl := lw_at lw_m7 107 rfl
theorem q1696 : (Jvm.Cond.code ({ cls := "java/util/LinkedList$ListItr", name := "next", desc := "()Ljava/lang/Object;" } : Jvm.MethodName) prog_61_method_3_code (1 : Nat) (Option.some (Jvm.ClassFile.FieldType.object "java/lang/Object"))) ∈ lw_all := lw_g (lw_at lw_m7 108 rfl) rfl
theorem q1697 : (Jvm.Cond.methodLink "java/util/LinkedList$ListItr" (36 : Nat) ({ cls := "java/util/LinkedList$ListItr", name := "checkForComodification", desc := "()V" } : Jvm.MethodName)) ∈ lw_all := lw_g (lw_at lw_m7 109 rfl) rfl
theorem q1698 : (Jvm.Cond.instanceMethod ({ cls := "java/util/LinkedList$ListItr", name := "checkForComodification", desc := "()V" } : Jvm.MethodName)) ∈ lw_all := lw_g (lw_at lw_m7 110 rfl) rfl
theorem q1699 : (Jvm.Cond.selects "java/util/LinkedList$ListItr" ({ cls := "java/util/LinkedList$ListItr", name := "checkForComodification", desc := "()V" } : Jvm.MethodName) ({ cls := "java/util/LinkedList$ListItr", name := "checkForComodification", desc := "()V" } : Jvm.MethodName)) ∈ lw_all := lw_g (lw_at lw_m7 111 rfl) rfl
theorem q1700 : (Jvm.Cond.code ({ cls := "java/util/LinkedList$ListItr", name := "checkForComodification", desc := "()V" } : Jvm.MethodName) prog_61_method_12_code (1 : Nat) (Option.none : Option Jvm.ClassFile.FieldType)) ∈ lw_all := lw_g (lw_at lw_m7 112 rfl) rfl
theorem q1701 : (Jvm.Cond.methodLink "java/util/LinkedList$ListItr" (39 : Nat) ({ cls := "java/util/LinkedList$ListItr", name := "hasNext", desc := "()Z" } : Jvm.MethodName)) ∈ lw_all := lw_g (lw_at lw_m7 113 rfl) rfl
theorem q3610 : (Jvm.Cond.selects "java/util/LinkedList$ListItr" ({ cls := "java/util/LinkedList$ListItr", name := "hasNext", desc := "()Z" } : Jvm.MethodName) ({ cls := "java/util/LinkedList$ListItr", name := "hasNext", desc := "()Z" } : Jvm.MethodName)) ∈ lw_all := lw_g (lw_at lw_m15 102 rfl) rfl
theorem q3647 : (Jvm.Cond.castable "java/util/LinkedList$ListItr" "java/lang/Object") ∈ lw_tbl := lw_at lw_m15 139 rfl
theorem in_J31 : ∀ w ∈ wsJ310, w ∈ lw_all := lw_in wsJ310 [1479, 1481, 1483, 1485, 1487] (by decide +kernel) (by decide +kernel)
/-! java/util/NoSuchElementException -/
def RJ32 : String := "java/util/NoSuchElementException"
def TJ32 : u_T := fun k => match k with
  | 0 => ("java/lang/Throwable", "cause", "Ljava/lang/Throwable;", false)
  | 1 => ("java/lang/Throwable", "stackTrace", "[Ljava/lang/StackTraceElement;", false)
  | 2 => ("java/lang/Throwable", "suppressedExceptions", "Ljava/util/List;", false)
  | 3 => ("java/lang/Throwable", "detailMessage", "Ljava/lang/String;", false)
  | 4 => ("java/lang/Throwable", "backtrace", "Ljava/lang/Object;", false)
  | _ => ("java/lang/Throwable", "depth", "I", false)
def tyJ32 : Nat → FieldType := fun k => match k with
  | 0 => .object "java/lang/Throwable"
  | 1 => .array (.object "java/lang/StackTraceElement")
  | 2 => .object "java/util/List"
  | 3 => .object "java/lang/String"
  | 4 => .object "java/lang/Object"
  | _ => .int
abbrev wsJ320 : List Cond := u_ws RJ32 TJ32 6
theorem nmJ32 : ∀ a, a < 6 → ∀ b, b < 6 → a ≠ b → (TJ32 a).2.1 ≠ (TJ32 b).2.1 := by decide +kernel
theorem tyJ32_ok : ∀ k, k < 6 → parseFieldDescriptor (TJ32 k).2.2.1 = some (tyJ32 k) := by decide +kernel
abbrev cJ32_init : ByteArray := prog_68_method_1_code
def yJ32_init : MethodName := ⟨RJ32, "<init>", "()V"⟩
abbrev cJ32_init_2 : ByteArray := prog_68_method_3_code
def yJ32_init_2 : MethodName := ⟨RJ32, "<init>", "(Ljava/lang/Throwable;)V"⟩
theorem q193 : (Jvm.Cond.initialized "java/util/NoSuchElementException") ∈ lw_all := lw_g (lw_at lw_m1 45 rfl) rfl
theorem q396 : (Jvm.Cond.selects "java/util/NoSuchElementException" ({ cls := "java/lang/Throwable", name := "fillInStackTrace", desc := "()Ljava/lang/Throwable;" } : Jvm.MethodName) ({ cls := "java/lang/Throwable", name := "fillInStackTrace", desc := "()Ljava/lang/Throwable;" } : Jvm.MethodName)) ∈ lw_all := lw_g (lw_at lw_m2 8 rfl) rfl
theorem q1223 : (Jvm.Cond.selects "java/util/NoSuchElementException" ({ cls := "java/lang/Object", name := "getClass", desc := "()Ljava/lang/Class;" } : Jvm.MethodName) ({ cls := "java/lang/Object", name := "getClass", desc := "()Ljava/lang/Class;" } : Jvm.MethodName)) ∈ lw_all := lw_g (lw_at lw_m5 115 rfl) rfl
theorem q1542 : (Jvm.Cond.instantiable "java/util/NoSuchElementException" (6 : Nat)) ∈ lw_all := lw_g (lw_at lw_m6 194 rfl) rfl
theorem q1543 : (Jvm.Cond.castable "java/util/NoSuchElementException" "java/util/NoSuchElementException") ∈ lw_tbl := lw_at lw_m6 195 rfl
theorem q1544 : (Jvm.Cond.selects "java/util/NoSuchElementException" ({ cls := "java/lang/Throwable", name := "fillInStackTrace", desc := "(I)Ljava/lang/Throwable;" } : Jvm.MethodName) ({ cls := "java/lang/Throwable", name := "fillInStackTrace", desc := "(I)Ljava/lang/Throwable;" } : Jvm.MethodName)) ∈ lw_all := lw_g (lw_at lw_m6 196 rfl) rfl
theorem q1545 : (Jvm.Cond.lays "java/util/NoSuchElementException" "java/lang/Throwable" "cause" "Ljava/lang/Throwable;") ∈ lw_all := lw_g (lw_at lw_m6 197 rfl) rfl
theorem q1546 : (Jvm.Cond.lays "java/util/NoSuchElementException" "java/lang/Throwable" "stackTrace" "[Ljava/lang/StackTraceElement;") ∈ lw_all := lw_g (lw_at lw_m6 198 rfl) rfl
theorem q1547 : (Jvm.Cond.lays "java/util/NoSuchElementException" "java/lang/Throwable" "suppressedExceptions" "Ljava/util/List;") ∈ lw_all := lw_g (lw_at lw_m6 199 rfl) rfl
theorem q1548 : (Jvm.Cond.lays "java/util/NoSuchElementException" "java/lang/Throwable" "detailMessage" "Ljava/lang/String;") ∈ lw_all := lw_g (lw_at lw_m6 200 rfl) rfl
theorem q1549 : (Jvm.Cond.lays "java/util/NoSuchElementException" "java/lang/Throwable" "backtrace" "Ljava/lang/Object;") ∈ lw_all := lw_g (lw_at lw_m6 201 rfl) rfl
theorem q1551 : (Jvm.Cond.instanceMethod ({ cls := "java/util/NoSuchElementException", name := "<init>", desc := "()V" } : Jvm.MethodName)) ∈ lw_all := lw_g (lw_at lw_m6 203 rfl) rfl
theorem q1552 : (Jvm.Cond.code ({ cls := "java/util/NoSuchElementException", name := "<init>", desc := "()V" } : Jvm.MethodName) prog_68_method_1_code (1 : Nat) (Option.none : Option Jvm.ClassFile.FieldType)) ∈ lw_all := lw_g (lw_at lw_m6 204 rfl) rfl
theorem q1553 : (Jvm.Cond.methodLink "java/util/NoSuchElementException" (1 : Nat) ({ cls := "java/lang/RuntimeException", name := "<init>", desc := "()V" } : Jvm.MethodName)) ∈ lw_all := lw_g (lw_at lw_m6 205 rfl) rfl
theorem q1560 : (Jvm.Cond.lays "java/util/NoSuchElementException" "java/lang/Throwable" "depth" "I") ∈ lw_all := lw_g (lw_at lw_m6 212 rfl) rfl
theorem q1561 : (Jvm.Cond.superclass "java/util/NoSuchElementException" "java/lang/RuntimeException") ∈ lw_all := lw_g (lw_at lw_m6 213 rfl) rfl
theorem q1632 : (Jvm.Cond.instanceMethod ({ cls := "java/util/NoSuchElementException", name := "<init>", desc := "(Ljava/lang/Throwable;)V" } : Jvm.MethodName)) ∈ lw_all := lw_g (lw_at lw_m7 44 rfl) rfl
theorem q1633 : (Jvm.Cond.code ({ cls := "java/util/NoSuchElementException", name := "<init>", desc := "(Ljava/lang/Throwable;)V" } : Jvm.MethodName) prog_68_method_3_code (2 : Nat) (Option.none : Option Jvm.ClassFile.FieldType)) ∈ lw_all := lw_g (lw_at lw_m7 45 rfl) rfl
theorem q1634 : (Jvm.Cond.methodLink "java/util/NoSuchElementException" (10 : Nat) ({ cls := "java/lang/RuntimeException", name := "<init>", desc := "(Ljava/lang/Throwable;)V" } : Jvm.MethodName)) ∈ lw_all := lw_g (lw_at lw_m7 46 rfl) rfl
theorem q1651 : (Jvm.Cond.selects "java/util/NoSuchElementException" ({ cls := "java/lang/Throwable", name := "toString", desc := "()Ljava/lang/String;" } : Jvm.MethodName) ({ cls := "java/lang/Throwable", name := "toString", desc := "()Ljava/lang/String;" } : Jvm.MethodName)) ∈ lw_all := lw_g (lw_at lw_m7 63 rfl) rfl
theorem q1662 : (Jvm.Cond.selects "java/util/NoSuchElementException" ({ cls := "java/lang/Throwable", name := "getLocalizedMessage", desc := "()Ljava/lang/String;" } : Jvm.MethodName) ({ cls := "java/lang/Throwable", name := "getLocalizedMessage", desc := "()Ljava/lang/String;" } : Jvm.MethodName)) ∈ lw_all := lw_g (lw_at lw_m7 74 rfl) rfl
theorem q1672 : (Jvm.Cond.selects "java/util/NoSuchElementException" ({ cls := "java/lang/Throwable", name := "getMessage", desc := "()Ljava/lang/String;" } : Jvm.MethodName) ({ cls := "java/lang/Throwable", name := "getMessage", desc := "()Ljava/lang/String;" } : Jvm.MethodName)) ∈ lw_all := lw_g (lw_at lw_m7 84 rfl) rfl
theorem q3648 : (Jvm.Cond.castable "java/util/NoSuchElementException" "java/lang/Object") ∈ lw_tbl := lw_at lw_m15 140 rfl
theorem in_J32 : ∀ w ∈ wsJ320, w ∈ lw_all := lw_in wsJ320 [1545, 1546, 1547, 1548, 1549, 1560] (by decide +kernel) (by decide +kernel)
/-! HintTeam$Hint -/
def RX11 : String := "HintTeam$Hint"
def TX11 : u_T := fun k => match k with
  | 0 => ("HintTeam$Move", "this$0", "LHintTeam;", true)
  | 1 => ("HintTeam$Hint", "player", "I", true)
  | 2 => ("HintTeam$Hint", "word", "I", true)
  | 3 => ("HintTeam$Hint", "value", "I", true)
  | _ => ("HintTeam$Hint", "this$0", "LHintTeam;", true)
def tyX11 : Nat → FieldType := fun k => match k with
  | 0 => .object "HintTeam"
  | 1 => .int
  | 2 => .int
  | 3 => .int
  | _ => .object "HintTeam"
abbrev wsX110 : List Cond := u_ws RX11 TX11 5
-- two fields of one name: no nmX11
theorem tyX11_ok : ∀ k, k < 5 → parseFieldDescriptor (TX11 k).2.2.1 = some (tyX11 k) := by decide +kernel
abbrev cX11_init : ByteArray := prog_8_method_1_code
def yX11_init : MethodName := ⟨RX11, "<init>", "(LHintTeam;III)V"⟩
abbrev cX11_run : ByteArray := prog_8_method_3_code
def yX11_run : MethodName := ⟨RX11, "run", "()V"⟩
abbrev cX11_kind : ByteArray := prog_8_method_2_code
def yX11_kind : MethodName := ⟨RX11, "kind", "()I"⟩
abbrev cX11_part : ByteArray := prog_8_method_4_code
def yX11_part : MethodName := ⟨RX11, "part", "(I)I"⟩
theorem q194 : (Jvm.Cond.initialized "HintTeam$Hint") ∈ lw_all := lw_g (lw_at lw_m1 46 rfl) rfl
theorem q860 : (Jvm.Cond.fieldLinkNest "HintTeam$Hint" (25 : Nat) "HintTeam" "table" "LHintTeam$Table;" "HintTeam") ∈ lw_tbl := lw_at lw_m3 232 rfl
theorem q1200 : (Jvm.Cond.selects "HintTeam$Hint" ({ cls := "java/lang/Object", name := "getClass", desc := "()Ljava/lang/Class;" } : Jvm.MethodName) ({ cls := "java/lang/Object", name := "getClass", desc := "()Ljava/lang/Class;" } : Jvm.MethodName)) ∈ lw_all := lw_g (lw_at lw_m5 92 rfl) rfl
theorem q1563 : (Jvm.Cond.instantiable "HintTeam$Hint" (5 : Nat)) ∈ lw_all := lw_g (lw_at lw_m6 215 rfl) rfl
theorem q1570 : (Jvm.Cond.instanceMethod ({ cls := "HintTeam$Hint", name := "<init>", desc := "(LHintTeam;III)V" } : Jvm.MethodName)) ∈ lw_all := lw_g (lw_at lw_m6 222 rfl) rfl
theorem q1571 : (Jvm.Cond.code ({ cls := "HintTeam$Hint", name := "<init>", desc := "(LHintTeam;III)V" } : Jvm.MethodName) prog_8_method_1_code (5 : Nat) (Option.none : Option Jvm.ClassFile.FieldType)) ∈ lw_all := lw_g (lw_at lw_m6 223 rfl) rfl
theorem q1572 : (Jvm.Cond.methodLinkNest "HintTeam$Hint" (9 : Nat) ({ cls := "HintTeam$Move", name := "<init>", desc := "(LHintTeam;)V" } : Jvm.MethodName) "HintTeam") ∈ lw_tbl := lw_at lw_m6 224 rfl
theorem q1573 : (Jvm.Cond.fieldLink "HintTeam$Hint" (15 : Nat) "HintTeam$Hint" "player" "I") ∈ lw_all := lw_g (lw_at lw_m6 225 rfl) rfl
theorem q1575 : (Jvm.Cond.fieldLink "HintTeam$Hint" (19 : Nat) "HintTeam$Hint" "word" "I") ∈ lw_all := lw_g (lw_at lw_m6 227 rfl) rfl
theorem q1577 : (Jvm.Cond.fieldLink "HintTeam$Hint" (22 : Nat) "HintTeam$Hint" "value" "I") ∈ lw_all := lw_g (lw_at lw_m6 229 rfl) rfl
theorem q1579 : (Jvm.Cond.fieldLink "HintTeam$Hint" (3 : Nat) "HintTeam$Hint" "this$0" "LHintTeam;") ∈ lw_all := lw_g (lw_at lw_m6 231 rfl) rfl
theorem q1580 : (Jvm.Cond.laysFinal "HintTeam$Hint" "HintTeam$Hint" "player" "I") ∈ lw_all := lw_g (lw_at lw_m6 232 rfl) rfl
theorem q1581 : (Jvm.Cond.soleField "HintTeam$Hint" "player") ∈ lw_all := lw_g (lw_at lw_m6 233 rfl) rfl
theorem q1582 : (Jvm.Cond.laysFinal "HintTeam$Hint" "HintTeam$Hint" "word" "I") ∈ lw_all := lw_g (lw_at lw_m6 234 rfl) rfl
theorem q1583 : (Jvm.Cond.soleField "HintTeam$Hint" "word") ∈ lw_all := lw_g (lw_at lw_m6 235 rfl) rfl
theorem q1584 : (Jvm.Cond.laysFinal "HintTeam$Hint" "HintTeam$Hint" "value" "I") ∈ lw_all := lw_g (lw_at lw_m6 236 rfl) rfl
theorem q1585 : (Jvm.Cond.soleField "HintTeam$Hint" "value") ∈ lw_all := lw_g (lw_at lw_m6 237 rfl) rfl
theorem q1586 : (Jvm.Cond.laysFinal "HintTeam$Hint" "HintTeam$Hint" "this$0" "LHintTeam;") ∈ lw_all := lw_g (lw_at lw_m6 238 rfl) rfl
theorem q1587 : (Jvm.Cond.soleField "HintTeam$Hint" "this$0") ∈ lw_all := lw_g (lw_at lw_m6 239 rfl) rfl
theorem q1588 : (Jvm.Cond.laysFinal "HintTeam$Hint" "HintTeam$Move" "this$0" "LHintTeam;") ∈ lw_all := lw_g (lw_at lw_m7 0 rfl) rfl
theorem q1589 : (Jvm.Cond.superclass "HintTeam$Hint" "HintTeam$Move") ∈ lw_all := lw_g (lw_at lw_m7 1 rfl) rfl
theorem q2424 : (Jvm.Cond.selects "HintTeam$Hint" ({ cls := "HintTeam$Move", name := "run", desc := "()V" } : Jvm.MethodName) ({ cls := "HintTeam$Hint", name := "run", desc := "()V" } : Jvm.MethodName)) ∈ lw_all := lw_g (lw_at lw_m10 116 rfl) rfl
theorem q2425 : (Jvm.Cond.instanceMethod ({ cls := "HintTeam$Hint", name := "run", desc := "()V" } : Jvm.MethodName)) ∈ lw_all := lw_g (lw_at lw_m10 117 rfl) rfl
theorem q2426 : (Jvm.Cond.code ({ cls := "HintTeam$Hint", name := "run", desc := "()V" } : Jvm.MethodName) prog_8_method_3_code (2 : Nat) (Option.none : Option Jvm.ClassFile.FieldType)) ∈ lw_all := lw_g (lw_at lw_m10 118 rfl) rfl
theorem q2427 : (Jvm.Cond.methodLink "HintTeam$Hint" (29 : Nat) ({ cls := "HintTeam$Table", name := "hint", desc := "(III)I" } : Jvm.MethodName)) ∈ lw_all := lw_g (lw_at lw_m10 119 rfl) rfl
theorem q2819 : (Jvm.Cond.selects "HintTeam$Hint" ({ cls := "HintTeam$Move", name := "kind", desc := "()I" } : Jvm.MethodName) ({ cls := "HintTeam$Hint", name := "kind", desc := "()I" } : Jvm.MethodName)) ∈ lw_all := lw_g (lw_at lw_m12 31 rfl) rfl
theorem q2820 : (Jvm.Cond.instanceMethod ({ cls := "HintTeam$Hint", name := "kind", desc := "()I" } : Jvm.MethodName)) ∈ lw_all := lw_g (lw_at lw_m12 32 rfl) rfl
theorem q2821 : (Jvm.Cond.code ({ cls := "HintTeam$Hint", name := "kind", desc := "()I" } : Jvm.MethodName) prog_8_method_2_code (1 : Nat) (Option.some Jvm.ClassFile.FieldType.int)) ∈ lw_all := lw_g (lw_at lw_m12 33 rfl) rfl
theorem q2829 : (Jvm.Cond.selects "HintTeam$Hint" ({ cls := "HintTeam$Move", name := "part", desc := "(I)I" } : Jvm.MethodName) ({ cls := "HintTeam$Hint", name := "part", desc := "(I)I" } : Jvm.MethodName)) ∈ lw_all := lw_g (lw_at lw_m12 41 rfl) rfl
theorem q2830 : (Jvm.Cond.instanceMethod ({ cls := "HintTeam$Hint", name := "part", desc := "(I)I" } : Jvm.MethodName)) ∈ lw_all := lw_g (lw_at lw_m12 42 rfl) rfl
theorem q2831 : (Jvm.Cond.code ({ cls := "HintTeam$Hint", name := "part", desc := "(I)I" } : Jvm.MethodName) prog_8_method_4_code (2 : Nat) (Option.some Jvm.ClassFile.FieldType.int)) ∈ lw_all := lw_g (lw_at lw_m12 43 rfl) rfl
theorem q3656 : (Jvm.Cond.castable "HintTeam$Hint" "java/lang/Object") ∈ lw_tbl := lw_at lw_m15 148 rfl
theorem in_X11 : ∀ w ∈ wsX110, w ∈ lw_all := lw_in wsX110 [1588, 1580, 1582, 1584, 1586] (by decide +kernel) (by decide +kernel)
/-! jdk/internal/misc/Unsafe -/
def RJ33 : String := "jdk/internal/misc/Unsafe"
abbrev cJ33_getLongUnaligned : ByteArray := prog_78_method_334_code
def yJ33_getLongUnaligned : MethodName := ⟨RJ33, "getLongUnaligned", "(Ljava/lang/Object;J)J"⟩
abbrev cJ33_makeLong : ByteArray := prog_78_method_353_code
def yJ33_makeLong : MethodName := ⟨RJ33, "makeLong", "(II)J"⟩
abbrev cJ33_toUnsignedLong : ByteArray := prog_78_method_370_code
def yJ33_toUnsignedLong : MethodName := ⟨RJ33, "toUnsignedLong", "(I)J"⟩
abbrev cJ33_pickPos : ByteArray := prog_78_method_350_code
def yJ33_pickPos : MethodName := ⟨RJ33, "pickPos", "(II)I"⟩
abbrev cJ33_makeLong_2 : ByteArray := prog_78_method_352_code
def yJ33_makeLong_2 : MethodName := ⟨RJ33, "makeLong", "(SSSS)J"⟩
abbrev cJ33_toUnsignedLong_2 : ByteArray := prog_78_method_369_code
def yJ33_toUnsignedLong_2 : MethodName := ⟨RJ33, "toUnsignedLong", "(S)J"⟩
abbrev cJ33_makeLong_3 : ByteArray := prog_78_method_351_code
def yJ33_makeLong_3 : MethodName := ⟨RJ33, "makeLong", "(BBBBBBBB)J"⟩
abbrev cJ33_toUnsignedLong_3 : ByteArray := prog_78_method_368_code
def yJ33_toUnsignedLong_3 : MethodName := ⟨RJ33, "toUnsignedLong", "(B)J"⟩
abbrev cJ33_getIntUnaligned : ByteArray := prog_78_method_336_code
def yJ33_getIntUnaligned : MethodName := ⟨RJ33, "getIntUnaligned", "(Ljava/lang/Object;J)I"⟩
abbrev cJ33_makeInt : ByteArray := prog_78_method_354_code
def yJ33_makeInt : MethodName := ⟨RJ33, "makeInt", "(SS)I"⟩
abbrev cJ33_toUnsignedInt : ByteArray := prog_78_method_367_code
def yJ33_toUnsignedInt : MethodName := ⟨RJ33, "toUnsignedInt", "(S)I"⟩
abbrev cJ33_makeInt_2 : ByteArray := prog_78_method_355_code
def yJ33_makeInt_2 : MethodName := ⟨RJ33, "makeInt", "(BBBB)I"⟩
abbrev cJ33_toUnsignedInt_2 : ByteArray := prog_78_method_366_code
def yJ33_toUnsignedInt_2 : MethodName := ⟨RJ33, "toUnsignedInt", "(B)I"⟩
theorem q196 : (Jvm.Cond.initialized "jdk/internal/misc/Unsafe") ∈ lw_all := lw_g (lw_at lw_m1 48 rfl) rfl
theorem q1226 : (Jvm.Cond.selects "jdk/internal/misc/Unsafe" ({ cls := "java/lang/Object", name := "getClass", desc := "()Ljava/lang/Class;" } : Jvm.MethodName) ({ cls := "java/lang/Object", name := "getClass", desc := "()Ljava/lang/Class;" } : Jvm.MethodName)) ∈ lw_all := lw_g (lw_at lw_m5 118 rfl) rfl
theorem q1785 : (Jvm.Cond.laysStatic "jdk/internal/misc/Unsafe" "ARRAY_BYTE_BASE_OFFSET" "I") ∈ lw_tbl := lw_at lw_m7 197 rfl
theorem q1796 : (Jvm.Cond.instanceMethod ({ cls := "jdk/internal/misc/Unsafe", name := "getLongUnaligned", desc := "(Ljava/lang/Object;J)J" } : Jvm.MethodName)) ∈ lw_all := lw_g (lw_at lw_m7 208 rfl) rfl
theorem q1797 : (Jvm.Cond.selects "jdk/internal/misc/Unsafe" ({ cls := "jdk/internal/misc/Unsafe", name := "getLongUnaligned", desc := "(Ljava/lang/Object;J)J" } : Jvm.MethodName) ({ cls := "jdk/internal/misc/Unsafe", name := "getLongUnaligned", desc := "(Ljava/lang/Object;J)J" } : Jvm.MethodName)) ∈ lw_all := lw_g (lw_at lw_m7 209 rfl) rfl
theorem q1798 : (Jvm.Cond.code ({ cls := "jdk/internal/misc/Unsafe", name := "getLongUnaligned", desc := "(Ljava/lang/Object;J)J" } : Jvm.MethodName) prog_78_method_334_code (4 : Nat) (Option.some Jvm.ClassFile.FieldType.long)) ∈ lw_all := lw_g (lw_at lw_m7 210 rfl) rfl
theorem q1799 : (Jvm.Cond.constantLong "jdk/internal/misc/Unsafe" (696 : Nat) (7 : Int64)) ∈ lw_all := lw_g (lw_at lw_m7 211 rfl) rfl
theorem q1800 : (Jvm.Cond.methodLink "jdk/internal/misc/Unsafe" (27 : Nat) ({ cls := "jdk/internal/misc/Unsafe", name := "getLong", desc := "(Ljava/lang/Object;J)J" } : Jvm.MethodName)) ∈ lw_all := lw_g (lw_at lw_m7 212 rfl) rfl
theorem q1801 : (Jvm.Cond.instanceMethod ({ cls := "jdk/internal/misc/Unsafe", name := "getLong", desc := "(Ljava/lang/Object;J)J" } : Jvm.MethodName)) ∈ lw_all := lw_g (lw_at lw_m7 213 rfl) rfl
theorem q1802 : (Jvm.Cond.selects "jdk/internal/misc/Unsafe" ({ cls := "jdk/internal/misc/Unsafe", name := "getLong", desc := "(Ljava/lang/Object;J)J" } : Jvm.MethodName) ({ cls := "jdk/internal/misc/Unsafe", name := "getLong", desc := "(Ljava/lang/Object;J)J" } : Jvm.MethodName)) ∈ lw_all := lw_g (lw_at lw_m7 214 rfl) rfl
theorem q1803 : (Jvm.Cond.native ({ cls := "jdk/internal/misc/Unsafe", name := "getLong", desc := "(Ljava/lang/Object;J)J" } : Jvm.MethodName)) ∈ lw_all := lw_g (lw_at lw_m7 215 rfl) rfl
theorem q1804 : (Jvm.Cond.constantLong "jdk/internal/misc/Unsafe" (349 : Nat) (3 : Int64)) ∈ lw_all := lw_g (lw_at lw_m7 216 rfl) rfl
theorem q1805 : (Jvm.Cond.methodLink "jdk/internal/misc/Unsafe" (17 : Nat) ({ cls := "jdk/internal/misc/Unsafe", name := "getInt", desc := "(Ljava/lang/Object;J)I" } : Jvm.MethodName)) ∈ lw_all := lw_g (lw_at lw_m7 217 rfl) rfl
theorem q1806 : (Jvm.Cond.instanceMethod ({ cls := "jdk/internal/misc/Unsafe", name := "getInt", desc := "(Ljava/lang/Object;J)I" } : Jvm.MethodName)) ∈ lw_all := lw_g (lw_at lw_m7 218 rfl) rfl
theorem q1807 : (Jvm.Cond.selects "jdk/internal/misc/Unsafe" ({ cls := "jdk/internal/misc/Unsafe", name := "getInt", desc := "(Ljava/lang/Object;J)I" } : Jvm.MethodName) ({ cls := "jdk/internal/misc/Unsafe", name := "getInt", desc := "(Ljava/lang/Object;J)I" } : Jvm.MethodName)) ∈ lw_all := lw_g (lw_at lw_m7 219 rfl) rfl
theorem q1808 : (Jvm.Cond.native ({ cls := "jdk/internal/misc/Unsafe", name := "getInt", desc := "(Ljava/lang/Object;J)I" } : Jvm.MethodName)) ∈ lw_all := lw_g (lw_at lw_m7 220 rfl) rfl
theorem q1809 : (Jvm.Cond.constantLong "jdk/internal/misc/Unsafe" (205 : Nat) (4 : Int64)) ∈ lw_all := lw_g (lw_at lw_m7 221 rfl) rfl
theorem q1810 : (Jvm.Cond.methodLink "jdk/internal/misc/Unsafe" (698 : Nat) ({ cls := "jdk/internal/misc/Unsafe", name := "makeLong", desc := "(II)J" } : Jvm.MethodName)) ∈ lw_all := lw_g (lw_at lw_m7 222 rfl) rfl
theorem q1811 : (Jvm.Cond.static ({ cls := "jdk/internal/misc/Unsafe", name := "makeLong", desc := "(II)J" } : Jvm.MethodName)) ∈ lw_all := lw_g (lw_at lw_m7 223 rfl) rfl
theorem q1812 : (Jvm.Cond.code ({ cls := "jdk/internal/misc/Unsafe", name := "makeLong", desc := "(II)J" } : Jvm.MethodName) prog_78_method_353_code (2 : Nat) (Option.some Jvm.ClassFile.FieldType.long)) ∈ lw_all := lw_g (lw_at lw_m7 224 rfl) rfl
theorem q1813 : (Jvm.Cond.methodLink "jdk/internal/misc/Unsafe" (791 : Nat) ({ cls := "jdk/internal/misc/Unsafe", name := "toUnsignedLong", desc := "(I)J" } : Jvm.MethodName)) ∈ lw_all := lw_g (lw_at lw_m7 225 rfl) rfl
theorem q1814 : (Jvm.Cond.static ({ cls := "jdk/internal/misc/Unsafe", name := "toUnsignedLong", desc := "(I)J" } : Jvm.MethodName)) ∈ lw_all := lw_g (lw_at lw_m7 226 rfl) rfl
theorem q1815 : (Jvm.Cond.code ({ cls := "jdk/internal/misc/Unsafe", name := "toUnsignedLong", desc := "(I)J" } : Jvm.MethodName) prog_78_method_370_code (1 : Nat) (Option.some Jvm.ClassFile.FieldType.long)) ∈ lw_all := lw_g (lw_at lw_m7 227 rfl) rfl
theorem q1816 : (Jvm.Cond.constantLong "jdk/internal/misc/Unsafe" (812 : Nat) (4294967295 : Int64)) ∈ lw_all := lw_g (lw_at lw_m7 228 rfl) rfl
theorem q1817 : (Jvm.Cond.methodLink "jdk/internal/misc/Unsafe" (784 : Nat) ({ cls := "jdk/internal/misc/Unsafe", name := "pickPos", desc := "(II)I" } : Jvm.MethodName)) ∈ lw_all := lw_g (lw_at lw_m7 229 rfl) rfl
theorem q1818 : (Jvm.Cond.static ({ cls := "jdk/internal/misc/Unsafe", name := "pickPos", desc := "(II)I" } : Jvm.MethodName)) ∈ lw_all := lw_g (lw_at lw_m7 230 rfl) rfl
theorem q1819 : (Jvm.Cond.code ({ cls := "jdk/internal/misc/Unsafe", name := "pickPos", desc := "(II)I" } : Jvm.MethodName) prog_78_method_350_code (2 : Nat) (Option.some Jvm.ClassFile.FieldType.int)) ∈ lw_all := lw_g (lw_at lw_m7 231 rfl) rfl
theorem q1820 : (Jvm.Cond.fieldLink "jdk/internal/misc/Unsafe" (351 : Nat) "jdk/internal/misc/UnsafeConstants" "BIG_ENDIAN" "Z") ∈ lw_all := lw_g (lw_at lw_m7 232 rfl) rfl
theorem q1822 : (Jvm.Cond.methodLink "jdk/internal/misc/Unsafe" (47 : Nat) ({ cls := "jdk/internal/misc/Unsafe", name := "getShort", desc := "(Ljava/lang/Object;J)S" } : Jvm.MethodName)) ∈ lw_all := lw_g (lw_at lw_m7 234 rfl) rfl
theorem q1823 : (Jvm.Cond.instanceMethod ({ cls := "jdk/internal/misc/Unsafe", name := "getShort", desc := "(Ljava/lang/Object;J)S" } : Jvm.MethodName)) ∈ lw_all := lw_g (lw_at lw_m7 235 rfl) rfl
theorem q1824 : (Jvm.Cond.selects "jdk/internal/misc/Unsafe" ({ cls := "jdk/internal/misc/Unsafe", name := "getShort", desc := "(Ljava/lang/Object;J)S" } : Jvm.MethodName) ({ cls := "jdk/internal/misc/Unsafe", name := "getShort", desc := "(Ljava/lang/Object;J)S" } : Jvm.MethodName)) ∈ lw_all := lw_g (lw_at lw_m7 236 rfl) rfl
theorem q1825 : (Jvm.Cond.native ({ cls := "jdk/internal/misc/Unsafe", name := "getShort", desc := "(Ljava/lang/Object;J)S" } : Jvm.MethodName)) ∈ lw_all := lw_g (lw_at lw_m7 237 rfl) rfl
theorem q1826 : (Jvm.Cond.constantLong "jdk/internal/misc/Unsafe" (203 : Nat) (2 : Int64)) ∈ lw_all := lw_g (lw_at lw_m7 238 rfl) rfl
theorem q1827 : (Jvm.Cond.constantLong "jdk/internal/misc/Unsafe" (702 : Nat) (6 : Int64)) ∈ lw_all := lw_g (lw_at lw_m7 239 rfl) rfl
theorem q1828 : (Jvm.Cond.methodLink "jdk/internal/misc/Unsafe" (704 : Nat) ({ cls := "jdk/internal/misc/Unsafe", name := "makeLong", desc := "(SSSS)J" } : Jvm.MethodName)) ∈ lw_all := lw_g (lw_at lw_m8 0 rfl) rfl
theorem q1829 : (Jvm.Cond.static ({ cls := "jdk/internal/misc/Unsafe", name := "makeLong", desc := "(SSSS)J" } : Jvm.MethodName)) ∈ lw_all := lw_g (lw_at lw_m8 1 rfl) rfl
theorem q1830 : (Jvm.Cond.code ({ cls := "jdk/internal/misc/Unsafe", name := "makeLong", desc := "(SSSS)J" } : Jvm.MethodName) prog_78_method_352_code (4 : Nat) (Option.some Jvm.ClassFile.FieldType.long)) ∈ lw_all := lw_g (lw_at lw_m8 2 rfl) rfl
theorem q1831 : (Jvm.Cond.methodLink "jdk/internal/misc/Unsafe" (788 : Nat) ({ cls := "jdk/internal/misc/Unsafe", name := "toUnsignedLong", desc := "(S)J" } : Jvm.MethodName)) ∈ lw_all := lw_g (lw_at lw_m8 3 rfl) rfl
theorem q1832 : (Jvm.Cond.static ({ cls := "jdk/internal/misc/Unsafe", name := "toUnsignedLong", desc := "(S)J" } : Jvm.MethodName)) ∈ lw_all := lw_g (lw_at lw_m8 4 rfl) rfl
theorem q1833 : (Jvm.Cond.code ({ cls := "jdk/internal/misc/Unsafe", name := "toUnsignedLong", desc := "(S)J" } : Jvm.MethodName) prog_78_method_369_code (1 : Nat) (Option.some Jvm.ClassFile.FieldType.long)) ∈ lw_all := lw_g (lw_at lw_m8 5 rfl) rfl
theorem q1834 : (Jvm.Cond.constantLong "jdk/internal/misc/Unsafe" (810 : Nat) (65535 : Int64)) ∈ lw_all := lw_g (lw_at lw_m8 6 rfl) rfl
theorem q1835 : (Jvm.Cond.methodLink "jdk/internal/misc/Unsafe" (39 : Nat) ({ cls := "jdk/internal/misc/Unsafe", name := "getByte", desc := "(Ljava/lang/Object;J)B" } : Jvm.MethodName)) ∈ lw_all := lw_g (lw_at lw_m8 7 rfl) rfl
theorem q1836 : (Jvm.Cond.instanceMethod ({ cls := "jdk/internal/misc/Unsafe", name := "getByte", desc := "(Ljava/lang/Object;J)B" } : Jvm.MethodName)) ∈ lw_all := lw_g (lw_at lw_m8 8 rfl) rfl
theorem q1837 : (Jvm.Cond.selects "jdk/internal/misc/Unsafe" ({ cls := "jdk/internal/misc/Unsafe", name := "getByte", desc := "(Ljava/lang/Object;J)B" } : Jvm.MethodName) ({ cls := "jdk/internal/misc/Unsafe", name := "getByte", desc := "(Ljava/lang/Object;J)B" } : Jvm.MethodName)) ∈ lw_all := lw_g (lw_at lw_m8 9 rfl) rfl
theorem q1838 : (Jvm.Cond.native ({ cls := "jdk/internal/misc/Unsafe", name := "getByte", desc := "(Ljava/lang/Object;J)B" } : Jvm.MethodName)) ∈ lw_all := lw_g (lw_at lw_m8 10 rfl) rfl
theorem q1839 : (Jvm.Cond.constantLong "jdk/internal/misc/Unsafe" (707 : Nat) (5 : Int64)) ∈ lw_all := lw_g (lw_at lw_m8 11 rfl) rfl
theorem q1840 : (Jvm.Cond.methodLink "jdk/internal/misc/Unsafe" (709 : Nat) ({ cls := "jdk/internal/misc/Unsafe", name := "makeLong", desc := "(BBBBBBBB)J" } : Jvm.MethodName)) ∈ lw_all := lw_g (lw_at lw_m8 12 rfl) rfl
theorem q1841 : (Jvm.Cond.static ({ cls := "jdk/internal/misc/Unsafe", name := "makeLong", desc := "(BBBBBBBB)J" } : Jvm.MethodName)) ∈ lw_all := lw_g (lw_at lw_m8 13 rfl) rfl
theorem q1842 : (Jvm.Cond.code ({ cls := "jdk/internal/misc/Unsafe", name := "makeLong", desc := "(BBBBBBBB)J" } : Jvm.MethodName) prog_78_method_351_code (8 : Nat) (Option.some Jvm.ClassFile.FieldType.long)) ∈ lw_all := lw_g (lw_at lw_m8 14 rfl) rfl
theorem q1843 : (Jvm.Cond.methodLink "jdk/internal/misc/Unsafe" (781 : Nat) ({ cls := "jdk/internal/misc/Unsafe", name := "toUnsignedLong", desc := "(B)J" } : Jvm.MethodName)) ∈ lw_all := lw_g (lw_at lw_m8 15 rfl) rfl
theorem q1844 : (Jvm.Cond.static ({ cls := "jdk/internal/misc/Unsafe", name := "toUnsignedLong", desc := "(B)J" } : Jvm.MethodName)) ∈ lw_all := lw_g (lw_at lw_m8 16 rfl) rfl
theorem q1845 : (Jvm.Cond.code ({ cls := "jdk/internal/misc/Unsafe", name := "toUnsignedLong", desc := "(B)J" } : Jvm.MethodName) prog_78_method_368_code (1 : Nat) (Option.some Jvm.ClassFile.FieldType.long)) ∈ lw_all := lw_g (lw_at lw_m8 17 rfl) rfl
theorem q1846 : (Jvm.Cond.constantLong "jdk/internal/misc/Unsafe" (808 : Nat) (255 : Int64)) ∈ lw_all := lw_g (lw_at lw_m8 18 rfl) rfl
theorem q1867 : (Jvm.Cond.instanceMethod ({ cls := "jdk/internal/misc/Unsafe", name := "getIntUnaligned", desc := "(Ljava/lang/Object;J)I" } : Jvm.MethodName)) ∈ lw_all := lw_g (lw_at lw_m8 39 rfl) rfl
theorem q1868 : (Jvm.Cond.selects "jdk/internal/misc/Unsafe" ({ cls := "jdk/internal/misc/Unsafe", name := "getIntUnaligned", desc := "(Ljava/lang/Object;J)I" } : Jvm.MethodName) ({ cls := "jdk/internal/misc/Unsafe", name := "getIntUnaligned", desc := "(Ljava/lang/Object;J)I" } : Jvm.MethodName)) ∈ lw_all := lw_g (lw_at lw_m8 40 rfl) rfl
theorem q1869 : (Jvm.Cond.code ({ cls := "jdk/internal/misc/Unsafe", name := "getIntUnaligned", desc := "(Ljava/lang/Object;J)I" } : Jvm.MethodName) prog_78_method_336_code (4 : Nat) (Option.some Jvm.ClassFile.FieldType.int)) ∈ lw_all := lw_g (lw_at lw_m8 41 rfl) rfl
theorem q1870 : (Jvm.Cond.methodLink "jdk/internal/misc/Unsafe" (719 : Nat) ({ cls := "jdk/internal/misc/Unsafe", name := "makeInt", desc := "(SS)I" } : Jvm.MethodName)) ∈ lw_all := lw_g (lw_at lw_m8 42 rfl) rfl
theorem q1871 : (Jvm.Cond.static ({ cls := "jdk/internal/misc/Unsafe", name := "makeInt", desc := "(SS)I" } : Jvm.MethodName)) ∈ lw_all := lw_g (lw_at lw_m8 43 rfl) rfl
theorem q1872 : (Jvm.Cond.code ({ cls := "jdk/internal/misc/Unsafe", name := "makeInt", desc := "(SS)I" } : Jvm.MethodName) prog_78_method_354_code (2 : Nat) (Option.some Jvm.ClassFile.FieldType.int)) ∈ lw_all := lw_g (lw_at lw_m8 44 rfl) rfl
theorem q1873 : (Jvm.Cond.methodLink "jdk/internal/misc/Unsafe" (792 : Nat) ({ cls := "jdk/internal/misc/Unsafe", name := "toUnsignedInt", desc := "(S)I" } : Jvm.MethodName)) ∈ lw_all := lw_g (lw_at lw_m8 45 rfl) rfl
theorem q1874 : (Jvm.Cond.static ({ cls := "jdk/internal/misc/Unsafe", name := "toUnsignedInt", desc := "(S)I" } : Jvm.MethodName)) ∈ lw_all := lw_g (lw_at lw_m8 46 rfl) rfl
theorem q1875 : (Jvm.Cond.code ({ cls := "jdk/internal/misc/Unsafe", name := "toUnsignedInt", desc := "(S)I" } : Jvm.MethodName) prog_78_method_367_code (1 : Nat) (Option.some Jvm.ClassFile.FieldType.int)) ∈ lw_all := lw_g (lw_at lw_m8 47 rfl) rfl
theorem q1876 : (Jvm.Cond.constant "jdk/internal/misc/Unsafe" (374 : Nat) (65535 : Int32)) ∈ lw_all := lw_g (lw_at lw_m8 48 rfl) rfl
theorem q1877 : (Jvm.Cond.methodLink "jdk/internal/misc/Unsafe" (723 : Nat) ({ cls := "jdk/internal/misc/Unsafe", name := "makeInt", desc := "(BBBB)I" } : Jvm.MethodName)) ∈ lw_all := lw_g (lw_at lw_m8 49 rfl) rfl
theorem q1878 : (Jvm.Cond.static ({ cls := "jdk/internal/misc/Unsafe", name := "makeInt", desc := "(BBBB)I" } : Jvm.MethodName)) ∈ lw_all := lw_g (lw_at lw_m8 50 rfl) rfl
theorem q1879 : (Jvm.Cond.code ({ cls := "jdk/internal/misc/Unsafe", name := "makeInt", desc := "(BBBB)I" } : Jvm.MethodName) prog_78_method_355_code (4 : Nat) (Option.some Jvm.ClassFile.FieldType.int)) ∈ lw_all := lw_g (lw_at lw_m8 51 rfl) rfl
theorem q1880 : (Jvm.Cond.methodLink "jdk/internal/misc/Unsafe" (796 : Nat) ({ cls := "jdk/internal/misc/Unsafe", name := "toUnsignedInt", desc := "(B)I" } : Jvm.MethodName)) ∈ lw_all := lw_g (lw_at lw_m8 52 rfl) rfl
theorem q1881 : (Jvm.Cond.static ({ cls := "jdk/internal/misc/Unsafe", name := "toUnsignedInt", desc := "(B)I" } : Jvm.MethodName)) ∈ lw_all := lw_g (lw_at lw_m8 53 rfl) rfl
theorem q1882 : (Jvm.Cond.code ({ cls := "jdk/internal/misc/Unsafe", name := "toUnsignedInt", desc := "(B)I" } : Jvm.MethodName) prog_78_method_366_code (1 : Nat) (Option.some Jvm.ClassFile.FieldType.int)) ∈ lw_all := lw_g (lw_at lw_m8 54 rfl) rfl
theorem q3650 : (Jvm.Cond.castable "jdk/internal/misc/Unsafe" "java/lang/Object") ∈ lw_tbl := lw_at lw_m15 142 rfl
/-! java/lang/Long -/
def RJ34 : String := "java/lang/Long"
abbrev cJ34_numberOfLeadingZeros : ByteArray := prog_29_method_48_code
def yJ34_numberOfLeadingZeros : MethodName := ⟨RJ34, "numberOfLeadingZeros", "(J)I"⟩
abbrev cJ34_numberOfTrailingZeros : ByteArray := prog_29_method_49_code
def yJ34_numberOfTrailingZeros : MethodName := ⟨RJ34, "numberOfTrailingZeros", "(J)I"⟩
abbrev cJ34_bitCount : ByteArray := prog_29_method_50_code
def yJ34_bitCount : MethodName := ⟨RJ34, "bitCount", "(J)I"⟩
theorem q198 : (Jvm.Cond.initialized "java/lang/Long") ∈ lw_all := lw_g (lw_at lw_m1 50 rfl) rfl
theorem q1850 : (Jvm.Cond.static ({ cls := "java/lang/Long", name := "numberOfLeadingZeros", desc := "(J)I" } : Jvm.MethodName)) ∈ lw_all := lw_g (lw_at lw_m8 22 rfl) rfl
theorem q1851 : (Jvm.Cond.code ({ cls := "java/lang/Long", name := "numberOfLeadingZeros", desc := "(J)I" } : Jvm.MethodName) prog_29_method_48_code (3 : Nat) (Option.some Jvm.ClassFile.FieldType.int)) ∈ lw_all := lw_g (lw_at lw_m8 23 rfl) rfl
theorem q1852 : (Jvm.Cond.methodLink "java/lang/Long" (308 : Nat) ({ cls := "java/lang/Integer", name := "numberOfLeadingZeros", desc := "(I)I" } : Jvm.MethodName)) ∈ lw_all := lw_g (lw_at lw_m8 24 rfl) rfl
theorem q1859 : (Jvm.Cond.static ({ cls := "java/lang/Long", name := "numberOfTrailingZeros", desc := "(J)I" } : Jvm.MethodName)) ∈ lw_all := lw_g (lw_at lw_m8 31 rfl) rfl
theorem q1860 : (Jvm.Cond.code ({ cls := "java/lang/Long", name := "numberOfTrailingZeros", desc := "(J)I" } : Jvm.MethodName) prog_29_method_49_code (3 : Nat) (Option.some Jvm.ClassFile.FieldType.int)) ∈ lw_all := lw_g (lw_at lw_m8 32 rfl) rfl
theorem q1861 : (Jvm.Cond.methodLink "java/lang/Long" (311 : Nat) ({ cls := "java/lang/Integer", name := "numberOfTrailingZeros", desc := "(I)I" } : Jvm.MethodName)) ∈ lw_all := lw_g (lw_at lw_m8 33 rfl) rfl
theorem q2726 : (Jvm.Cond.static ({ cls := "java/lang/Long", name := "bitCount", desc := "(J)I" } : Jvm.MethodName)) ∈ lw_all := lw_g (lw_at lw_m11 178 rfl) rfl
theorem q2727 : (Jvm.Cond.code ({ cls := "java/lang/Long", name := "bitCount", desc := "(J)I" } : Jvm.MethodName) prog_29_method_50_code (2 : Nat) (Option.some Jvm.ClassFile.FieldType.int)) ∈ lw_all := lw_g (lw_at lw_m11 179 rfl) rfl
theorem q2728 : (Jvm.Cond.constantLong "java/lang/Long" (314 : Nat) (6148914691236517205 : Int64)) ∈ lw_all := lw_g (lw_at lw_m11 180 rfl) rfl
theorem q2729 : (Jvm.Cond.constantLong "java/lang/Long" (316 : Nat) (3689348814741910323 : Int64)) ∈ lw_all := lw_g (lw_at lw_m11 181 rfl) rfl
theorem q2730 : (Jvm.Cond.constantLong "java/lang/Long" (318 : Nat) (1085102592571150095 : Int64)) ∈ lw_all := lw_g (lw_at lw_m11 182 rfl) rfl
/-! java/util/TreeMap$Entry -/
def RJ35 : String := "java/util/TreeMap$Entry"
def TJ35 : u_T := fun k => match k with
  | 0 => ("java/util/TreeMap$Entry", "key", "Ljava/lang/Object;", false)
  | 1 => ("java/util/TreeMap$Entry", "value", "Ljava/lang/Object;", false)
  | 2 => ("java/util/TreeMap$Entry", "left", "Ljava/util/TreeMap$Entry;", false)
  | 3 => ("java/util/TreeMap$Entry", "right", "Ljava/util/TreeMap$Entry;", false)
  | 4 => ("java/util/TreeMap$Entry", "parent", "Ljava/util/TreeMap$Entry;", false)
  | _ => ("java/util/TreeMap$Entry", "color", "Z", false)
def tyJ35 : Nat → FieldType := fun k => match k with
  | 0 => .object "java/lang/Object"
  | 1 => .object "java/lang/Object"
  | 2 => .object "java/util/TreeMap$Entry"
  | 3 => .object "java/util/TreeMap$Entry"
  | 4 => .object "java/util/TreeMap$Entry"
  | _ => .boolean
abbrev wsJ350 : List Cond := u_ws RJ35 TJ35 6
theorem nmJ35 : ∀ a, a < 6 → ∀ b, b < 6 → a ≠ b → (TJ35 a).2.1 ≠ (TJ35 b).2.1 := by decide +kernel
theorem tyJ35_ok : ∀ k, k < 6 → parseFieldDescriptor (TJ35 k).2.2.1 = some (tyJ35 k) := by decide +kernel
abbrev cJ35_init : ByteArray := prog_76_method_1_code
def yJ35_init : MethodName := ⟨RJ35, "<init>", "(Ljava/lang/Object;Ljava/lang/Object;Ljava/util/TreeMap$Entry;)V"⟩
theorem q199 : (Jvm.Cond.initialized "java/util/TreeMap$Entry") ∈ lw_all := lw_g (lw_at lw_m1 51 rfl) rfl
theorem q1225 : (Jvm.Cond.selects "java/util/TreeMap$Entry" ({ cls := "java/lang/Object", name := "getClass", desc := "()Ljava/lang/Class;" } : Jvm.MethodName) ({ cls := "java/lang/Object", name := "getClass", desc := "()Ljava/lang/Class;" } : Jvm.MethodName)) ∈ lw_all := lw_g (lw_at lw_m5 117 rfl) rfl
theorem q1964 : (Jvm.Cond.instantiable "java/util/TreeMap$Entry" (6 : Nat)) ∈ lw_all := lw_g (lw_at lw_m8 136 rfl) rfl
theorem q1966 : (Jvm.Cond.instanceMethod ({ cls := "java/util/TreeMap$Entry", name := "<init>", desc := "(Ljava/lang/Object;Ljava/lang/Object;Ljava/util/TreeMap$Entry;)V" } : Jvm.MethodName)) ∈ lw_all := lw_g (lw_at lw_m8 138 rfl) rfl
theorem q1967 : (Jvm.Cond.code ({ cls := "java/util/TreeMap$Entry", name := "<init>", desc := "(Ljava/lang/Object;Ljava/lang/Object;Ljava/util/TreeMap$Entry;)V" } : Jvm.MethodName) prog_76_method_1_code (4 : Nat) (Option.none : Option Jvm.ClassFile.FieldType)) ∈ lw_all := lw_g (lw_at lw_m8 139 rfl) rfl
theorem q1968 : (Jvm.Cond.methodLink "java/util/TreeMap$Entry" (3 : Nat) ({ cls := "java/lang/Object", name := "<init>", desc := "()V" } : Jvm.MethodName)) ∈ lw_all := lw_g (lw_at lw_m8 140 rfl) rfl
theorem q1969 : (Jvm.Cond.fieldLink "java/util/TreeMap$Entry" (15 : Nat) "java/util/TreeMap$Entry" "key" "Ljava/lang/Object;") ∈ lw_all := lw_g (lw_at lw_m8 141 rfl) rfl
theorem q1971 : (Jvm.Cond.fieldLink "java/util/TreeMap$Entry" (19 : Nat) "java/util/TreeMap$Entry" "value" "Ljava/lang/Object;") ∈ lw_all := lw_g (lw_at lw_m8 143 rfl) rfl
theorem q1975 : (Jvm.Cond.fieldLink "java/util/TreeMap$Entry" (22 : Nat) "java/util/TreeMap$Entry" "parent" "Ljava/util/TreeMap$Entry;") ∈ lw_all := lw_g (lw_at lw_m8 147 rfl) rfl
theorem q1977 : (Jvm.Cond.fieldLink "java/util/TreeMap$Entry" (9 : Nat) "java/util/TreeMap$Entry" "color" "Z") ∈ lw_all := lw_g (lw_at lw_m8 149 rfl) rfl
theorem q1979 : (Jvm.Cond.lays "java/util/TreeMap$Entry" "java/util/TreeMap$Entry" "key" "Ljava/lang/Object;") ∈ lw_all := lw_g (lw_at lw_m8 151 rfl) rfl
theorem q1980 : (Jvm.Cond.soleField "java/util/TreeMap$Entry" "key") ∈ lw_all := lw_g (lw_at lw_m8 152 rfl) rfl
theorem q1981 : (Jvm.Cond.lays "java/util/TreeMap$Entry" "java/util/TreeMap$Entry" "value" "Ljava/lang/Object;") ∈ lw_all := lw_g (lw_at lw_m8 153 rfl) rfl
theorem q1982 : (Jvm.Cond.soleField "java/util/TreeMap$Entry" "value") ∈ lw_all := lw_g (lw_at lw_m8 154 rfl) rfl
theorem q1983 : (Jvm.Cond.lays "java/util/TreeMap$Entry" "java/util/TreeMap$Entry" "left" "Ljava/util/TreeMap$Entry;") ∈ lw_all := lw_g (lw_at lw_m8 155 rfl) rfl
theorem q1984 : (Jvm.Cond.soleField "java/util/TreeMap$Entry" "left") ∈ lw_all := lw_g (lw_at lw_m8 156 rfl) rfl
theorem q1985 : (Jvm.Cond.lays "java/util/TreeMap$Entry" "java/util/TreeMap$Entry" "right" "Ljava/util/TreeMap$Entry;") ∈ lw_all := lw_g (lw_at lw_m8 157 rfl) rfl
theorem q1986 : (Jvm.Cond.soleField "java/util/TreeMap$Entry" "right") ∈ lw_all := lw_g (lw_at lw_m8 158 rfl) rfl
theorem q1987 : (Jvm.Cond.lays "java/util/TreeMap$Entry" "java/util/TreeMap$Entry" "parent" "Ljava/util/TreeMap$Entry;") ∈ lw_all := lw_g (lw_at lw_m8 159 rfl) rfl
theorem q1988 : (Jvm.Cond.soleField "java/util/TreeMap$Entry" "parent") ∈ lw_all := lw_g (lw_at lw_m8 160 rfl) rfl
theorem q1989 : (Jvm.Cond.lays "java/util/TreeMap$Entry" "java/util/TreeMap$Entry" "color" "Z") ∈ lw_all := lw_g (lw_at lw_m8 161 rfl) rfl
theorem q1990 : (Jvm.Cond.soleField "java/util/TreeMap$Entry" "color") ∈ lw_all := lw_g (lw_at lw_m8 162 rfl) rfl
theorem q1991 : (Jvm.Cond.superclass "java/util/TreeMap$Entry" "java/lang/Object") ∈ lw_all := lw_g (lw_at lw_m8 163 rfl) rfl
theorem q3651 : (Jvm.Cond.castable "java/util/TreeMap$Entry" "java/lang/Object") ∈ lw_tbl := lw_at lw_m15 143 rfl
theorem in_J35 : ∀ w ∈ wsJ350, w ∈ lw_all := lw_in wsJ350 [1979, 1981, 1983, 1985, 1987, 1989] (by decide +kernel) (by decide +kernel)
/-! HintTeam$Held -/
def RX12 : String := "HintTeam$Held"
def TX12 : u_T := fun k => match k with
  | 0 => ("HintTeam$Held", "card", "LHintTeam$Card;", true)
  | 1 => ("HintTeam$Held", "colors", "I", false)
  | 2 => ("HintTeam$Held", "ranks", "I", false)
  | _ => ("HintTeam$Held", "isTouched", "Z", false)
def tyX12 : Nat → FieldType := fun k => match k with
  | 0 => .object "HintTeam$Card"
  | 1 => .int
  | 2 => .int
  | _ => .boolean
abbrev wsX120 : List Cond := u_ws RX12 TX12 4
theorem nmX12 : ∀ a, a < 4 → ∀ b, b < 4 → a ≠ b → (TX12 a).2.1 ≠ (TX12 b).2.1 := by decide +kernel
theorem tyX12_ok : ∀ k, k < 4 → parseFieldDescriptor (TX12 k).2.2.1 = some (tyX12 k) := by decide +kernel
abbrev cX12_isOf : ByteArray := prog_7_method_3_code
def yX12_isOf : MethodName := ⟨RX12, "isOf", "(II)Z"⟩
abbrev cX12_init : ByteArray := prog_7_method_1_code
def yX12_init : MethodName := ⟨RX12, "<init>", "(LHintTeam$Card;II)V"⟩
abbrev cX12_copy : ByteArray := prog_7_method_2_code
def yX12_copy : MethodName := ⟨RX12, "copy", "()LHintTeam$Held;"⟩
abbrev cX12_colorsBy : ByteArray := prog_7_method_4_code
def yX12_colorsBy : MethodName := ⟨RX12, "colorsBy", "(II)I"⟩
abbrev cX12_ranksBy : ByteArray := prog_7_method_5_code
def yX12_ranksBy : MethodName := ⟨RX12, "ranksBy", "(II)I"⟩
abbrev cX12_isTold : ByteArray := prog_7_method_6_code
def yX12_isTold : MethodName := ⟨RX12, "isTold", "(II)V"⟩
abbrev cX12_written : ByteArray := prog_7_method_7_code
def yX12_written : MethodName := ⟨RX12, "written", "(Z)Ljava/lang/String;"⟩
theorem q200 : (Jvm.Cond.initialized "HintTeam$Held") ∈ lw_all := lw_g (lw_at lw_m1 52 rfl) rfl
theorem q1199 : (Jvm.Cond.selects "HintTeam$Held" ({ cls := "java/lang/Object", name := "getClass", desc := "()Ljava/lang/Class;" } : Jvm.MethodName) ({ cls := "java/lang/Object", name := "getClass", desc := "()Ljava/lang/Class;" } : Jvm.MethodName)) ∈ lw_all := lw_g (lw_at lw_m5 91 rfl) rfl
theorem q1610 : (Jvm.Cond.instanceMethod ({ cls := "HintTeam$Held", name := "isOf", desc := "(II)Z" } : Jvm.MethodName)) ∈ lw_all := lw_g (lw_at lw_m7 22 rfl) rfl
theorem q1611 : (Jvm.Cond.selects "HintTeam$Held" ({ cls := "HintTeam$Held", name := "isOf", desc := "(II)Z" } : Jvm.MethodName) ({ cls := "HintTeam$Held", name := "isOf", desc := "(II)Z" } : Jvm.MethodName)) ∈ lw_all := lw_g (lw_at lw_m7 23 rfl) rfl
theorem q1612 : (Jvm.Cond.code ({ cls := "HintTeam$Held", name := "isOf", desc := "(II)Z" } : Jvm.MethodName) prog_7_method_3_code (3 : Nat) (Option.some Jvm.ClassFile.FieldType.boolean)) ∈ lw_all := lw_g (lw_at lw_m7 24 rfl) rfl
theorem q1613 : (Jvm.Cond.methodLink "HintTeam$Held" (29 : Nat) ({ cls := "HintTeam$Card", name := "color", desc := "()I" } : Jvm.MethodName)) ∈ lw_all := lw_g (lw_at lw_m7 25 rfl) rfl
theorem q1614 : (Jvm.Cond.methodLink "HintTeam$Held" (35 : Nat) ({ cls := "HintTeam$Card", name := "rank", desc := "()I" } : Jvm.MethodName)) ∈ lw_all := lw_g (lw_at lw_m7 26 rfl) rfl
theorem q2037 : (Jvm.Cond.instantiable "HintTeam$Held" (4 : Nat)) ∈ lw_all := lw_g (lw_at lw_m8 209 rfl) rfl
theorem q2040 : (Jvm.Cond.instanceMethod ({ cls := "HintTeam$Held", name := "<init>", desc := "(LHintTeam$Card;II)V" } : Jvm.MethodName)) ∈ lw_all := lw_g (lw_at lw_m8 212 rfl) rfl
theorem q2041 : (Jvm.Cond.code ({ cls := "HintTeam$Held", name := "<init>", desc := "(LHintTeam$Card;II)V" } : Jvm.MethodName) prog_7_method_1_code (4 : Nat) (Option.none : Option Jvm.ClassFile.FieldType)) ∈ lw_all := lw_g (lw_at lw_m8 213 rfl) rfl
theorem q2042 : (Jvm.Cond.methodLink "HintTeam$Held" (3 : Nat) ({ cls := "java/lang/Object", name := "<init>", desc := "()V" } : Jvm.MethodName)) ∈ lw_all := lw_g (lw_at lw_m8 214 rfl) rfl
theorem q2043 : (Jvm.Cond.fieldLink "HintTeam$Held" (9 : Nat) "HintTeam$Held" "card" "LHintTeam$Card;") ∈ lw_all := lw_g (lw_at lw_m8 215 rfl) rfl
theorem q2047 : (Jvm.Cond.fieldLink "HintTeam$Held" (15 : Nat) "HintTeam$Held" "colors" "I") ∈ lw_all := lw_g (lw_at lw_m8 219 rfl) rfl
theorem q2049 : (Jvm.Cond.fieldLink "HintTeam$Held" (19 : Nat) "HintTeam$Held" "ranks" "I") ∈ lw_all := lw_g (lw_at lw_m8 221 rfl) rfl
theorem q2051 : (Jvm.Cond.fieldLink "HintTeam$Held" (25 : Nat) "HintTeam$Held" "isTouched" "Z") ∈ lw_all := lw_g (lw_at lw_m8 223 rfl) rfl
theorem q2053 : (Jvm.Cond.laysFinal "HintTeam$Held" "HintTeam$Held" "card" "LHintTeam$Card;") ∈ lw_all := lw_g (lw_at lw_m8 225 rfl) rfl
theorem q2054 : (Jvm.Cond.soleField "HintTeam$Held" "card") ∈ lw_all := lw_g (lw_at lw_m8 226 rfl) rfl
theorem q2055 : (Jvm.Cond.lays "HintTeam$Held" "HintTeam$Held" "colors" "I") ∈ lw_all := lw_g (lw_at lw_m8 227 rfl) rfl
theorem q2056 : (Jvm.Cond.soleField "HintTeam$Held" "colors") ∈ lw_all := lw_g (lw_at lw_m8 228 rfl) rfl
theorem q2057 : (Jvm.Cond.lays "HintTeam$Held" "HintTeam$Held" "ranks" "I") ∈ lw_all := lw_g (lw_at lw_m8 229 rfl) rfl
theorem q2058 : (Jvm.Cond.soleField "HintTeam$Held" "ranks") ∈ lw_all := lw_g (lw_at lw_m8 230 rfl) rfl
theorem q2059 : (Jvm.Cond.lays "HintTeam$Held" "HintTeam$Held" "isTouched" "Z") ∈ lw_all := lw_g (lw_at lw_m8 231 rfl) rfl
theorem q2060 : (Jvm.Cond.soleField "HintTeam$Held" "isTouched") ∈ lw_all := lw_g (lw_at lw_m8 232 rfl) rfl
theorem q2061 : (Jvm.Cond.superclass "HintTeam$Held" "java/lang/Object") ∈ lw_all := lw_g (lw_at lw_m8 233 rfl) rfl
theorem q2166 : (Jvm.Cond.instanceMethod ({ cls := "HintTeam$Held", name := "copy", desc := "()LHintTeam$Held;" } : Jvm.MethodName)) ∈ lw_all := lw_g (lw_at lw_m9 98 rfl) rfl
theorem q2167 : (Jvm.Cond.selects "HintTeam$Held" ({ cls := "HintTeam$Held", name := "copy", desc := "()LHintTeam$Held;" } : Jvm.MethodName) ({ cls := "HintTeam$Held", name := "copy", desc := "()LHintTeam$Held;" } : Jvm.MethodName)) ∈ lw_all := lw_g (lw_at lw_m9 99 rfl) rfl
theorem q2168 : (Jvm.Cond.code ({ cls := "HintTeam$Held", name := "copy", desc := "()LHintTeam$Held;" } : Jvm.MethodName) prog_7_method_2_code (2 : Nat) (Option.some (Jvm.ClassFile.FieldType.object "HintTeam$Held"))) ∈ lw_all := lw_g (lw_at lw_m9 100 rfl) rfl
theorem q2169 : (Jvm.Cond.classLink "HintTeam$Held" (10 : Nat) "HintTeam$Held") ∈ lw_all := lw_g (lw_at lw_m9 101 rfl) rfl
theorem q2170 : (Jvm.Cond.methodLink "HintTeam$Held" (22 : Nat) ({ cls := "HintTeam$Held", name := "<init>", desc := "(LHintTeam$Card;II)V" } : Jvm.MethodName)) ∈ lw_all := lw_g (lw_at lw_m9 102 rfl) rfl
theorem q2369 : (Jvm.Cond.instanceMethod ({ cls := "HintTeam$Held", name := "colorsBy", desc := "(II)I" } : Jvm.MethodName)) ∈ lw_all := lw_g (lw_at lw_m10 61 rfl) rfl
theorem q2370 : (Jvm.Cond.selects "HintTeam$Held" ({ cls := "HintTeam$Held", name := "colorsBy", desc := "(II)I" } : Jvm.MethodName) ({ cls := "HintTeam$Held", name := "colorsBy", desc := "(II)I" } : Jvm.MethodName)) ∈ lw_all := lw_g (lw_at lw_m10 62 rfl) rfl
theorem q2371 : (Jvm.Cond.code ({ cls := "HintTeam$Held", name := "colorsBy", desc := "(II)I" } : Jvm.MethodName) prog_7_method_4_code (3 : Nat) (Option.some Jvm.ClassFile.FieldType.int)) ∈ lw_all := lw_g (lw_at lw_m10 63 rfl) rfl
theorem q2373 : (Jvm.Cond.instanceMethod ({ cls := "HintTeam$Held", name := "ranksBy", desc := "(II)I" } : Jvm.MethodName)) ∈ lw_all := lw_g (lw_at lw_m10 65 rfl) rfl
theorem q2374 : (Jvm.Cond.selects "HintTeam$Held" ({ cls := "HintTeam$Held", name := "ranksBy", desc := "(II)I" } : Jvm.MethodName) ({ cls := "HintTeam$Held", name := "ranksBy", desc := "(II)I" } : Jvm.MethodName)) ∈ lw_all := lw_g (lw_at lw_m10 66 rfl) rfl
theorem q2375 : (Jvm.Cond.code ({ cls := "HintTeam$Held", name := "ranksBy", desc := "(II)I" } : Jvm.MethodName) prog_7_method_5_code (3 : Nat) (Option.some Jvm.ClassFile.FieldType.int)) ∈ lw_all := lw_g (lw_at lw_m10 67 rfl) rfl
theorem q2438 : (Jvm.Cond.instanceMethod ({ cls := "HintTeam$Held", name := "isTold", desc := "(II)V" } : Jvm.MethodName)) ∈ lw_all := lw_g (lw_at lw_m10 130 rfl) rfl
theorem q2439 : (Jvm.Cond.selects "HintTeam$Held" ({ cls := "HintTeam$Held", name := "isTold", desc := "(II)V" } : Jvm.MethodName) ({ cls := "HintTeam$Held", name := "isTold", desc := "(II)V" } : Jvm.MethodName)) ∈ lw_all := lw_g (lw_at lw_m10 131 rfl) rfl
theorem q2440 : (Jvm.Cond.code ({ cls := "HintTeam$Held", name := "isTold", desc := "(II)V" } : Jvm.MethodName) prog_7_method_6_code (4 : Nat) (Option.none : Option Jvm.ClassFile.FieldType)) ∈ lw_all := lw_g (lw_at lw_m10 132 rfl) rfl
theorem q2441 : (Jvm.Cond.methodLink "HintTeam$Held" (38 : Nat) ({ cls := "HintTeam$Held", name := "ranksBy", desc := "(II)I" } : Jvm.MethodName)) ∈ lw_all := lw_g (lw_at lw_m10 133 rfl) rfl
theorem q2442 : (Jvm.Cond.methodLink "HintTeam$Held" (42 : Nat) ({ cls := "HintTeam$Held", name := "colorsBy", desc := "(II)I" } : Jvm.MethodName)) ∈ lw_all := lw_g (lw_at lw_m10 134 rfl) rfl
theorem q2443 : (Jvm.Cond.methodLink "HintTeam$Held" (45 : Nat) ({ cls := "HintTeam$Held", name := "isOf", desc := "(II)Z" } : Jvm.MethodName)) ∈ lw_all := lw_g (lw_at lw_m10 135 rfl) rfl
theorem q2945 : (Jvm.Cond.instanceMethod ({ cls := "HintTeam$Held", name := "written", desc := "(Z)Ljava/lang/String;" } : Jvm.MethodName)) ∈ lw_all := lw_g (lw_at lw_m12 157 rfl) rfl
theorem q2946 : (Jvm.Cond.selects "HintTeam$Held" ({ cls := "HintTeam$Held", name := "written", desc := "(Z)Ljava/lang/String;" } : Jvm.MethodName) ({ cls := "HintTeam$Held", name := "written", desc := "(Z)Ljava/lang/String;" } : Jvm.MethodName)) ∈ lw_all := lw_g (lw_at lw_m12 158 rfl) rfl
theorem q2947 : (Jvm.Cond.code ({ cls := "HintTeam$Held", name := "written", desc := "(Z)Ljava/lang/String;" } : Jvm.MethodName) prog_7_method_7_code (3 : Nat) (Option.some (Jvm.ClassFile.FieldType.object "java/lang/String"))) ∈ lw_all := lw_g (lw_at lw_m12 159 rfl) rfl
theorem q2948 : (Jvm.Cond.methodLink "HintTeam$Held" (49 : Nat) ({ cls := "HintTeam$Card", name := "written", desc := "()Ljava/lang/String;" } : Jvm.MethodName)) ∈ lw_all := lw_g (lw_at lw_m12 160 rfl) rfl
theorem q2959 : (Jvm.Cond.methodLink "HintTeam$Held" (53 : Nat) ({ cls := "java/lang/Integer", name := "bitCount", desc := "(I)I" } : Jvm.MethodName)) ∈ lw_all := lw_g (lw_at lw_m12 171 rfl) rfl
theorem q2960 : (Jvm.Cond.classLink "HintTeam$Held" (59 : Nat) "java/lang/StringBuilder") ∈ lw_all := lw_g (lw_at lw_m12 172 rfl) rfl
theorem q2961 : (Jvm.Cond.methodLink "HintTeam$Held" (61 : Nat) ({ cls := "java/lang/StringBuilder", name := "<init>", desc := "()V" } : Jvm.MethodName)) ∈ lw_all := lw_g (lw_at lw_m12 173 rfl) rfl
theorem q2962 : (Jvm.Cond.stringRef "HintTeam$Held" (62 : Nat) "") ∈ lw_tbl := lw_at lw_m12 174 rfl
theorem q2963 : (Jvm.Cond.methodLink "HintTeam$Held" (64 : Nat) ({ cls := "java/lang/StringBuilder", name := "append", desc := "(Ljava/lang/String;)Ljava/lang/StringBuilder;" } : Jvm.MethodName)) ∈ lw_all := lw_g (lw_at lw_m12 175 rfl) rfl
theorem q2964 : (Jvm.Cond.methodLink "HintTeam$Held" (68 : Nat) ({ cls := "java/lang/Integer", name := "numberOfTrailingZeros", desc := "(I)I" } : Jvm.MethodName)) ∈ lw_all := lw_g (lw_at lw_m12 176 rfl) rfl
theorem q2965 : (Jvm.Cond.methodLink "HintTeam$Held" (71 : Nat) ({ cls := "java/lang/StringBuilder", name := "append", desc := "(C)Ljava/lang/StringBuilder;" } : Jvm.MethodName)) ∈ lw_all := lw_g (lw_at lw_m12 177 rfl) rfl
theorem q2966 : (Jvm.Cond.methodLink "HintTeam$Held" (74 : Nat) ({ cls := "java/lang/StringBuilder", name := "toString", desc := "()Ljava/lang/String;" } : Jvm.MethodName)) ∈ lw_all := lw_g (lw_at lw_m12 178 rfl) rfl
theorem q2967 : (Jvm.Cond.stringRef "HintTeam$Held" (77 : Nat) "?") ∈ lw_tbl := lw_at lw_m12 179 rfl
theorem q2968 : (Jvm.Cond.methodLink "HintTeam$Held" (79 : Nat) ({ cls := "java/lang/StringBuilder", name := "append", desc := "(I)Ljava/lang/StringBuilder;" } : Jvm.MethodName)) ∈ lw_all := lw_g (lw_at lw_m12 180 rfl) rfl
theorem q3652 : (Jvm.Cond.castable "HintTeam$Held" "java/lang/Object") ∈ lw_tbl := lw_at lw_m15 144 rfl
theorem in_X12 : ∀ w ∈ wsX120, w ∈ lw_all := lw_in wsX120 [2053, 2055, 2057, 2059] (by decide +kernel) (by decide +kernel)
/-! java/lang/ArrayIndexOutOfBoundsException -/
def RJ36 : String := "java/lang/ArrayIndexOutOfBoundsException"
def TJ36 : u_T := fun k => match k with
  | 0 => ("java/lang/Throwable", "backtrace", "Ljava/lang/Object;", false)
  | 1 => ("java/lang/Throwable", "detailMessage", "Ljava/lang/String;", false)
  | 2 => ("java/lang/Throwable", "cause", "Ljava/lang/Throwable;", false)
  | 3 => ("java/lang/Throwable", "stackTrace", "[Ljava/lang/StackTraceElement;", false)
  | 4 => ("java/lang/Throwable", "depth", "I", false)
  | _ => ("java/lang/Throwable", "suppressedExceptions", "Ljava/util/List;", false)
def tyJ36 : Nat → FieldType := fun k => match k with
  | 0 => .object "java/lang/Object"
  | 1 => .object "java/lang/String"
  | 2 => .object "java/lang/Throwable"
  | 3 => .array (.object "java/lang/StackTraceElement")
  | 4 => .int
  | _ => .object "java/util/List"
abbrev wsJ360 : List Cond := u_ws RJ36 TJ36 6
theorem nmJ36 : ∀ a, a < 6 → ∀ b, b < 6 → a ≠ b → (TJ36 a).2.1 ≠ (TJ36 b).2.1 := by decide +kernel
theorem tyJ36_ok : ∀ k, k < 6 → parseFieldDescriptor (TJ36 k).2.2.1 = some (tyJ36 k) := by decide +kernel
abbrev cJ36_init : ByteArray := prog_19_method_2_code
def yJ36_init : MethodName := ⟨RJ36, "<init>", "(Ljava/lang/String;)V"⟩
abbrev cJ36_init_2 : ByteArray := prog_19_method_3_code
def yJ36_init_2 : MethodName := ⟨RJ36, "<init>", "(I)V"⟩
theorem q201 : (Jvm.Cond.initialized "java/lang/ArrayIndexOutOfBoundsException") ∈ lw_all := lw_g (lw_at lw_m1 53 rfl) rfl
theorem q393 : (Jvm.Cond.selects "java/lang/ArrayIndexOutOfBoundsException" ({ cls := "java/lang/Throwable", name := "fillInStackTrace", desc := "()Ljava/lang/Throwable;" } : Jvm.MethodName) ({ cls := "java/lang/Throwable", name := "fillInStackTrace", desc := "()Ljava/lang/Throwable;" } : Jvm.MethodName)) ∈ lw_all := lw_g (lw_at lw_m2 5 rfl) rfl
theorem q1206 : (Jvm.Cond.selects "java/lang/ArrayIndexOutOfBoundsException" ({ cls := "java/lang/Object", name := "getClass", desc := "()Ljava/lang/Class;" } : Jvm.MethodName) ({ cls := "java/lang/Object", name := "getClass", desc := "()Ljava/lang/Class;" } : Jvm.MethodName)) ∈ lw_all := lw_g (lw_at lw_m5 98 rfl) rfl
theorem q1647 : (Jvm.Cond.selects "java/lang/ArrayIndexOutOfBoundsException" ({ cls := "java/lang/Throwable", name := "toString", desc := "()Ljava/lang/String;" } : Jvm.MethodName) ({ cls := "java/lang/Throwable", name := "toString", desc := "()Ljava/lang/String;" } : Jvm.MethodName)) ∈ lw_all := lw_g (lw_at lw_m7 59 rfl) rfl
theorem q1658 : (Jvm.Cond.selects "java/lang/ArrayIndexOutOfBoundsException" ({ cls := "java/lang/Throwable", name := "getLocalizedMessage", desc := "()Ljava/lang/String;" } : Jvm.MethodName) ({ cls := "java/lang/Throwable", name := "getLocalizedMessage", desc := "()Ljava/lang/String;" } : Jvm.MethodName)) ∈ lw_all := lw_g (lw_at lw_m7 70 rfl) rfl
theorem q1668 : (Jvm.Cond.selects "java/lang/ArrayIndexOutOfBoundsException" ({ cls := "java/lang/Throwable", name := "getMessage", desc := "()Ljava/lang/String;" } : Jvm.MethodName) ({ cls := "java/lang/Throwable", name := "getMessage", desc := "()Ljava/lang/String;" } : Jvm.MethodName)) ∈ lw_all := lw_g (lw_at lw_m7 80 rfl) rfl
theorem q2612 : (Jvm.Cond.instantiable "java/lang/ArrayIndexOutOfBoundsException" (6 : Nat)) ∈ lw_all := lw_g (lw_at lw_m11 64 rfl) rfl
theorem q2613 : (Jvm.Cond.instanceMethod ({ cls := "java/lang/ArrayIndexOutOfBoundsException", name := "<init>", desc := "(Ljava/lang/String;)V" } : Jvm.MethodName)) ∈ lw_all := lw_g (lw_at lw_m11 65 rfl) rfl
theorem q2614 : (Jvm.Cond.code ({ cls := "java/lang/ArrayIndexOutOfBoundsException", name := "<init>", desc := "(Ljava/lang/String;)V" } : Jvm.MethodName) prog_19_method_2_code (2 : Nat) (Option.none : Option Jvm.ClassFile.FieldType)) ∈ lw_all := lw_g (lw_at lw_m11 66 rfl) rfl
theorem q2615 : (Jvm.Cond.methodLink "java/lang/ArrayIndexOutOfBoundsException" (7 : Nat) ({ cls := "java/lang/IndexOutOfBoundsException", name := "<init>", desc := "(Ljava/lang/String;)V" } : Jvm.MethodName)) ∈ lw_all := lw_g (lw_at lw_m11 67 rfl) rfl
theorem q2616 : (Jvm.Cond.lays "java/lang/ArrayIndexOutOfBoundsException" "java/lang/Throwable" "backtrace" "Ljava/lang/Object;") ∈ lw_all := lw_g (lw_at lw_m11 68 rfl) rfl
theorem q2617 : (Jvm.Cond.lays "java/lang/ArrayIndexOutOfBoundsException" "java/lang/Throwable" "detailMessage" "Ljava/lang/String;") ∈ lw_all := lw_g (lw_at lw_m11 69 rfl) rfl
theorem q2618 : (Jvm.Cond.lays "java/lang/ArrayIndexOutOfBoundsException" "java/lang/Throwable" "cause" "Ljava/lang/Throwable;") ∈ lw_all := lw_g (lw_at lw_m11 70 rfl) rfl
theorem q2619 : (Jvm.Cond.lays "java/lang/ArrayIndexOutOfBoundsException" "java/lang/Throwable" "stackTrace" "[Ljava/lang/StackTraceElement;") ∈ lw_all := lw_g (lw_at lw_m11 71 rfl) rfl
theorem q2620 : (Jvm.Cond.lays "java/lang/ArrayIndexOutOfBoundsException" "java/lang/Throwable" "depth" "I") ∈ lw_all := lw_g (lw_at lw_m11 72 rfl) rfl
theorem q2621 : (Jvm.Cond.lays "java/lang/ArrayIndexOutOfBoundsException" "java/lang/Throwable" "suppressedExceptions" "Ljava/util/List;") ∈ lw_all := lw_g (lw_at lw_m11 73 rfl) rfl
theorem q2622 : (Jvm.Cond.superclass "java/lang/ArrayIndexOutOfBoundsException" "java/lang/IndexOutOfBoundsException") ∈ lw_all := lw_g (lw_at lw_m11 74 rfl) rfl
theorem q2623 : (Jvm.Cond.castable "java/lang/ArrayIndexOutOfBoundsException" "java/lang/ArrayIndexOutOfBoundsException") ∈ lw_tbl := lw_at lw_m11 75 rfl
theorem q2626 : (Jvm.Cond.selects "java/lang/ArrayIndexOutOfBoundsException" ({ cls := "java/lang/Throwable", name := "fillInStackTrace", desc := "(I)Ljava/lang/Throwable;" } : Jvm.MethodName) ({ cls := "java/lang/Throwable", name := "fillInStackTrace", desc := "(I)Ljava/lang/Throwable;" } : Jvm.MethodName)) ∈ lw_all := lw_g (lw_at lw_m11 78 rfl) rfl
theorem q2930 : (Jvm.Cond.instanceMethod ({ cls := "java/lang/ArrayIndexOutOfBoundsException", name := "<init>", desc := "(I)V" } : Jvm.MethodName)) ∈ lw_all := lw_g (lw_at lw_m12 142 rfl) rfl
theorem q2931 : (Jvm.Cond.code ({ cls := "java/lang/ArrayIndexOutOfBoundsException", name := "<init>", desc := "(I)V" } : Jvm.MethodName) prog_19_method_3_code (2 : Nat) (Option.none : Option Jvm.ClassFile.FieldType)) ∈ lw_all := lw_g (lw_at lw_m12 143 rfl) rfl
theorem q2932 : (Jvm.Cond.classLink "java/lang/ArrayIndexOutOfBoundsException" (10 : Nat) "java/lang/StringBuilder") ∈ lw_all := lw_g (lw_at lw_m12 144 rfl) rfl
theorem q2933 : (Jvm.Cond.methodLink "java/lang/ArrayIndexOutOfBoundsException" (12 : Nat) ({ cls := "java/lang/StringBuilder", name := "<init>", desc := "()V" } : Jvm.MethodName)) ∈ lw_all := lw_g (lw_at lw_m12 145 rfl) rfl
theorem q2934 : (Jvm.Cond.stringRef "java/lang/ArrayIndexOutOfBoundsException" (13 : Nat) "Array index out of range: ") ∈ lw_tbl := lw_at lw_m12 146 rfl
theorem q2935 : (Jvm.Cond.methodLink "java/lang/ArrayIndexOutOfBoundsException" (15 : Nat) ({ cls := "java/lang/StringBuilder", name := "append", desc := "(Ljava/lang/String;)Ljava/lang/StringBuilder;" } : Jvm.MethodName)) ∈ lw_all := lw_g (lw_at lw_m12 147 rfl) rfl
theorem q2936 : (Jvm.Cond.methodLink "java/lang/ArrayIndexOutOfBoundsException" (19 : Nat) ({ cls := "java/lang/StringBuilder", name := "append", desc := "(I)Ljava/lang/StringBuilder;" } : Jvm.MethodName)) ∈ lw_all := lw_g (lw_at lw_m12 148 rfl) rfl
theorem q2937 : (Jvm.Cond.methodLink "java/lang/ArrayIndexOutOfBoundsException" (22 : Nat) ({ cls := "java/lang/StringBuilder", name := "toString", desc := "()Ljava/lang/String;" } : Jvm.MethodName)) ∈ lw_all := lw_g (lw_at lw_m12 149 rfl) rfl
theorem q3622 : (Jvm.Cond.castable "java/lang/ArrayIndexOutOfBoundsException" "java/lang/IndexOutOfBoundsException") ∈ lw_tbl := lw_at lw_m15 114 rfl
theorem q3653 : (Jvm.Cond.castable "java/lang/ArrayIndexOutOfBoundsException" "java/lang/Object") ∈ lw_tbl := lw_at lw_m15 145 rfl
theorem in_J36 : ∀ w ∈ wsJ360, w ∈ lw_all := lw_in wsJ360 [2616, 2617, 2618, 2619, 2620, 2621] (by decide +kernel) (by decide +kernel)
/-! HintTeam$1 -/
def RX13 : String := "HintTeam$1"
def TX13 : u_T := fun k => match k with
  | 0 => ("HintTeam$Move", "this$0", "LHintTeam;", true)
  | 1 => ("HintTeam$1", "val$itsKind", "I", true)
  | 2 => ("HintTeam$1", "val$place", "I", true)
  | _ => ("HintTeam$1", "this$0", "LHintTeam;", true)
def tyX13 : Nat → FieldType := fun k => match k with
  | 0 => .object "HintTeam"
  | 1 => .int
  | 2 => .int
  | _ => .object "HintTeam"
abbrev wsX130 : List Cond := u_ws RX13 TX13 4
-- two fields of one name: no nmX13
theorem tyX13_ok : ∀ k, k < 4 → parseFieldDescriptor (TX13 k).2.2.1 = some (tyX13 k) := by decide +kernel
abbrev cX13_init : ByteArray := prog_2_method_1_code
def yX13_init : MethodName := ⟨RX13, "<init>", "(LHintTeam;II)V"⟩
abbrev cX13_run : ByteArray := prog_2_method_3_code
def yX13_run : MethodName := ⟨RX13, "run", "()V"⟩
abbrev cX13_kind : ByteArray := prog_2_method_2_code
def yX13_kind : MethodName := ⟨RX13, "kind", "()I"⟩
abbrev cX13_part : ByteArray := prog_2_method_4_code
def yX13_part : MethodName := ⟨RX13, "part", "(I)I"⟩
theorem q202 : (Jvm.Cond.initialized "HintTeam$1") ∈ lw_all := lw_g (lw_at lw_m1 54 rfl) rfl
theorem q861 : (Jvm.Cond.fieldLinkNest "HintTeam$1" (22 : Nat) "HintTeam" "table" "LHintTeam$Table;" "HintTeam") ∈ lw_tbl := lw_at lw_m3 233 rfl
theorem q1194 : (Jvm.Cond.selects "HintTeam$1" ({ cls := "java/lang/Object", name := "getClass", desc := "()Ljava/lang/Class;" } : Jvm.MethodName) ({ cls := "java/lang/Object", name := "getClass", desc := "()Ljava/lang/Class;" } : Jvm.MethodName)) ∈ lw_all := lw_g (lw_at lw_m5 86 rfl) rfl
theorem q2320 : (Jvm.Cond.instantiable "HintTeam$1" (4 : Nat)) ∈ lw_all := lw_g (lw_at lw_m10 12 rfl) rfl
theorem q2322 : (Jvm.Cond.instanceMethod ({ cls := "HintTeam$1", name := "<init>", desc := "(LHintTeam;II)V" } : Jvm.MethodName)) ∈ lw_all := lw_g (lw_at lw_m10 14 rfl) rfl
theorem q2323 : (Jvm.Cond.code ({ cls := "HintTeam$1", name := "<init>", desc := "(LHintTeam;II)V" } : Jvm.MethodName) prog_2_method_1_code (4 : Nat) (Option.none : Option Jvm.ClassFile.FieldType)) ∈ lw_all := lw_g (lw_at lw_m10 15 rfl) rfl
theorem q2324 : (Jvm.Cond.methodLinkNest "HintTeam$1" (16 : Nat) ({ cls := "HintTeam$Move", name := "<init>", desc := "(LHintTeam;)V" } : Jvm.MethodName) "HintTeam") ∈ lw_tbl := lw_at lw_m10 16 rfl
theorem q2325 : (Jvm.Cond.fieldLink "HintTeam$1" (9 : Nat) "HintTeam$1" "val$itsKind" "I") ∈ lw_all := lw_g (lw_at lw_m10 17 rfl) rfl
theorem q2326 : (Jvm.Cond.fieldLink "HintTeam$1" (13 : Nat) "HintTeam$1" "val$place" "I") ∈ lw_all := lw_g (lw_at lw_m10 18 rfl) rfl
theorem q2327 : (Jvm.Cond.fieldLink "HintTeam$1" (3 : Nat) "HintTeam$1" "this$0" "LHintTeam;") ∈ lw_all := lw_g (lw_at lw_m10 19 rfl) rfl
theorem q2328 : (Jvm.Cond.laysFinal "HintTeam$1" "HintTeam$1" "val$itsKind" "I") ∈ lw_all := lw_g (lw_at lw_m10 20 rfl) rfl
theorem q2329 : (Jvm.Cond.soleField "HintTeam$1" "val$itsKind") ∈ lw_all := lw_g (lw_at lw_m10 21 rfl) rfl
theorem q2330 : (Jvm.Cond.laysFinal "HintTeam$1" "HintTeam$1" "val$place" "I") ∈ lw_all := lw_g (lw_at lw_m10 22 rfl) rfl
theorem q2331 : (Jvm.Cond.soleField "HintTeam$1" "val$place") ∈ lw_all := lw_g (lw_at lw_m10 23 rfl) rfl
theorem q2332 : (Jvm.Cond.laysFinal "HintTeam$1" "HintTeam$1" "this$0" "LHintTeam;") ∈ lw_all := lw_g (lw_at lw_m10 24 rfl) rfl
theorem q2333 : (Jvm.Cond.soleField "HintTeam$1" "this$0") ∈ lw_all := lw_g (lw_at lw_m10 25 rfl) rfl
theorem q2334 : (Jvm.Cond.laysFinal "HintTeam$1" "HintTeam$Move" "this$0" "LHintTeam;") ∈ lw_all := lw_g (lw_at lw_m10 26 rfl) rfl
theorem q2335 : (Jvm.Cond.superclass "HintTeam$1" "HintTeam$Move") ∈ lw_all := lw_g (lw_at lw_m10 27 rfl) rfl
theorem q2385 : (Jvm.Cond.selects "HintTeam$1" ({ cls := "HintTeam$Move", name := "run", desc := "()V" } : Jvm.MethodName) ({ cls := "HintTeam$1", name := "run", desc := "()V" } : Jvm.MethodName)) ∈ lw_all := lw_g (lw_at lw_m10 77 rfl) rfl
theorem q2386 : (Jvm.Cond.instanceMethod ({ cls := "HintTeam$1", name := "run", desc := "()V" } : Jvm.MethodName)) ∈ lw_all := lw_g (lw_at lw_m10 78 rfl) rfl
theorem q2387 : (Jvm.Cond.code ({ cls := "HintTeam$1", name := "run", desc := "()V" } : Jvm.MethodName) prog_2_method_3_code (1 : Nat) (Option.none : Option Jvm.ClassFile.FieldType)) ∈ lw_all := lw_g (lw_at lw_m10 79 rfl) rfl
theorem q2388 : (Jvm.Cond.methodLink "HintTeam$1" (26 : Nat) ({ cls := "HintTeam$Table", name := "play", desc := "(I)V" } : Jvm.MethodName)) ∈ lw_all := lw_g (lw_at lw_m10 80 rfl) rfl
theorem q2416 : (Jvm.Cond.methodLink "HintTeam$1" (32 : Nat) ({ cls := "HintTeam$Table", name := "discard", desc := "(I)V" } : Jvm.MethodName)) ∈ lw_all := lw_g (lw_at lw_m10 108 rfl) rfl
theorem q2813 : (Jvm.Cond.selects "HintTeam$1" ({ cls := "HintTeam$Move", name := "kind", desc := "()I" } : Jvm.MethodName) ({ cls := "HintTeam$1", name := "kind", desc := "()I" } : Jvm.MethodName)) ∈ lw_all := lw_g (lw_at lw_m12 25 rfl) rfl
theorem q2814 : (Jvm.Cond.instanceMethod ({ cls := "HintTeam$1", name := "kind", desc := "()I" } : Jvm.MethodName)) ∈ lw_all := lw_g (lw_at lw_m12 26 rfl) rfl
theorem q2815 : (Jvm.Cond.code ({ cls := "HintTeam$1", name := "kind", desc := "()I" } : Jvm.MethodName) prog_2_method_2_code (1 : Nat) (Option.some Jvm.ClassFile.FieldType.int)) ∈ lw_all := lw_g (lw_at lw_m12 27 rfl) rfl
theorem q2825 : (Jvm.Cond.selects "HintTeam$1" ({ cls := "HintTeam$Move", name := "part", desc := "(I)I" } : Jvm.MethodName) ({ cls := "HintTeam$1", name := "part", desc := "(I)I" } : Jvm.MethodName)) ∈ lw_all := lw_g (lw_at lw_m12 37 rfl) rfl
theorem q2826 : (Jvm.Cond.instanceMethod ({ cls := "HintTeam$1", name := "part", desc := "(I)I" } : Jvm.MethodName)) ∈ lw_all := lw_g (lw_at lw_m12 38 rfl) rfl
theorem q2827 : (Jvm.Cond.code ({ cls := "HintTeam$1", name := "part", desc := "(I)I" } : Jvm.MethodName) prog_2_method_4_code (2 : Nat) (Option.some Jvm.ClassFile.FieldType.int)) ∈ lw_all := lw_g (lw_at lw_m12 39 rfl) rfl
theorem q3654 : (Jvm.Cond.castable "HintTeam$1" "java/lang/Object") ∈ lw_tbl := lw_at lw_m15 146 rfl
theorem in_X13 : ∀ w ∈ wsX130, w ∈ lw_all := lw_in wsX130 [2334, 2328, 2330, 2332] (by decide +kernel) (by decide +kernel)
/-! HintTeam$Hints -/
def RX14 : String := "HintTeam$Hints"
def TX14 : u_T := fun k => match k with
  | 0 => ("HintTeam$Hints", "far", "I", false)
  | 1 => ("HintTeam$Hints", "word", "I", false)
  | 2 => ("HintTeam$Hints", "value", "I", false)
  | _ => ("HintTeam$Hints", "this$0", "LHintTeam;", true)
def tyX14 : Nat → FieldType := fun k => match k with
  | 0 => .int
  | 1 => .int
  | 2 => .int
  | _ => .object "HintTeam"
abbrev wsX140 : List Cond := u_ws RX14 TX14 4
theorem nmX14 : ∀ a, a < 4 → ∀ b, b < 4 → a ≠ b → (TX14 a).2.1 ≠ (TX14 b).2.1 := by decide +kernel
theorem tyX14_ok : ∀ k, k < 4 → parseFieldDescriptor (TX14 k).2.2.1 = some (tyX14 k) := by decide +kernel
abbrev cX14_hasNext : ByteArray := prog_9_method_4_code
def yX14_hasNext : MethodName := ⟨RX14, "hasNext", "()Z"⟩
abbrev cX14_next : ByteArray := prog_9_method_6_code
def yX14_next : MethodName := ⟨RX14, "next", "()Ljava/lang/Object;"⟩
abbrev cX14_next_2 : ByteArray := prog_9_method_5_code
def yX14_next_2 : MethodName := ⟨RX14, "next", "()LHintTeam$Hint;"⟩
abbrev cX14_player : ByteArray := prog_9_method_2_code
def yX14_player : MethodName := ⟨RX14, "player", "()I"⟩
abbrev cX14_steps : ByteArray := prog_9_method_3_code
def yX14_steps : MethodName := ⟨RX14, "steps", "()V"⟩
abbrev cX14_init : ByteArray := prog_9_method_1_code
def yX14_init : MethodName := ⟨RX14, "<init>", "(LHintTeam;)V"⟩
theorem q203 : (Jvm.Cond.initialized "HintTeam$Hints") ∈ lw_all := lw_g (lw_at lw_m1 55 rfl) rfl
theorem q299 : (Jvm.Cond.fieldLinkNest "HintTeam$Hints" (41 : Nat) "HintTeam$Rules" "players" "I" "HintTeam") ∈ lw_tbl := lw_at lw_m1 151 rfl
theorem q705 : (Jvm.Cond.fieldLinkNest "HintTeam$Hints" (37 : Nat) "HintTeam$Table" "rules" "LHintTeam$Rules;" "HintTeam") ∈ lw_tbl := lw_at lw_m3 77 rfl
theorem q730 : (Jvm.Cond.fieldLinkNest "HintTeam$Hints" (32 : Nat) "HintTeam$Table" "turn" "I" "HintTeam") ∈ lw_tbl := lw_at lw_m3 102 rfl
theorem q858 : (Jvm.Cond.fieldLinkNest "HintTeam$Hints" (28 : Nat) "HintTeam" "table" "LHintTeam$Table;" "HintTeam") ∈ lw_tbl := lw_at lw_m3 230 rfl
theorem q1201 : (Jvm.Cond.selects "HintTeam$Hints" ({ cls := "java/lang/Object", name := "getClass", desc := "()Ljava/lang/Class;" } : Jvm.MethodName) ({ cls := "java/lang/Object", name := "getClass", desc := "()Ljava/lang/Class;" } : Jvm.MethodName)) ∈ lw_all := lw_g (lw_at lw_m5 93 rfl) rfl
theorem q1495 : (Jvm.Cond.castable "HintTeam$Hints" "java/util/Iterator") ∈ lw_tbl := lw_at lw_m6 147 rfl
theorem q1496 : (Jvm.Cond.selects "HintTeam$Hints" ({ cls := "java/util/Iterator", name := "hasNext", desc := "()Z" } : Jvm.MethodName) ({ cls := "HintTeam$Hints", name := "hasNext", desc := "()Z" } : Jvm.MethodName)) ∈ lw_all := lw_g (lw_at lw_m6 148 rfl) rfl
theorem q1497 : (Jvm.Cond.unhidden "HintTeam$Hints" "hasNext" "()Z") ∈ lw_tbl := lw_at lw_m6 149 rfl
theorem q1498 : (Jvm.Cond.instanceMethod ({ cls := "HintTeam$Hints", name := "hasNext", desc := "()Z" } : Jvm.MethodName)) ∈ lw_all := lw_g (lw_at lw_m6 150 rfl) rfl
theorem q1499 : (Jvm.Cond.publicMethod ({ cls := "HintTeam$Hints", name := "hasNext", desc := "()Z" } : Jvm.MethodName)) ∈ lw_tbl := lw_at lw_m6 151 rfl
theorem q1500 : (Jvm.Cond.code ({ cls := "HintTeam$Hints", name := "hasNext", desc := "()Z" } : Jvm.MethodName) prog_9_method_4_code (1 : Nat) (Option.some Jvm.ClassFile.FieldType.boolean)) ∈ lw_all := lw_g (lw_at lw_m6 152 rfl) rfl
theorem q1531 : (Jvm.Cond.selects "HintTeam$Hints" ({ cls := "java/util/Iterator", name := "next", desc := "()Ljava/lang/Object;" } : Jvm.MethodName) ({ cls := "HintTeam$Hints", name := "next", desc := "()Ljava/lang/Object;" } : Jvm.MethodName)) ∈ lw_all := lw_g (lw_at lw_m6 183 rfl) rfl
theorem q1532 : (Jvm.Cond.unhidden "HintTeam$Hints" "next" "()Ljava/lang/Object;") ∈ lw_tbl := lw_at lw_m6 184 rfl
theorem q1533 : (Jvm.Cond.instanceMethod ({ cls := "HintTeam$Hints", name := "next", desc := "()Ljava/lang/Object;" } : Jvm.MethodName)) ∈ lw_all := lw_g (lw_at lw_m6 185 rfl) rfl
theorem q1534 : (Jvm.Cond.publicMethod ({ cls := "HintTeam$Hints", name := "next", desc := "()Ljava/lang/Object;" } : Jvm.MethodName)) ∈ lw_tbl := lw_at lw_m6 186 rfl
theorem q1535 : (Jvm.Cond.code ({ cls := "HintTeam$Hints", name := "next", desc := "()Ljava/lang/Object;" } : Jvm.MethodName) prog_9_method_6_code (1 : Nat) (Option.some (Jvm.ClassFile.FieldType.object "java/lang/Object"))) ∈ lw_all := lw_g (lw_at lw_m6 187 rfl) rfl
theorem q1536 : (Jvm.Cond.methodLink "HintTeam$Hints" (73 : Nat) ({ cls := "HintTeam$Hints", name := "next", desc := "()LHintTeam$Hint;" } : Jvm.MethodName)) ∈ lw_all := lw_g (lw_at lw_m6 188 rfl) rfl
theorem q1537 : (Jvm.Cond.instanceMethod ({ cls := "HintTeam$Hints", name := "next", desc := "()LHintTeam$Hint;" } : Jvm.MethodName)) ∈ lw_all := lw_g (lw_at lw_m6 189 rfl) rfl
theorem q1538 : (Jvm.Cond.selects "HintTeam$Hints" ({ cls := "HintTeam$Hints", name := "next", desc := "()LHintTeam$Hint;" } : Jvm.MethodName) ({ cls := "HintTeam$Hints", name := "next", desc := "()LHintTeam$Hint;" } : Jvm.MethodName)) ∈ lw_all := lw_g (lw_at lw_m6 190 rfl) rfl
theorem q1539 : (Jvm.Cond.code ({ cls := "HintTeam$Hints", name := "next", desc := "()LHintTeam$Hint;" } : Jvm.MethodName) prog_9_method_5_code (2 : Nat) (Option.some (Jvm.ClassFile.FieldType.object "HintTeam$Hint"))) ∈ lw_all := lw_g (lw_at lw_m6 191 rfl) rfl
theorem q1540 : (Jvm.Cond.methodLink "HintTeam$Hints" (53 : Nat) ({ cls := "HintTeam$Hints", name := "hasNext", desc := "()Z" } : Jvm.MethodName)) ∈ lw_all := lw_g (lw_at lw_m6 192 rfl) rfl
theorem q1541 : (Jvm.Cond.classLink "HintTeam$Hints" (65 : Nat) "java/util/NoSuchElementException") ∈ lw_all := lw_g (lw_at lw_m6 193 rfl) rfl
theorem q1550 : (Jvm.Cond.methodLink "HintTeam$Hints" (67 : Nat) ({ cls := "java/util/NoSuchElementException", name := "<init>", desc := "()V" } : Jvm.MethodName)) ∈ lw_all := lw_g (lw_at lw_m6 202 rfl) rfl
theorem q1562 : (Jvm.Cond.classLink "HintTeam$Hints" (68 : Nat) "HintTeam$Hint") ∈ lw_all := lw_g (lw_at lw_m6 214 rfl) rfl
theorem q1564 : (Jvm.Cond.methodLink "HintTeam$Hints" (57 : Nat) ({ cls := "HintTeam$Hints", name := "player", desc := "()I" } : Jvm.MethodName)) ∈ lw_all := lw_g (lw_at lw_m6 216 rfl) rfl
theorem q1565 : (Jvm.Cond.privateMethod ({ cls := "HintTeam$Hints", name := "player", desc := "()I" } : Jvm.MethodName)) ∈ lw_tbl := lw_at lw_m6 217 rfl
theorem q1566 : (Jvm.Cond.instanceMethod ({ cls := "HintTeam$Hints", name := "player", desc := "()I" } : Jvm.MethodName)) ∈ lw_all := lw_g (lw_at lw_m6 218 rfl) rfl
theorem q1567 : (Jvm.Cond.instantiable "HintTeam$Hints" (4 : Nat)) ∈ lw_all := lw_g (lw_at lw_m6 219 rfl) rfl
theorem q1568 : (Jvm.Cond.code ({ cls := "HintTeam$Hints", name := "player", desc := "()I" } : Jvm.MethodName) prog_9_method_2_code (1 : Nat) (Option.some Jvm.ClassFile.FieldType.int)) ∈ lw_all := lw_g (lw_at lw_m6 220 rfl) rfl
theorem q1569 : (Jvm.Cond.methodLink "HintTeam$Hints" (70 : Nat) ({ cls := "HintTeam$Hint", name := "<init>", desc := "(LHintTeam;III)V" } : Jvm.MethodName)) ∈ lw_all := lw_g (lw_at lw_m6 221 rfl) rfl
theorem q1590 : (Jvm.Cond.methodLink "HintTeam$Hints" (25 : Nat) ({ cls := "HintTeam$Hints", name := "steps", desc := "()V" } : Jvm.MethodName)) ∈ lw_all := lw_g (lw_at lw_m7 2 rfl) rfl
theorem q1591 : (Jvm.Cond.privateMethod ({ cls := "HintTeam$Hints", name := "steps", desc := "()V" } : Jvm.MethodName)) ∈ lw_tbl := lw_at lw_m7 3 rfl
theorem q1592 : (Jvm.Cond.instanceMethod ({ cls := "HintTeam$Hints", name := "steps", desc := "()V" } : Jvm.MethodName)) ∈ lw_all := lw_g (lw_at lw_m7 4 rfl) rfl
theorem q1593 : (Jvm.Cond.code ({ cls := "HintTeam$Hints", name := "steps", desc := "()V" } : Jvm.MethodName) prog_9_method_3_code (1 : Nat) (Option.none : Option Jvm.ClassFile.FieldType)) ∈ lw_all := lw_g (lw_at lw_m7 5 rfl) rfl
theorem q1594 : (Jvm.Cond.methodLink "HintTeam$Hints" (46 : Nat) ({ cls := "HintTeam$Rules", name := "lastValue", desc := "(I)I" } : Jvm.MethodName)) ∈ lw_all := lw_g (lw_at lw_m7 6 rfl) rfl
theorem q1595 : (Jvm.Cond.methodLink "HintTeam$Hints" (50 : Nat) ({ cls := "HintTeam$Rules", name := "firstValue", desc := "(I)I" } : Jvm.MethodName)) ∈ lw_all := lw_g (lw_at lw_m7 7 rfl) rfl
theorem q1596 : (Jvm.Cond.methodLink "HintTeam$Hints" (61 : Nat) ({ cls := "HintTeam$Table", name := "canHint", desc := "(III)Z" } : Jvm.MethodName)) ∈ lw_all := lw_g (lw_at lw_m7 8 rfl) rfl
theorem q2342 : (Jvm.Cond.instanceMethod ({ cls := "HintTeam$Hints", name := "<init>", desc := "(LHintTeam;)V" } : Jvm.MethodName)) ∈ lw_all := lw_g (lw_at lw_m10 34 rfl) rfl
theorem q2343 : (Jvm.Cond.code ({ cls := "HintTeam$Hints", name := "<init>", desc := "(LHintTeam;)V" } : Jvm.MethodName) prog_9_method_1_code (2 : Nat) (Option.none : Option Jvm.ClassFile.FieldType)) ∈ lw_all := lw_g (lw_at lw_m10 35 rfl) rfl
theorem q2344 : (Jvm.Cond.methodLink "HintTeam$Hints" (9 : Nat) ({ cls := "java/lang/Object", name := "<init>", desc := "()V" } : Jvm.MethodName)) ∈ lw_all := lw_g (lw_at lw_m10 36 rfl) rfl
theorem q2345 : (Jvm.Cond.fieldLink "HintTeam$Hints" (15 : Nat) "HintTeam$Hints" "far" "I") ∈ lw_all := lw_g (lw_at lw_m10 37 rfl) rfl
theorem q2346 : (Jvm.Cond.fieldLink "HintTeam$Hints" (19 : Nat) "HintTeam$Hints" "word" "I") ∈ lw_all := lw_g (lw_at lw_m10 38 rfl) rfl
theorem q2347 : (Jvm.Cond.fieldLink "HintTeam$Hints" (22 : Nat) "HintTeam$Hints" "value" "I") ∈ lw_all := lw_g (lw_at lw_m10 39 rfl) rfl
theorem q2348 : (Jvm.Cond.fieldLink "HintTeam$Hints" (3 : Nat) "HintTeam$Hints" "this$0" "LHintTeam;") ∈ lw_all := lw_g (lw_at lw_m10 40 rfl) rfl
theorem q2349 : (Jvm.Cond.lays "HintTeam$Hints" "HintTeam$Hints" "far" "I") ∈ lw_all := lw_g (lw_at lw_m10 41 rfl) rfl
theorem q2350 : (Jvm.Cond.soleField "HintTeam$Hints" "far") ∈ lw_all := lw_g (lw_at lw_m10 42 rfl) rfl
theorem q2351 : (Jvm.Cond.lays "HintTeam$Hints" "HintTeam$Hints" "word" "I") ∈ lw_all := lw_g (lw_at lw_m10 43 rfl) rfl
theorem q2352 : (Jvm.Cond.soleField "HintTeam$Hints" "word") ∈ lw_all := lw_g (lw_at lw_m10 44 rfl) rfl
theorem q2353 : (Jvm.Cond.lays "HintTeam$Hints" "HintTeam$Hints" "value" "I") ∈ lw_all := lw_g (lw_at lw_m10 45 rfl) rfl
theorem q2354 : (Jvm.Cond.soleField "HintTeam$Hints" "value") ∈ lw_all := lw_g (lw_at lw_m10 46 rfl) rfl
theorem q2355 : (Jvm.Cond.laysFinal "HintTeam$Hints" "HintTeam$Hints" "this$0" "LHintTeam;") ∈ lw_all := lw_g (lw_at lw_m10 47 rfl) rfl
theorem q2356 : (Jvm.Cond.soleField "HintTeam$Hints" "this$0") ∈ lw_all := lw_g (lw_at lw_m10 48 rfl) rfl
theorem q2357 : (Jvm.Cond.superclass "HintTeam$Hints" "java/lang/Object") ∈ lw_all := lw_g (lw_at lw_m10 49 rfl) rfl
theorem q3607 : (Jvm.Cond.selects "HintTeam$Hints" ({ cls := "HintTeam$Hints", name := "hasNext", desc := "()Z" } : Jvm.MethodName) ({ cls := "HintTeam$Hints", name := "hasNext", desc := "()Z" } : Jvm.MethodName)) ∈ lw_all := lw_g (lw_at lw_m15 99 rfl) rfl
theorem q3655 : (Jvm.Cond.castable "HintTeam$Hints" "java/lang/Object") ∈ lw_tbl := lw_at lw_m15 147 rfl
theorem in_X14 : ∀ w ∈ wsX140, w ∈ lw_all := lw_in wsX140 [2349, 2351, 2353, 2355] (by decide +kernel) (by decide +kernel)
/-! java/lang/StringIndexOutOfBoundsException -/
def RJ37 : String := "java/lang/StringIndexOutOfBoundsException"
def TJ37 : u_T := fun k => match k with
  | 0 => ("java/lang/Throwable", "backtrace", "Ljava/lang/Object;", false)
  | 1 => ("java/lang/Throwable", "detailMessage", "Ljava/lang/String;", false)
  | 2 => ("java/lang/Throwable", "cause", "Ljava/lang/Throwable;", false)
  | 3 => ("java/lang/Throwable", "stackTrace", "[Ljava/lang/StackTraceElement;", false)
  | 4 => ("java/lang/Throwable", "depth", "I", false)
  | _ => ("java/lang/Throwable", "suppressedExceptions", "Ljava/util/List;", false)
def tyJ37 : Nat → FieldType := fun k => match k with
  | 0 => .object "java/lang/Object"
  | 1 => .object "java/lang/String"
  | 2 => .object "java/lang/Throwable"
  | 3 => .array (.object "java/lang/StackTraceElement")
  | 4 => .int
  | _ => .object "java/util/List"
abbrev wsJ370 : List Cond := u_ws RJ37 TJ37 6
theorem nmJ37 : ∀ a, a < 6 → ∀ b, b < 6 → a ≠ b → (TJ37 a).2.1 ≠ (TJ37 b).2.1 := by decide +kernel
theorem tyJ37_ok : ∀ k, k < 6 → parseFieldDescriptor (TJ37 k).2.2.1 = some (tyJ37 k) := by decide +kernel
abbrev cJ37_init : ByteArray := prog_36_method_3_code
def yJ37_init : MethodName := ⟨RJ37, "<init>", "(I)V"⟩
theorem q204 : (Jvm.Cond.initialized "java/lang/StringIndexOutOfBoundsException") ∈ lw_all := lw_g (lw_at lw_m1 56 rfl) rfl
theorem q395 : (Jvm.Cond.selects "java/lang/StringIndexOutOfBoundsException" ({ cls := "java/lang/Throwable", name := "fillInStackTrace", desc := "()Ljava/lang/Throwable;" } : Jvm.MethodName) ({ cls := "java/lang/Throwable", name := "fillInStackTrace", desc := "()Ljava/lang/Throwable;" } : Jvm.MethodName)) ∈ lw_all := lw_g (lw_at lw_m2 7 rfl) rfl
theorem q1212 : (Jvm.Cond.selects "java/lang/StringIndexOutOfBoundsException" ({ cls := "java/lang/Object", name := "getClass", desc := "()Ljava/lang/Class;" } : Jvm.MethodName) ({ cls := "java/lang/Object", name := "getClass", desc := "()Ljava/lang/Class;" } : Jvm.MethodName)) ∈ lw_all := lw_g (lw_at lw_m5 104 rfl) rfl
theorem q1650 : (Jvm.Cond.selects "java/lang/StringIndexOutOfBoundsException" ({ cls := "java/lang/Throwable", name := "toString", desc := "()Ljava/lang/String;" } : Jvm.MethodName) ({ cls := "java/lang/Throwable", name := "toString", desc := "()Ljava/lang/String;" } : Jvm.MethodName)) ∈ lw_all := lw_g (lw_at lw_m7 62 rfl) rfl
theorem q1661 : (Jvm.Cond.selects "java/lang/StringIndexOutOfBoundsException" ({ cls := "java/lang/Throwable", name := "getLocalizedMessage", desc := "()Ljava/lang/String;" } : Jvm.MethodName) ({ cls := "java/lang/Throwable", name := "getLocalizedMessage", desc := "()Ljava/lang/String;" } : Jvm.MethodName)) ∈ lw_all := lw_g (lw_at lw_m7 73 rfl) rfl
theorem q1671 : (Jvm.Cond.selects "java/lang/StringIndexOutOfBoundsException" ({ cls := "java/lang/Throwable", name := "getMessage", desc := "()Ljava/lang/String;" } : Jvm.MethodName) ({ cls := "java/lang/Throwable", name := "getMessage", desc := "()Ljava/lang/String;" } : Jvm.MethodName)) ∈ lw_all := lw_g (lw_at lw_m7 83 rfl) rfl
theorem q2898 : (Jvm.Cond.instantiable "java/lang/StringIndexOutOfBoundsException" (6 : Nat)) ∈ lw_all := lw_g (lw_at lw_m12 110 rfl) rfl
theorem q2900 : (Jvm.Cond.instanceMethod ({ cls := "java/lang/StringIndexOutOfBoundsException", name := "<init>", desc := "(I)V" } : Jvm.MethodName)) ∈ lw_all := lw_g (lw_at lw_m12 112 rfl) rfl
theorem q2901 : (Jvm.Cond.code ({ cls := "java/lang/StringIndexOutOfBoundsException", name := "<init>", desc := "(I)V" } : Jvm.MethodName) prog_36_method_3_code (2 : Nat) (Option.none : Option Jvm.ClassFile.FieldType)) ∈ lw_all := lw_g (lw_at lw_m12 113 rfl) rfl
theorem q2902 : (Jvm.Cond.classLink "java/lang/StringIndexOutOfBoundsException" (10 : Nat) "java/lang/StringBuilder") ∈ lw_all := lw_g (lw_at lw_m12 114 rfl) rfl
theorem q2903 : (Jvm.Cond.methodLink "java/lang/StringIndexOutOfBoundsException" (12 : Nat) ({ cls := "java/lang/StringBuilder", name := "<init>", desc := "()V" } : Jvm.MethodName)) ∈ lw_all := lw_g (lw_at lw_m12 115 rfl) rfl
theorem q2904 : (Jvm.Cond.stringRef "java/lang/StringIndexOutOfBoundsException" (13 : Nat) "String index out of range: ") ∈ lw_tbl := lw_at lw_m12 116 rfl
theorem q2905 : (Jvm.Cond.methodLink "java/lang/StringIndexOutOfBoundsException" (15 : Nat) ({ cls := "java/lang/StringBuilder", name := "append", desc := "(Ljava/lang/String;)Ljava/lang/StringBuilder;" } : Jvm.MethodName)) ∈ lw_all := lw_g (lw_at lw_m12 117 rfl) rfl
theorem q2906 : (Jvm.Cond.methodLink "java/lang/StringIndexOutOfBoundsException" (19 : Nat) ({ cls := "java/lang/StringBuilder", name := "append", desc := "(I)Ljava/lang/StringBuilder;" } : Jvm.MethodName)) ∈ lw_all := lw_g (lw_at lw_m12 118 rfl) rfl
theorem q2907 : (Jvm.Cond.methodLink "java/lang/StringIndexOutOfBoundsException" (22 : Nat) ({ cls := "java/lang/StringBuilder", name := "toString", desc := "()Ljava/lang/String;" } : Jvm.MethodName)) ∈ lw_all := lw_g (lw_at lw_m12 119 rfl) rfl
theorem q2908 : (Jvm.Cond.methodLink "java/lang/StringIndexOutOfBoundsException" (7 : Nat) ({ cls := "java/lang/IndexOutOfBoundsException", name := "<init>", desc := "(Ljava/lang/String;)V" } : Jvm.MethodName)) ∈ lw_all := lw_g (lw_at lw_m12 120 rfl) rfl
theorem q2909 : (Jvm.Cond.lays "java/lang/StringIndexOutOfBoundsException" "java/lang/Throwable" "backtrace" "Ljava/lang/Object;") ∈ lw_all := lw_g (lw_at lw_m12 121 rfl) rfl
theorem q2910 : (Jvm.Cond.lays "java/lang/StringIndexOutOfBoundsException" "java/lang/Throwable" "detailMessage" "Ljava/lang/String;") ∈ lw_all := lw_g (lw_at lw_m12 122 rfl) rfl
theorem q2911 : (Jvm.Cond.lays "java/lang/StringIndexOutOfBoundsException" "java/lang/Throwable" "cause" "Ljava/lang/Throwable;") ∈ lw_all := lw_g (lw_at lw_m12 123 rfl) rfl
theorem q2912 : (Jvm.Cond.lays "java/lang/StringIndexOutOfBoundsException" "java/lang/Throwable" "stackTrace" "[Ljava/lang/StackTraceElement;") ∈ lw_all := lw_g (lw_at lw_m12 124 rfl) rfl
theorem q2913 : (Jvm.Cond.lays "java/lang/StringIndexOutOfBoundsException" "java/lang/Throwable" "depth" "I") ∈ lw_all := lw_g (lw_at lw_m12 125 rfl) rfl
theorem q2914 : (Jvm.Cond.lays "java/lang/StringIndexOutOfBoundsException" "java/lang/Throwable" "suppressedExceptions" "Ljava/util/List;") ∈ lw_all := lw_g (lw_at lw_m12 126 rfl) rfl
theorem q2915 : (Jvm.Cond.superclass "java/lang/StringIndexOutOfBoundsException" "java/lang/IndexOutOfBoundsException") ∈ lw_all := lw_g (lw_at lw_m12 127 rfl) rfl
theorem q3623 : (Jvm.Cond.castable "java/lang/StringIndexOutOfBoundsException" "java/lang/IndexOutOfBoundsException") ∈ lw_tbl := lw_at lw_m15 115 rfl
theorem q3657 : (Jvm.Cond.castable "java/lang/StringIndexOutOfBoundsException" "java/lang/Object") ∈ lw_tbl := lw_at lw_m15 149 rfl
theorem in_J37 : ∀ w ∈ wsJ370, w ∈ lw_all := lw_in wsJ370 [2909, 2910, 2911, 2912, 2913, 2914] (by decide +kernel) (by decide +kernel)
/-! java/lang/Object -/
def RJ38 : String := "java/lang/Object"
abbrev cJ38_init : ByteArray := object_method_1_code
def yJ38_init : MethodName := ⟨RJ38, "<init>", "()V"⟩
theorem q211 : (Jvm.Cond.instanceMethod ({ cls := "java/lang/Object", name := "<init>", desc := "()V" } : Jvm.MethodName)) ∈ lw_all := lw_g (lw_at lw_m1 63 rfl) rfl
theorem q212 : (Jvm.Cond.code ({ cls := "java/lang/Object", name := "<init>", desc := "()V" } : Jvm.MethodName) object_method_1_code (1 : Nat) (Option.none : Option Jvm.ClassFile.FieldType)) ∈ lw_all := lw_g (lw_at lw_m1 64 rfl) rfl
theorem q472 : (Jvm.Cond.native ({ cls := "java/lang/Object", name := "clone", desc := "()Ljava/lang/Object;" } : Jvm.MethodName)) ∈ lw_all := lw_g (lw_at lw_m2 84 rfl) rfl
theorem q473 : (Jvm.Cond.instanceMethod ({ cls := "java/lang/Object", name := "clone", desc := "()Ljava/lang/Object;" } : Jvm.MethodName)) ∈ lw_all := lw_g (lw_at lw_m2 85 rfl) rfl
theorem q1191 : (Jvm.Cond.instanceMethod ({ cls := "java/lang/Object", name := "getClass", desc := "()Ljava/lang/Class;" } : Jvm.MethodName)) ∈ lw_all := lw_g (lw_at lw_m5 83 rfl) rfl
theorem q1192 : (Jvm.Cond.sameMethod "java/lang/Object" "java/lang/Object" "getClass" "()Ljava/lang/Class;") ∈ lw_all := lw_g (lw_at lw_m5 84 rfl) rfl
theorem q1227 : (Jvm.Cond.native ({ cls := "java/lang/Object", name := "getClass", desc := "()Ljava/lang/Class;" } : Jvm.MethodName)) ∈ lw_all := lw_g (lw_at lw_m5 119 rfl) rfl
theorem q3621 : (Jvm.Cond.initialized "java/lang/Object") ∈ lw_all := lw_g (lw_at lw_m15 113 rfl) rfl
theorem q3661 : (Jvm.Cond.declares ({ cls := "java/lang/Object", name := "getClass", desc := "()Ljava/lang/Class;" } : Jvm.MethodName)) ∈ lw_tbl := lw_at lw_m15 153 rfl
/-! java/lang/System$2 -/
def RJ39 : String := "java/lang/System$2"
abbrev cJ39_getUTF16Char : ByteArray := prog_40_method_45_code
def yJ39_getUTF16Char : MethodName := ⟨RJ39, "getUTF16Char", "([BI)C"⟩
theorem q1054 : (Jvm.Cond.castable "java/lang/System$2" "jdk/internal/access/JavaLangAccess") ∈ lw_tbl := lw_at lw_m4 186 rfl
theorem q1055 : (Jvm.Cond.selects "java/lang/System$2" ({ cls := "jdk/internal/access/JavaLangAccess", name := "getUTF16Char", desc := "([BI)C" } : Jvm.MethodName) ({ cls := "java/lang/System$2", name := "getUTF16Char", desc := "([BI)C" } : Jvm.MethodName)) ∈ lw_all := lw_g (lw_at lw_m4 187 rfl) rfl
theorem q1056 : (Jvm.Cond.unhidden "java/lang/System$2" "getUTF16Char" "([BI)C") ∈ lw_tbl := lw_at lw_m4 188 rfl
theorem q1057 : (Jvm.Cond.instanceMethod ({ cls := "java/lang/System$2", name := "getUTF16Char", desc := "([BI)C" } : Jvm.MethodName)) ∈ lw_all := lw_g (lw_at lw_m4 189 rfl) rfl
theorem q1058 : (Jvm.Cond.publicMethod ({ cls := "java/lang/System$2", name := "getUTF16Char", desc := "([BI)C" } : Jvm.MethodName)) ∈ lw_tbl := lw_at lw_m4 190 rfl
theorem q1059 : (Jvm.Cond.code ({ cls := "java/lang/System$2", name := "getUTF16Char", desc := "([BI)C" } : Jvm.MethodName) prog_40_method_45_code (3 : Nat) (Option.some Jvm.ClassFile.FieldType.char)) ∈ lw_all := lw_g (lw_at lw_m4 191 rfl) rfl
theorem q1060 : (Jvm.Cond.methodLink "java/lang/System$2" (185 : Nat) ({ cls := "java/lang/StringUTF16", name := "getChar", desc := "([BI)C" } : Jvm.MethodName)) ∈ lw_all := lw_g (lw_at lw_m4 192 rfl) rfl
theorem q1213 : (Jvm.Cond.selects "java/lang/System$2" ({ cls := "java/lang/Object", name := "getClass", desc := "()Ljava/lang/Class;" } : Jvm.MethodName) ({ cls := "java/lang/Object", name := "getClass", desc := "()Ljava/lang/Class;" } : Jvm.MethodName)) ∈ lw_all := lw_g (lw_at lw_m5 105 rfl) rfl
theorem q3640 : (Jvm.Cond.castable "java/lang/System$2" "java/lang/Object") ∈ lw_tbl := lw_at lw_m15 132 rfl
/-! the law's own entry -/
abbrev cL_law : ByteArray := code
theorem q287 : (Jvm.Cond.arrayOver (Jvm.ClassFile.FieldType.array Jvm.ClassFile.FieldType.int)) ∈ lw_tbl := lw_at lw_m1 139 rfl
theorem q346 : (Jvm.Cond.arrayClass Jvm.ClassFile.FieldType.int) ∈ lw_all := lw_g (lw_at lw_m1 198 rfl) rfl
theorem q356 : (Jvm.Cond.arrayOver (Jvm.ClassFile.FieldType.object "java/lang/Object")) ∈ lw_tbl := lw_at lw_m1 208 rfl
theorem q435 : (Jvm.Cond.arrayClass Jvm.ClassFile.FieldType.byte) ∈ lw_all := lw_g (lw_at lw_m2 47 rfl) rfl
theorem q784 : (Jvm.Cond.arrayOver (Jvm.ClassFile.FieldType.object "HintTeam$Table")) ∈ lw_tbl := lw_at lw_m3 156 rfl
theorem q808 : (Jvm.Cond.arrayClass Jvm.ClassFile.FieldType.long) ∈ lw_all := lw_g (lw_at lw_m3 180 rfl) rfl
theorem q832 : (Jvm.Cond.arrayOver (Jvm.ClassFile.FieldType.array Jvm.ClassFile.FieldType.long)) ∈ lw_tbl := lw_at lw_m3 204 rfl
theorem q3087 : (Jvm.Cond.arrayClass Jvm.ClassFile.FieldType.boolean) ∈ lw_all := lw_g (lw_at lw_m13 59 rfl) rfl
theorem q3670 : (Jvm.Cond.arrayClass Jvm.ClassFile.FieldType.char) ∈ lw_all := lw_g (lw_at lw_m15 162 rfl) rfl
theorem q3671 : (Jvm.Cond.arrayClass Jvm.ClassFile.FieldType.short) ∈ lw_all := lw_g (lw_at lw_m15 163 rfl) rfl
theorem q168 : (Jvm.Cond.initialized "java/lang/System") ∈ lw_all := lw_g (lw_at lw_m1 20 rfl) rfl
theorem q481 : (Jvm.Cond.static ({ cls := "java/lang/System", name := "arraycopy", desc := "(Ljava/lang/Object;ILjava/lang/Object;II)V" } : Jvm.MethodName)) ∈ lw_all := lw_g (lw_at lw_m2 93 rfl) rfl
theorem q482 : (Jvm.Cond.native ({ cls := "java/lang/System", name := "arraycopy", desc := "(Ljava/lang/Object;ILjava/lang/Object;II)V" } : Jvm.MethodName)) ∈ lw_all := lw_g (lw_at lw_m2 94 rfl) rfl
theorem q190 : (Jvm.Cond.initialized "java/util/AbstractList$ListItr") ∈ lw_all := lw_g (lw_at lw_m1 42 rfl) rfl
theorem q1214 : (Jvm.Cond.selects "java/util/AbstractList$ListItr" ({ cls := "java/lang/Object", name := "getClass", desc := "()Ljava/lang/Class;" } : Jvm.MethodName) ({ cls := "java/lang/Object", name := "getClass", desc := "()Ljava/lang/Class;" } : Jvm.MethodName)) ∈ lw_all := lw_g (lw_at lw_m5 106 rfl) rfl
theorem q1501 : (Jvm.Cond.castable "java/util/AbstractList$ListItr" "java/util/Iterator") ∈ lw_tbl := lw_at lw_m6 153 rfl
theorem q1502 : (Jvm.Cond.selects "java/util/AbstractList$ListItr" ({ cls := "java/util/Iterator", name := "hasNext", desc := "()Z" } : Jvm.MethodName) ({ cls := "java/util/AbstractList$Itr", name := "hasNext", desc := "()Z" } : Jvm.MethodName)) ∈ lw_all := lw_g (lw_at lw_m6 154 rfl) rfl
theorem q1503 : (Jvm.Cond.unhidden "java/util/AbstractList$ListItr" "hasNext" "()Z") ∈ lw_tbl := lw_at lw_m6 155 rfl
theorem q1615 : (Jvm.Cond.selects "java/util/AbstractList$ListItr" ({ cls := "java/util/Iterator", name := "next", desc := "()Ljava/lang/Object;" } : Jvm.MethodName) ({ cls := "java/util/AbstractList$Itr", name := "next", desc := "()Ljava/lang/Object;" } : Jvm.MethodName)) ∈ lw_all := lw_g (lw_at lw_m7 27 rfl) rfl
theorem q1616 : (Jvm.Cond.unhidden "java/util/AbstractList$ListItr" "next" "()Ljava/lang/Object;") ∈ lw_tbl := lw_at lw_m7 28 rfl
theorem q1623 : (Jvm.Cond.selects "java/util/AbstractList$ListItr" ({ cls := "java/util/AbstractList$Itr", name := "checkForComodification", desc := "()V" } : Jvm.MethodName) ({ cls := "java/util/AbstractList$Itr", name := "checkForComodification", desc := "()V" } : Jvm.MethodName)) ∈ lw_all := lw_g (lw_at lw_m7 35 rfl) rfl
theorem q3645 : (Jvm.Cond.castable "java/util/AbstractList$ListItr" "java/lang/Object") ∈ lw_tbl := lw_at lw_m15 137 rfl
theorem q3672 : (Jvm.Cond.fieldLink "java/util/AbstractList$ListItr" (1 : Nat) "java/util/AbstractList$ListItr" "this$0" "Ljava/util/AbstractList;") ∈ lw_all := lw_g (lw_at lw_m15 164 rfl) rfl
theorem q3677 : (Jvm.Cond.fieldLink "java/util/AbstractList$ListItr" (13 : Nat) "java/util/AbstractList$ListItr" "cursor" "I") ∈ lw_all := lw_g (lw_at lw_m15 169 rfl) rfl
theorem q3678 : (Jvm.Cond.sameField "java/util/AbstractList$ListItr" "java/util/AbstractList$Itr" "cursor" "I") ∈ lw_all := lw_g (lw_at lw_m15 170 rfl) rfl
theorem q195 : (Jvm.Cond.initialized "java/lang/Integer$IntegerCache") ∈ lw_all := lw_g (lw_at lw_m1 47 rfl) rfl
theorem q1711 : (Jvm.Cond.laysStatic "java/lang/Integer$IntegerCache" "high" "I") ∈ lw_tbl := lw_at lw_m7 123 rfl
theorem q1713 : (Jvm.Cond.laysStatic "java/lang/Integer$IntegerCache" "cache" "[Ljava/lang/Integer;") ∈ lw_tbl := lw_at lw_m7 125 rfl
theorem q197 : (Jvm.Cond.initialized "jdk/internal/misc/UnsafeConstants") ∈ lw_all := lw_g (lw_at lw_m1 49 rfl) rfl
theorem q1821 : (Jvm.Cond.laysStatic "jdk/internal/misc/UnsafeConstants" "BIG_ENDIAN" "Z") ∈ lw_tbl := lw_at lw_m7 233 rfl
theorem q471 : (Jvm.Cond.sameMethod "[B" "java/lang/Object" "clone" "()Ljava/lang/Object;") ∈ lw_all := lw_g (lw_at lw_m2 83 rfl) rfl
theorem q474 : (Jvm.Cond.selects "[B" ({ cls := "[B", name := "clone", desc := "()Ljava/lang/Object;" } : Jvm.MethodName) ({ cls := "java/lang/Object", name := "clone", desc := "()Ljava/lang/Object;" } : Jvm.MethodName)) ∈ lw_all := lw_g (lw_at lw_m2 86 rfl) rfl
theorem q475 : (Jvm.Cond.castable "[B" "java/lang/Cloneable") ∈ lw_tbl := lw_at lw_m2 87 rfl
theorem q3665 : (Jvm.Cond.castable "[B" "java/lang/Object") ∈ lw_tbl := lw_at lw_m15 157 rfl
theorem q701 : (Jvm.Cond.sameMethod "[I" "java/lang/Object" "clone" "()Ljava/lang/Object;") ∈ lw_all := lw_g (lw_at lw_m3 73 rfl) rfl
theorem q702 : (Jvm.Cond.selects "[I" ({ cls := "[I", name := "clone", desc := "()Ljava/lang/Object;" } : Jvm.MethodName) ({ cls := "java/lang/Object", name := "clone", desc := "()Ljava/lang/Object;" } : Jvm.MethodName)) ∈ lw_all := lw_g (lw_at lw_m3 74 rfl) rfl
theorem q703 : (Jvm.Cond.castable "[I" "java/lang/Cloneable") ∈ lw_tbl := lw_at lw_m3 75 rfl
theorem q3663 : (Jvm.Cond.castable "[I" "java/lang/Object") ∈ lw_tbl := lw_at lw_m15 155 rfl
theorem q1052 : (Jvm.Cond.interfaceMethod "jdk/internal/access/JavaLangAccess" "jdk/internal/access/JavaLangAccess" "getUTF16Char" "([BI)C") ∈ lw_tbl := lw_at lw_m4 184 rfl
theorem q1053 : (Jvm.Cond.declares ({ cls := "jdk/internal/access/JavaLangAccess", name := "getUTF16Char", desc := "([BI)C" } : Jvm.MethodName)) ∈ lw_tbl := lw_at lw_m4 185 rfl
theorem q1132 : (Jvm.Cond.interfaceMethod "java/util/List" "java/util/List" "size" "()I") ∈ lw_tbl := lw_at lw_m5 24 rfl
theorem q1133 : (Jvm.Cond.declares ({ cls := "java/util/List", name := "size", desc := "()I" } : Jvm.MethodName)) ∈ lw_tbl := lw_at lw_m5 25 rfl
theorem q1167 : (Jvm.Cond.interfaceMethod "java/util/List" "java/util/List" "add" "(Ljava/lang/Object;)Z") ∈ lw_tbl := lw_at lw_m5 59 rfl
theorem q1168 : (Jvm.Cond.declares ({ cls := "java/util/List", name := "add", desc := "(Ljava/lang/Object;)Z" } : Jvm.MethodName)) ∈ lw_tbl := lw_at lw_m5 60 rfl
theorem q1299 : (Jvm.Cond.interfaceMethod "java/util/List" "java/util/List" "get" "(I)Ljava/lang/Object;") ∈ lw_tbl := lw_at lw_m5 191 rfl
theorem q1300 : (Jvm.Cond.declares ({ cls := "java/util/List", name := "get", desc := "(I)Ljava/lang/Object;" } : Jvm.MethodName)) ∈ lw_tbl := lw_at lw_m5 192 rfl
theorem q1359 : (Jvm.Cond.interfaceMethod "java/util/List" "java/util/List" "set" "(ILjava/lang/Object;)Ljava/lang/Object;") ∈ lw_tbl := lw_at lw_m6 11 rfl
theorem q1360 : (Jvm.Cond.declares ({ cls := "java/util/List", name := "set", desc := "(ILjava/lang/Object;)Ljava/lang/Object;" } : Jvm.MethodName)) ∈ lw_tbl := lw_at lw_m6 12 rfl
theorem q1385 : (Jvm.Cond.interfaceMethod "java/util/List" "java/util/List" "iterator" "()Ljava/util/Iterator;") ∈ lw_tbl := lw_at lw_m6 37 rfl
theorem q1386 : (Jvm.Cond.declares ({ cls := "java/util/List", name := "iterator", desc := "()Ljava/util/Iterator;" } : Jvm.MethodName)) ∈ lw_tbl := lw_at lw_m6 38 rfl
theorem q1493 : (Jvm.Cond.interfaceMethod "java/util/Iterator" "java/util/Iterator" "hasNext" "()Z") ∈ lw_tbl := lw_at lw_m6 145 rfl
theorem q1494 : (Jvm.Cond.declares ({ cls := "java/util/Iterator", name := "hasNext", desc := "()Z" } : Jvm.MethodName)) ∈ lw_tbl := lw_at lw_m6 146 rfl
theorem q1529 : (Jvm.Cond.interfaceMethod "java/util/Iterator" "java/util/Iterator" "next" "()Ljava/lang/Object;") ∈ lw_tbl := lw_at lw_m6 181 rfl
theorem q1530 : (Jvm.Cond.declares ({ cls := "java/util/Iterator", name := "next", desc := "()Ljava/lang/Object;" } : Jvm.MethodName)) ∈ lw_tbl := lw_at lw_m6 182 rfl
theorem q1741 : (Jvm.Cond.interfaceMethod "java/util/Comparator" "java/util/Comparator" "compare" "(Ljava/lang/Object;Ljava/lang/Object;)I") ∈ lw_tbl := lw_at lw_m7 153 rfl
theorem q1742 : (Jvm.Cond.declares ({ cls := "java/util/Comparator", name := "compare", desc := "(Ljava/lang/Object;Ljava/lang/Object;)I" } : Jvm.MethodName)) ∈ lw_tbl := lw_at lw_m7 154 rfl
theorem q1749 : (Jvm.Cond.interfaceMethod "java/lang/Comparable" "java/lang/Comparable" "compareTo" "(Ljava/lang/Object;)I") ∈ lw_tbl := lw_at lw_m7 161 rfl
theorem q1750 : (Jvm.Cond.declares ({ cls := "java/lang/Comparable", name := "compareTo", desc := "(Ljava/lang/Object;)I" } : Jvm.MethodName)) ∈ lw_tbl := lw_at lw_m7 162 rfl
theorem q2278 : (Jvm.Cond.sameMethod "[J" "java/lang/Object" "clone" "()Ljava/lang/Object;") ∈ lw_all := lw_g (lw_at lw_m9 210 rfl) rfl
theorem q2279 : (Jvm.Cond.selects "[J" ({ cls := "[J", name := "clone", desc := "()Ljava/lang/Object;" } : Jvm.MethodName) ({ cls := "java/lang/Object", name := "clone", desc := "()Ljava/lang/Object;" } : Jvm.MethodName)) ∈ lw_all := lw_g (lw_at lw_m9 211 rfl) rfl
theorem q2280 : (Jvm.Cond.castable "[J" "java/lang/Cloneable") ∈ lw_tbl := lw_at lw_m9 212 rfl
theorem q3667 : (Jvm.Cond.castable "[J" "java/lang/Object") ∈ lw_tbl := lw_at lw_m15 159 rfl
theorem q3659 : (Jvm.Cond.sameMethod "[Ljava/lang/Object;" "java/lang/Object" "getClass" "()Ljava/lang/Class;") ∈ lw_all := lw_g (lw_at lw_m15 151 rfl) rfl
theorem q3660 : (Jvm.Cond.selects "[Ljava/lang/Object;" ({ cls := "java/lang/Object", name := "getClass", desc := "()Ljava/lang/Class;" } : Jvm.MethodName) ({ cls := "java/lang/Object", name := "getClass", desc := "()Ljava/lang/Class;" } : Jvm.MethodName)) ∈ lw_all := lw_g (lw_at lw_m15 152 rfl) rfl
theorem q3664 : (Jvm.Cond.castable "[Ljava/lang/Object;" "java/lang/Object") ∈ lw_tbl := lw_at lw_m15 156 rfl
theorem q3662 : (Jvm.Cond.castable "[[I" "java/lang/Object") ∈ lw_tbl := lw_at lw_m15 154 rfl
theorem q3666 : (Jvm.Cond.castable "[LHintTeam$Table;" "java/lang/Object") ∈ lw_tbl := lw_at lw_m15 158 rfl
theorem q3668 : (Jvm.Cond.castable "[[J" "java/lang/Object") ∈ lw_tbl := lw_at lw_m15 160 rfl
theorem q3669 : (Jvm.Cond.castable "[Z" "java/lang/Object") ∈ lw_tbl := lw_at lw_m15 161 rfl
