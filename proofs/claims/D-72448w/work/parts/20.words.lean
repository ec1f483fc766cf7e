set_option maxRecDepth 100000
theorem dvX0 : ∀ j, j < 16 → defaultValue (tyX0 j) = vp_V [.null, .null, .null, .null, .null, .null, .null, .null, .null, .null, .int 0, .null, .null, .int 0, .int 0, .null] j := fun j hj => by
  rcases (show j = 0 ∨ j = 1 ∨ j = 2 ∨ j = 3 ∨ j = 4 ∨ j = 5 ∨ j = 6 ∨ j = 7 ∨ j = 8 ∨ j = 9 ∨ j = 10 ∨ j = 11 ∨ j = 12 ∨ j = 13 ∨ j = 14 ∨ j = 15 by omega) with rfl | rfl | rfl | rfl | rfl | rfl | rfl | rfl | rfl | rfl | rfl | rfl | rfl | rfl | rfl | rfl <;> rfl
theorem dvX1 : ∀ j, j < 10 → defaultValue (tyX1 j) = vp_V [.null, .null, .null, .null, .null, .null, .null, .null, .null, .null] j := fun j hj => by
  rcases (show j = 0 ∨ j = 1 ∨ j = 2 ∨ j = 3 ∨ j = 4 ∨ j = 5 ∨ j = 6 ∨ j = 7 ∨ j = 8 ∨ j = 9 by omega) with rfl | rfl | rfl | rfl | rfl | rfl | rfl | rfl | rfl | rfl <;> rfl
theorem dvX2 : ∀ j, j < 3 → defaultValue (tyX2 j) = vp_V [.null, .int 0, .int 0] j := fun j hj => by
  rcases (show j = 0 ∨ j = 1 ∨ j = 2 by omega) with rfl | rfl | rfl <;> rfl
theorem dvX3 : ∀ j, j < 2 → defaultValue (tyX3 j) = vp_V [.null, .null] j := fun j hj => by
  rcases (show j = 0 ∨ j = 1 by omega) with rfl | rfl <;> rfl
theorem dvX4 : ∀ j, j < 2 → defaultValue (tyX4 j) = vp_V [.null, .int 0] j := fun j hj => by
  rcases (show j = 0 ∨ j = 1 by omega) with rfl | rfl <;> rfl
theorem dvX5 : ∀ j, j < 7 → defaultValue (tyX5 j) = vp_V [.null, .null, .null, .null, .null, .int 0, .int 0] j := fun j hj => by
  rcases (show j = 0 ∨ j = 1 ∨ j = 2 ∨ j = 3 ∨ j = 4 ∨ j = 5 ∨ j = 6 by omega) with rfl | rfl | rfl | rfl | rfl | rfl | rfl <;> rfl
theorem dvX6 : ∀ j, j < 6 → defaultValue (tyX6 j) = vp_V [.null, .null, .null, .int 0, .null, .null] j := fun j hj => by
  rcases (show j = 0 ∨ j = 1 ∨ j = 2 ∨ j = 3 ∨ j = 4 ∨ j = 5 by omega) with rfl | rfl | rfl | rfl | rfl | rfl <;> rfl
theorem dvX8 : ∀ j, j < 5 → defaultValue (tyX8 j) = vp_V [.int 0, .null, .null, .int 0, .int 0] j := fun j hj => by
  rcases (show j = 0 ∨ j = 1 ∨ j = 2 ∨ j = 3 ∨ j = 4 by omega) with rfl | rfl | rfl | rfl | rfl <;> rfl
theorem dvX9 : ∀ j, j < 2 → defaultValue (tyX9 j) = vp_V [.null, .null] j := fun j hj => by
  rcases (show j = 0 ∨ j = 1 by omega) with rfl | rfl <;> rfl
theorem dvX10 : ∀ j, j < 1 → defaultValue (tyX10 j) = vp_V [.null] j := fun j hj => by
  rcases (show j = 0 by omega) with rfl <;> rfl
theorem dvX17 : ∀ j, j < 37 → defaultValue (tyX17 j) = vp_V [.null, .null, .null, .int 0, .null, .null, .null, .int 0, .null, .int 0, .int 0, .null, .null, .null, .int 0, .null, .null, .null, .null, .int 0, .null, .int 0, .int 0, .null, .null, .null, .null, .null, .int 0, .null, .null, .int 0, .null, .null, .null, .null, .null] j := fun j hj => by
  rcases (show j = 0 ∨ j = 1 ∨ j = 2 ∨ j = 3 ∨ j = 4 ∨ j = 5 ∨ j = 6 ∨ j = 7 ∨ j = 8 ∨ j = 9 ∨ j = 10 ∨ j = 11 ∨ j = 12 ∨ j = 13 ∨ j = 14 ∨ j = 15 ∨ j = 16 ∨ j = 17 ∨ j = 18 ∨ j = 19 ∨ j = 20 ∨ j = 21 ∨ j = 22 ∨ j = 23 ∨ j = 24 ∨ j = 25 ∨ j = 26 ∨ j = 27 ∨ j = 28 ∨ j = 29 ∨ j = 30 ∨ j = 31 ∨ j = 32 ∨ j = 33 ∨ j = 34 ∨ j = 35 ∨ j = 36 by omega) with rfl | rfl | rfl | rfl | rfl | rfl | rfl | rfl | rfl | rfl | rfl | rfl | rfl | rfl | rfl | rfl | rfl | rfl | rfl | rfl | rfl | rfl | rfl | rfl | rfl | rfl | rfl | rfl | rfl | rfl | rfl | rfl | rfl | rfl | rfl | rfl | rfl <;> rfl
theorem dvX21 : ∀ j, j < 1 → defaultValue (tyX21 j) = vp_V [.null] j := fun j hj => by
  rcases (show j = 0 by omega) with rfl <;> rfl
theorem dvX22 : ∀ j, j < 2 → defaultValue (tyX22 j) = vp_V [.null, .null] j := fun j hj => by
  rcases (show j = 0 ∨ j = 1 by omega) with rfl | rfl <;> rfl
theorem dvJ4 : ∀ j, j < 4 → defaultValue (tyJ4 j) = vp_V [.null, .int 0, .int 0, .int 0] j := fun j hj => by
  rcases (show j = 0 ∨ j = 1 ∨ j = 2 ∨ j = 3 by omega) with rfl | rfl | rfl | rfl <;> rfl
theorem dvJ5 : ∀ j, j < 4 → defaultValue (tyJ5 j) = vp_V [.null, .int 0, .int 0, .int 0] j := fun j hj => by
  rcases (show j = 0 ∨ j = 1 ∨ j = 2 ∨ j = 3 by omega) with rfl | rfl | rfl | rfl <;> rfl
theorem nw_0 : (Jvm.Cond.eq (Jvm.Term.static "java/lang/String" "COMPACT_STRINGS" "Z") (Jvm.Term.int (1 : Int32))) ∈ nwG := by decide +kernel
theorem nw_1 : (Jvm.Cond.eq (Jvm.Term.static "java/lang/StringUTF16" "$assertionsDisabled" "Z") (Jvm.Term.int (1 : Int32))) ∈ nwG := by decide +kernel
theorem nw_2 : (Jvm.Cond.eq (Jvm.Term.static "java/lang/StringUTF16" "HI_BYTE_SHIFT" "I") (Jvm.Term.int (0 : Int32))) ∈ nwG := by decide +kernel
theorem nw_3 : (Jvm.Cond.eq (Jvm.Term.static "java/lang/StringUTF16" "LO_BYTE_SHIFT" "I") (Jvm.Term.int (8 : Int32))) ∈ nwG := by decide +kernel
theorem nw_4 : (Jvm.Cond.landsInDefault "EightBlocks$Places" ({ cls := "EightBlocks$Things", name := "isThere", desc := "(I)Z" } : Jvm.MethodName) ({ cls := "EightBlocks$Things", name := "isThere", desc := "(I)Z" } : Jvm.MethodName)) ∈ nwG := by decide +kernel
theorem nw_5 : (Jvm.Cond.landsInDefault "EightBlocks$Rows" ({ cls := "EightBlocks$Things", name := "isThere", desc := "(I)Z" } : Jvm.MethodName) ({ cls := "EightBlocks$Things", name := "isThere", desc := "(I)Z" } : Jvm.MethodName)) ∈ nwG := by decide +kernel
theorem nw_6 : (Jvm.Cond.landsInDefault "EightBlocks$Tape" ({ cls := "EightBlocks$Letters", name := "here", desc := "()I" } : Jvm.MethodName) ({ cls := "EightBlocks$Letters", name := "here", desc := "()I" } : Jvm.MethodName)) ∈ nwG := by decide +kernel
theorem nw_7 : (Jvm.Cond.methodLink "EightBlocks$Rows" (13 : Nat) ({ cls := "EightBlocks$Move", name := "over", desc := "(I)I" } : Jvm.MethodName)) ∈ nwG := by decide +kernel
theorem nw_8 : (Jvm.Cond.sameMethod "EightBlocks$Move" "EightBlocks$Way" "over" "(I)I") ∈ nwG := by decide +kernel
theorem nw_9 : (Jvm.Cond.landsInDefault "EightBlocks$Move" ({ cls := "EightBlocks$Move", name := "over", desc := "(I)I" } : Jvm.MethodName) ({ cls := "EightBlocks$Way", name := "over", desc := "(I)I" } : Jvm.MethodName)) ∈ nwG := by decide +kernel
theorem nw_10 : (Jvm.Cond.methodLink "EightBlocks$Sextets" (28 : Nat) ({ cls := "EightBlocks$Move", name := "over", desc := "(I)I" } : Jvm.MethodName)) ∈ nwG := by decide +kernel
theorem nw_11 : (Jvm.Cond.methodLink "EightBlocks$Move" (34 : Nat) ({ cls := "EightBlocks$Move", name := "round", desc := "(I)I" } : Jvm.MethodName)) ∈ nwG := by decide +kernel
theorem nw_12 : (Jvm.Cond.sameMethod "EightBlocks$Move" "EightBlocks$Way" "round" "(I)I") ∈ nwG := by decide +kernel
theorem nw_13 : (Jvm.Cond.landsInDefault "EightBlocks$Move" ({ cls := "EightBlocks$Move", name := "round", desc := "(I)I" } : Jvm.MethodName) ({ cls := "EightBlocks$Way", name := "round", desc := "(I)I" } : Jvm.MethodName)) ∈ nwG := by decide +kernel
theorem nw_14 : (Jvm.Cond.methodLink "EightBlocks" (185 : Nat) ({ cls := "EightBlocks$Move", name := "over", desc := "(I)I" } : Jvm.MethodName)) ∈ nwG := by decide +kernel
theorem nw_15 : (Jvm.Cond.methodLink "EightBlocks" (282 : Nat) ({ cls := "EightBlocks$Tape", name := "isName", desc := "()Z" } : Jvm.MethodName)) ∈ nwG := by decide +kernel
theorem nw_16 : (Jvm.Cond.sameMethod "EightBlocks$Tape" "EightBlocks$Letters" "isName" "()Z") ∈ nwG := by decide +kernel
theorem nw_17 : (Jvm.Cond.landsInDefault "EightBlocks$Tape" ({ cls := "EightBlocks$Tape", name := "isName", desc := "()Z" } : Jvm.MethodName) ({ cls := "EightBlocks$Letters", name := "isName", desc := "()Z" } : Jvm.MethodName)) ∈ nwG := by decide +kernel
theorem nw_18 : (Jvm.Cond.methodLink "EightBlocks" (270 : Nat) ({ cls := "EightBlocks$Tape", name := "here", desc := "()I" } : Jvm.MethodName)) ∈ nwG := by decide +kernel
theorem nw_19 : (Jvm.Cond.sameMethod "EightBlocks$Tape" "EightBlocks$Letters" "here" "()I") ∈ nwG := by decide +kernel
theorem nw_20 : (Jvm.Cond.landsInDefault "EightBlocks$Tape" ({ cls := "EightBlocks$Tape", name := "here", desc := "()I" } : Jvm.MethodName) ({ cls := "EightBlocks$Letters", name := "here", desc := "()I" } : Jvm.MethodName)) ∈ nwG := by decide +kernel
theorem nw_21 : (Jvm.Cond.landsInDefault "EightBlocks$Tape" ({ cls := "EightBlocks$Letters", name := "next", desc := "()I" } : Jvm.MethodName) ({ cls := "EightBlocks$Letters", name := "next", desc := "()I" } : Jvm.MethodName)) ∈ nwG := by decide +kernel
theorem nw_22 : (Jvm.Cond.methodLink "EightBlocks" (249 : Nat) ({ cls := "EightBlocks$Tape", name := "next", desc := "()I" } : Jvm.MethodName)) ∈ nwG := by decide +kernel
theorem nw_23 : (Jvm.Cond.sameMethod "EightBlocks$Tape" "EightBlocks$Letters" "next" "()I") ∈ nwG := by decide +kernel
theorem nw_24 : (Jvm.Cond.landsInDefault "EightBlocks$Tape" ({ cls := "EightBlocks$Tape", name := "next", desc := "()I" } : Jvm.MethodName) ({ cls := "EightBlocks$Letters", name := "next", desc := "()I" } : Jvm.MethodName)) ∈ nwG := by decide +kernel
theorem nw_25 : (Jvm.Cond.methodLink "EightBlocks" (259 : Nat) ({ cls := "EightBlocks$Tape", name := "isSign", desc := "(I)Z" } : Jvm.MethodName)) ∈ nwG := by decide +kernel
theorem nw_26 : (Jvm.Cond.sameMethod "EightBlocks$Tape" "EightBlocks$Letters" "isSign" "(I)Z") ∈ nwG := by decide +kernel
theorem nw_27 : (Jvm.Cond.landsInDefault "EightBlocks$Tape" ({ cls := "EightBlocks$Tape", name := "isSign", desc := "(I)Z" } : Jvm.MethodName) ({ cls := "EightBlocks$Letters", name := "isSign", desc := "(I)Z" } : Jvm.MethodName)) ∈ nwG := by decide +kernel
theorem nw_28 : (Jvm.Cond.methodLink "EightBlocks" (266 : Nat) ({ cls := "EightBlocks$Tape", name := "isFigure", desc := "()Z" } : Jvm.MethodName)) ∈ nwG := by decide +kernel
theorem nw_29 : (Jvm.Cond.sameMethod "EightBlocks$Tape" "EightBlocks$Letters" "isFigure" "()Z") ∈ nwG := by decide +kernel
theorem nw_30 : (Jvm.Cond.landsInDefault "EightBlocks$Tape" ({ cls := "EightBlocks$Tape", name := "isFigure", desc := "()Z" } : Jvm.MethodName) ({ cls := "EightBlocks$Letters", name := "isFigure", desc := "()Z" } : Jvm.MethodName)) ∈ nwG := by decide +kernel
theorem nw_31 : (Jvm.Cond.landsInDefault "EightBlocks$Places" ({ cls := "EightBlocks$Things", name := "parts", desc := "(LEightBlocks$Flood;LEightBlocks$Hall;I)I" } : Jvm.MethodName) ({ cls := "EightBlocks$Things", name := "parts", desc := "(LEightBlocks$Flood;LEightBlocks$Hall;I)I" } : Jvm.MethodName)) ∈ nwG := by decide +kernel
theorem nw_32 : (Jvm.Cond.landsInDefault "EightBlocks$Rows" ({ cls := "EightBlocks$Things", name := "parts", desc := "(LEightBlocks$Flood;LEightBlocks$Hall;I)I" } : Jvm.MethodName) ({ cls := "EightBlocks$Things", name := "parts", desc := "(LEightBlocks$Flood;LEightBlocks$Hall;I)I" } : Jvm.MethodName)) ∈ nwG := by decide +kernel
theorem nw_33 : (Jvm.Cond.landsInDefault "EightBlocks$Sextets" ({ cls := "EightBlocks$Things", name := "parts", desc := "(LEightBlocks$Flood;LEightBlocks$Hall;I)I" } : Jvm.MethodName) ({ cls := "EightBlocks$Things", name := "parts", desc := "(LEightBlocks$Flood;LEightBlocks$Hall;I)I" } : Jvm.MethodName)) ∈ nwG := by decide +kernel
