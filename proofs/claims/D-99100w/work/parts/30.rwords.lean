/-! the reader: fields and calls by their pool entries -/
set_option maxRecDepth 100000
theorem fX7_3 : FieldT RX7 3 7 9 true (.object "KindPostman") := ⟨RX7, TX7, 10, tyX7, "KindPostman$Reader", rfl, in_X7, by decide, Or.inl rfl, tyX7_ok, nmX7, rfl, rfl, Or.inl q528⟩
theorem fX7_22 : FieldT RX7 22 7 0 true .int := ⟨RX7, TX7, 10, tyX7, "KindPostman$Reader", rfl, in_X7, by decide, Or.inl rfl, tyX7_ok, nmX7, rfl, rfl, Or.inl q518⟩
theorem fX7_26 : FieldT RX7 26 7 3 false .int := ⟨RX7, TX7, 10, tyX7, "KindPostman$Reader", rfl, in_X7, by decide, Or.inl rfl, tyX7_ok, nmX7, rfl, rfl, Or.inl q521⟩
theorem fX7_29 : FieldT RX7 29 0 1 false .int := ⟨RX0, TX0, 17, tyX0, "KindPostman", rfl, in_X0, by decide, Or.inl rfl, tyX0_ok, nmX0, rfl, rfl, Or.inr ⟨_, q435⟩⟩
theorem fX7_32 : FieldT RX7 32 0 0 true (.array .byte) := ⟨RX0, TX0, 17, tyX0, "KindPostman", rfl, in_X0, by decide, Or.inl rfl, tyX0_ok, nmX0, rfl, rfl, Or.inr ⟨_, q434⟩⟩
theorem fX7_44 : FieldT RX7 44 7 4 false .int := ⟨RX7, TX7, 10, tyX7, "KindPostman$Reader", rfl, in_X7, by decide, Or.inl rfl, tyX7_ok, nmX7, rfl, rfl, Or.inl q522⟩
theorem fX7_126 : FieldT RX7 126 7 5 false .int := ⟨RX7, TX7, 10, tyX7, "KindPostman$Reader", rfl, in_X7, by decide, Or.inl rfl, tyX7_ok, nmX7, rfl, rfl, Or.inl q523⟩
theorem fX7_134 : FieldT RX7 134 7 6 false .int := ⟨RX7, TX7, 10, tyX7, "KindPostman$Reader", rfl, in_X7, by decide, Or.inl rfl, tyX7_ok, nmX7, rfl, rfl, Or.inl q524⟩
theorem kX7_36 : CallT RX7 36 RX7 yX7_see cX7_see 1 (some .int) 0 := ⟨lw_V q560 q562 qs3 q157 q563, by decide +kernel, by decide⟩
theorem kX7_58 : CallT RX7 58 RX7 yX7_is cX7_is 4 (some .boolean) 1 := ⟨lw_V q578 q580 qs7 q157 q581, by decide +kernel, by decide⟩
theorem kX7_96 : CallT RX7 96 RX7 yX7_asked cX7_asked 1 (some .int) 0 := ⟨lw_V q636 q638 qs8 q157 q639, by decide +kernel, by decide⟩
theorem kX7_117 : CallT RX7 117 RX7 yX7_lawWord cX7_lawWord 1 (some .int) 0 := ⟨lw_V q573 q575 qs6 q157 q576, by decide +kernel, by decide⟩
theorem kX7_120 : CallT RX7 120 RX7 yX7_postWord cX7_postWord 1 (some .int) 0 := ⟨lw_V q651 q653 qs9 q157 q654, by decide +kernel, by decide⟩
theorem kX7_152 : CallT RX7 152 RX7 yX7_isLetter cX7_isLetter 1 (some .boolean) 0 := ⟨lw_V q564 q566 qs4 q157 q567, by decide +kernel, by decide⟩
theorem kX7_156 : CallT RX7 156 RX7 yX7_keyword cX7_keyword 1 (some .int) 0 := ⟨lw_V q569 q571 qs5 q157 q572, by decide +kernel, by decide⟩
theorem kX7_159 : CallT RX7 159 RX7 yX7_isDigit cX7_isDigit 1 (some .boolean) 0 := ⟨lw_V q666 q668 qs10 q157 q669, by decide +kernel, by decide⟩
theorem kX7_162 : CallT RX7 162 RX7 yX7_isMark cX7_isMark 2 (some .boolean) 1 := ⟨lw_V q670 q672 qs11 q157 q673, by decide +kernel, by decide⟩
theorem sX7_40 : CallS RX7 40 yX0_isIn cX0_isIn 3 (some .boolean) 3 := ⟨Or.inr ⟨⟨_, q568⟩, lw_meth q502, q143, q501⟩, by decide +kernel, by decide⟩
