set_option maxRecDepth 100000
theorem lf_X2_9 : zw_F "MultipoleLineModel" 9 [0] 1 ("MultipoleLineModel", "now", "[I", true) := ⟨Or.inl ⟨"MultipoleLineModel", q2408, Or.inl rfl⟩, by
  intro ci hci
  simp only [List.mem_cons, List.not_mem_nil, or_false] at hci
  subst hci
  exact ⟨_, rfl, by decide, rfl⟩⟩
theorem lf_X2_13 : zw_F "MultipoleLineModel" 13 [0] 2 ("MultipoleLineModel", "aside", "[I", true) := ⟨Or.inl ⟨"MultipoleLineModel", q2409, Or.inl rfl⟩, by
  intro ci hci
  simp only [List.mem_cons, List.not_mem_nil, or_false] at hci
  subst hci
  exact ⟨_, rfl, by decide, rfl⟩⟩
theorem lf_X2_16 : zw_F "MultipoleLineModel" 16 [0] 3 ("MultipoleLineModel", "undos", "[I", true) := ⟨Or.inl ⟨"MultipoleLineModel", q2410, Or.inl rfl⟩, by
  intro ci hci
  simp only [List.mem_cons, List.not_mem_nil, or_false] at hci
  subst hci
  exact ⟨_, rfl, by decide, rfl⟩⟩
theorem lf_X2_19 : zw_F "MultipoleLineModel" 19 [0] 4 ("MultipoleLineModel", "saved", "[I", true) := ⟨Or.inl ⟨"MultipoleLineModel", q2411, Or.inl rfl⟩, by
  intro ci hci
  simp only [List.mem_cons, List.not_mem_nil, or_false] at hci
  subst hci
  exact ⟨_, rfl, by decide, rfl⟩⟩
theorem lf_X2_22 : zw_F "MultipoleLineModel" 22 [0] 5 ("MultipoleLineModel", "isSaved", "[Z", true) := ⟨Or.inl ⟨"MultipoleLineModel", q2412, Or.inl rfl⟩, by
  intro ci hci
  simp only [List.mem_cons, List.not_mem_nil, or_false] at hci
  subst hci
  exact ⟨_, rfl, by decide, rfl⟩⟩
theorem lf_X2_26 : zw_F "MultipoleLineModel" 26 [0] 8 ("MultipoleLineModel", "buffer", "[B", true) := ⟨Or.inl ⟨"MultipoleLineModel", q2415, Or.inl rfl⟩, by
  intro ci hci
  simp only [List.mem_cons, List.not_mem_nil, or_false] at hci
  subst hci
  exact ⟨_, rfl, by decide, rfl⟩⟩
theorem lf_X2_30 : zw_F "MultipoleLineModel" 30 [0] 11 ("MultipoleLineModel", "parseAt", "I", false) := ⟨Or.inl ⟨"MultipoleLineModel", q2418, Or.inl rfl⟩, by
  intro ci hci
  simp only [List.mem_cons, List.not_mem_nil, or_false] at hci
  subst hci
  exact ⟨_, rfl, by decide, rfl⟩⟩
theorem lf_X2_34 : zw_F "MultipoleLineModel" 34 [0] 17 ("MultipoleLineModel", "laid", "[J", true) := ⟨Or.inl ⟨"MultipoleLineModel", q2424, Or.inl rfl⟩, by
  intro ci hci
  simp only [List.mem_cons, List.not_mem_nil, or_false] at hci
  subst hci
  exact ⟨_, rfl, by decide, rfl⟩⟩
theorem lf_X2_38 : zw_F "MultipoleLineModel" 38 [0] 18 ("MultipoleLineModel", "farLevel", "[I", true) := ⟨Or.inl ⟨"MultipoleLineModel", q2425, Or.inl rfl⟩, by
  intro ci hci
  simp only [List.mem_cons, List.not_mem_nil, or_false] at hci
  subst hci
  exact ⟨_, rfl, by decide, rfl⟩⟩
theorem lf_X2_41 : zw_F "MultipoleLineModel" 41 [0] 19 ("MultipoleLineModel", "farNumber", "[I", true) := ⟨Or.inl ⟨"MultipoleLineModel", q2426, Or.inl rfl⟩, by
  intro ci hci
  simp only [List.mem_cons, List.not_mem_nil, or_false] at hci
  subst hci
  exact ⟨_, rfl, by decide, rfl⟩⟩
theorem lf_X2_44 : zw_F "MultipoleLineModel" 44 [0] 21 ("MultipoleLineModel", "local", "[D", true) := ⟨Or.inl ⟨"MultipoleLineModel", q2428, Or.inl rfl⟩, by
  intro ci hci
  simp only [List.mem_cons, List.not_mem_nil, or_false] at hci
  subst hci
  exact ⟨_, rfl, by decide, rfl⟩⟩
theorem lf_X2_48 : zw_F "MultipoleLineModel" 48 [0] 22 ("MultipoleLineModel", "above", "[D", true) := ⟨Or.inl ⟨"MultipoleLineModel", q2429, Or.inl rfl⟩, by
  intro ci hci
  simp only [List.mem_cons, List.not_mem_nil, or_false] at hci
  subst hci
  exact ⟨_, rfl, by decide, rfl⟩⟩
theorem lf_X2_51 : zw_F "MultipoleLineModel" 51 [0] 23 ("MultipoleLineModel", "going", "[I", true) := ⟨Or.inl ⟨"MultipoleLineModel", q2430, Or.inl rfl⟩, by
  intro ci hci
  simp only [List.mem_cons, List.not_mem_nil, or_false] at hci
  subst hci
  exact ⟨_, rfl, by decide, rfl⟩⟩
theorem lf_X2_54 : zw_F "MultipoleLineModel" 54 [0] 24 ("MultipoleLineModel", "page", "[B", true) := ⟨Or.inl ⟨"MultipoleLineModel", q2431, Or.inl rfl⟩, by
  intro ci hci
  simp only [List.mem_cons, List.not_mem_nil, or_false] at hci
  subst hci
  exact ⟨_, rfl, by decide, rfl⟩⟩
theorem lf_X2_57 : zw_F "MultipoleLineModel" 57 [0] 0 ("MultipoleLineModel", "thrown", "I", false) := ⟨Or.inl ⟨"MultipoleLineModel", q2407, Or.inl rfl⟩, by
  intro ci hci
  simp only [List.mem_cons, List.not_mem_nil, or_false] at hci
  subst hci
  exact ⟨_, rfl, by decide, rfl⟩⟩
theorem lf_X2_64 : zw_F "MultipoleLineModel" 64 [0] 9 ("MultipoleLineModel", "buffered", "I", false) := ⟨Or.inl ⟨"MultipoleLineModel", q2416, Or.inl rfl⟩, by
  intro ci hci
  simp only [List.mem_cons, List.not_mem_nil, or_false] at hci
  subst hci
  exact ⟨_, rfl, by decide, rfl⟩⟩
theorem lk_X2_67 : zw_LV [0] "MultipoleLineModel" "MultipoleLineModel" 67 yX2_four cX2_four 3 (Option.none : Option Jvm.ClassFile.FieldType) 1 := ⟨by
  intro ci hci
  simp only [List.mem_cons, List.not_mem_nil, or_false] at hci
  subst hci
  exact ⟨_, rfl, rfl⟩, fun R s args Z rm hts hK hR => cwV 1 hts (lw_V q2495 q2497 qs37 q111 q2498) rfl rfl rfl (by decide +kernel) hR⟩
theorem lf_X2_71 : zw_F "MultipoleLineModel" 71 [0] 10 ("MultipoleLineModel", "parseCode", "I", false) := ⟨Or.inl ⟨"MultipoleLineModel", q2417, Or.inl rfl⟩, by
  intro ci hci
  simp only [List.mem_cons, List.not_mem_nil, or_false] at hci
  subst hci
  exact ⟨_, rfl, by decide, rfl⟩⟩
theorem lk_X2_77 : zw_LS "MultipoleLineModel" 77 yX2_in cX2_in 3 (Option.some Jvm.ClassFile.FieldType.boolean) 3 := fun R s args Z rm hts hK hR => va_cwS 3 hts (lw_S q2515 q2516 q111 q2517) rfl rfl rfl (by decide +kernel) hR
theorem lk_X2_60 : zw_LV [0] "MultipoleLineModel" "MultipoleLineModel" 60 yX2_may cX2_may 4 (Option.some Jvm.ClassFile.FieldType.boolean) 3 := ⟨by
  intro ci hci
  simp only [List.mem_cons, List.not_mem_nil, or_false] at hci
  subst hci
  exact ⟨_, rfl, rfl⟩, fun R s args Z rm hts hK hR => cwV 3 hts (lw_V q2518 q2520 qs38 q111 q2521) rfl rfl rfl (by decide +kernel) hR⟩
theorem lk_X2_149 : zw_LS "MultipoleLineModel" 149 yX2_lays cX2_lays 5 (Option.none : Option Jvm.ClassFile.FieldType) 4 := fun R s args Z rm hts hK hR => va_cwS 4 hts (lw_S q2522 q2523 q111 q2524) rfl rfl rfl (by decide +kernel) hR
theorem lf_X2_74 : zw_F "MultipoleLineModel" 74 [0] 12 ("MultipoleLineModel", "size", "I", false) := ⟨Or.inl ⟨"MultipoleLineModel", q2419, Or.inl rfl⟩, by
  intro ci hci
  simp only [List.mem_cons, List.not_mem_nil, or_false] at hci
  subst hci
  exact ⟨_, rfl, by decide, rfl⟩⟩
theorem lk_X2_90 : zw_LV [0] "MultipoleLineModel" "MultipoleLineModel" 90 yX2_isLetter cX2_isLetter 2 (Option.some Jvm.ClassFile.FieldType.boolean) 1 := ⟨by
  intro ci hci
  simp only [List.mem_cons, List.not_mem_nil, or_false] at hci
  subst hci
  exact ⟨_, rfl, rfl⟩, fun R s args Z rm hts hK hR => cwV 1 hts (lw_V q2533 q2535 qs41 q111 q2536) rfl rfl rfl (by decide +kernel) hR⟩
theorem lk_X2_94 : zw_LV [0] "MultipoleLineModel" "MultipoleLineModel" 94 yX2_isDigit cX2_isDigit 2 (Option.some Jvm.ClassFile.FieldType.boolean) 1 := ⟨by
  intro ci hci
  simp only [List.mem_cons, List.not_mem_nil, or_false] at hci
  subst hci
  exact ⟨_, rfl, rfl⟩, fun R s args Z rm hts hK hR => cwV 1 hts (lw_V q2537 q2539 qs42 q111 q2540) rfl rfl rfl (by decide +kernel) hR⟩
theorem lf_X2_81 : zw_F "MultipoleLineModel" 81 [0] 13 ("MultipoleLineModel", "at", "I", false) := ⟨Or.inl ⟨"MultipoleLineModel", q2420, Or.inl rfl⟩, by
  intro ci hci
  simp only [List.mem_cons, List.not_mem_nil, or_false] at hci
  subst hci
  exact ⟨_, rfl, by decide, rfl⟩⟩
theorem lf_X2_84 : zw_F "MultipoleLineModel" 84 [0] 14 ("MultipoleLineModel", "start", "I", false) := ⟨Or.inl ⟨"MultipoleLineModel", q2421, Or.inl rfl⟩, by
  intro ci hci
  simp only [List.mem_cons, List.not_mem_nil, or_false] at hci
  subst hci
  exact ⟨_, rfl, by decide, rfl⟩⟩
theorem lf_X2_87 : zw_F "MultipoleLineModel" 87 [0] 15 ("MultipoleLineModel", "token", "I", false) := ⟨Or.inl ⟨"MultipoleLineModel", q2422, Or.inl rfl⟩, by
  intro ci hci
  simp only [List.mem_cons, List.not_mem_nil, or_false] at hci
  subst hci
  exact ⟨_, rfl, by decide, rfl⟩⟩
theorem lf_X2_97 : zw_F "MultipoleLineModel" 97 [0] 16 ("MultipoleLineModel", "told", "I", false) := ⟨Or.inl ⟨"MultipoleLineModel", q2423, Or.inl rfl⟩, by
  intro ci hci
  simp only [List.mem_cons, List.not_mem_nil, or_false] at hci
  subst hci
  exact ⟨_, rfl, by decide, rfl⟩⟩
theorem lk_X2_120 : zw_LV [0] "MultipoleLineModel" "MultipoleLineModel" 120 yX2_next cX2_next 1 (Option.none : Option Jvm.ClassFile.FieldType) 0 := ⟨by
  intro ci hci
  simp only [List.mem_cons, List.not_mem_nil, or_false] at hci
  subst hci
  exact ⟨_, rfl, rfl⟩, fun R s args Z rm hts hK hR => cwV 0 hts (lw_V q2529 q2531 qs40 q111 q2532) rfl rfl rfl (by decide +kernel) hR⟩
theorem lk_X2_100 : zw_LV [0] "MultipoleLineModel" "MultipoleLineModel" 100 yX2_is cX2_is 2 (Option.some Jvm.ClassFile.FieldType.boolean) 1 := ⟨by
  intro ci hci
  simp only [List.mem_cons, List.not_mem_nil, or_false] at hci
  subst hci
  exact ⟨_, rfl, rfl⟩, fun R s args Z rm hts hK hR => cwV 1 hts (lw_V q2546 q2548 qs44 q111 q2549) rfl rfl rfl (by decide +kernel) hR⟩
theorem lf_J4_15 : zw_F "java/lang/String" 15 [11, 17] 1 ("java/lang/String", "coder", "B", true) := ⟨Or.inl ⟨"java/lang/String", q755, Or.inl rfl⟩, by
  intro ci hci
  simp only [List.mem_cons, List.not_mem_nil, or_false] at hci
  rcases hci with rfl | rfl
  · exact ⟨_, rfl, by decide, rfl⟩
  · exact ⟨_, rfl, by decide, rfl⟩⟩
theorem lk_J4_335 : zw_LV [11, 17] "java/lang/String" "java/lang/String" 335 yJ4_coder cJ4_coder 1 (Option.some Jvm.ClassFile.FieldType.byte) 0 := ⟨by
  intro ci hci
  simp only [List.mem_cons, List.not_mem_nil, or_false] at hci
  rcases hci with rfl | rfl
  · exact ⟨_, rfl, rfl⟩
  · exact ⟨_, rfl, rfl⟩, fun R s args Z rm hts hK hR => cwV 0 hts (lw_V q714 q715 q716 q109 q717) rfl rfl rfl (by decide +kernel) hR⟩
theorem lf_J4_9 : zw_F "java/lang/String" 9 [11, 17] 0 ("java/lang/String", "value", "[B", true) := ⟨Or.inl ⟨"java/lang/String", q754, Or.inl rfl⟩, by
  intro ci hci
  simp only [List.mem_cons, List.not_mem_nil, or_false] at hci
  rcases hci with rfl | rfl
  · exact ⟨_, rfl, by decide, rfl⟩
  · exact ⟨_, rfl, by decide, rfl⟩⟩
theorem lk_X2_103 : zw_LV [11, 17] "java/lang/String" "MultipoleLineModel" 103 yJ4_length cJ4_length 1 (Option.some Jvm.ClassFile.FieldType.int) 0 := ⟨by
  intro ci hci
  simp only [List.mem_cons, List.not_mem_nil, or_false] at hci
  rcases hci with rfl | rfl
  · exact ⟨_, rfl, rfl⟩
  · exact ⟨_, rfl, rfl⟩, fun R s args Z rm hts hK hR => cwV 0 hts (lw_V q2550 q711 q712 q109 q713) rfl rfl rfl (by decide +kernel) hR⟩
theorem lk_J4_492 : zw_LV [11, 17] "java/lang/String" "java/lang/String" 492 yJ4_isLatin1 cJ4_isLatin1 1 (Option.some Jvm.ClassFile.FieldType.boolean) 0 := ⟨by
  intro ci hci
  simp only [List.mem_cons, List.not_mem_nil, or_false] at hci
  rcases hci with rfl | rfl
  · exact ⟨_, rfl, rfl⟩
  · exact ⟨_, rfl, rfl⟩, fun R s args Z rm hts hK hR => cwV 0 hts (lw_V q2555 q2556 q2557 q109 q2558) rfl rfl rfl (by decide +kernel) hR⟩
theorem lk_J4_1059 : zw_LS "java/lang/String" 1059 yJ17_checkIndex cJ17_checkIndex 3 (Option.some Jvm.ClassFile.FieldType.int) 3 := fun R s args Z rm hts hK hR => va_cwS 3 hts (lw_S q612 q613 q127 q614) rfl rfl rfl (by decide +kernel) hR
theorem lk_J16_9 : zw_LS "java/lang/StringLatin1" 9 yJ4_checkIndex cJ4_checkIndex 2 (Option.none : Option Jvm.ClassFile.FieldType) 2 := fun R s args Z rm hts hK hR => va_cwS 2 hts (lw_S q2562 q610 q109 q611) rfl rfl rfl (by decide +kernel) hR
theorem lk_J4_495 : zw_LS "java/lang/String" 495 yJ16_charAt cJ16_charAt 2 (Option.some Jvm.ClassFile.FieldType.char) 2 := fun R s args Z rm hts hK hR => va_cwS 2 hts (lw_S q2559 q2560 q126 q2561) rfl rfl rfl (by decide +kernel) hR
theorem lk_J5_48 : zw_LS "java/lang/StringUTF16" 48 yJ5_length cJ5_length 1 (Option.some Jvm.ClassFile.FieldType.int) 1 := fun R s args Z rm hts hK hR => va_cwS 1 hts (lw_S q583 q584 q110 q585) rfl rfl rfl (by decide +kernel) hR
theorem lk_J5_414 : zw_LS "java/lang/StringUTF16" 414 yJ4_checkIndex cJ4_checkIndex 2 (Option.none : Option Jvm.ClassFile.FieldType) 2 := fun R s args Z rm hts hK hR => va_cwS 2 hts (lw_S q609 q610 q109 q611) rfl rfl rfl (by decide +kernel) hR
theorem lk_J5_67 : zw_LS "java/lang/StringUTF16" 67 yJ5_checkIndex cJ5_checkIndex 2 (Option.none : Option Jvm.ClassFile.FieldType) 2 := fun R s args Z rm hts hK hR => va_cwS 2 hts (lw_S q606 q607 q110 q608) rfl rfl rfl (by decide +kernel) hR
theorem lk_J5_71 : zw_LS "java/lang/StringUTF16" 71 yJ5_getChar cJ5_getChar 2 (Option.some Jvm.ClassFile.FieldType.char) 2 := fun R s args Z rm hts hK hR => va_cwS 2 hts (lw_S q747 q748 q110 q749) rfl rfl rfl (by decide +kernel) hR
theorem lk_J4_498 : zw_LS "java/lang/String" 498 yJ5_charAt cJ5_charAt 2 (Option.some Jvm.ClassFile.FieldType.char) 2 := fun R s args Z rm hts hK hR => va_cwS 2 hts (lw_S q2563 q2564 q110 q2565) rfl rfl rfl (by decide +kernel) hR
theorem lk_X2_109 : zw_LV [11, 17] "java/lang/String" "MultipoleLineModel" 109 yJ4_charAt cJ4_charAt 2 (Option.some Jvm.ClassFile.FieldType.char) 1 := ⟨by
  intro ci hci
  simp only [List.mem_cons, List.not_mem_nil, or_false] at hci
  rcases hci with rfl | rfl
  · exact ⟨_, rfl, rfl⟩
  · exact ⟨_, rfl, rfl⟩, fun R s args Z rm hts hK hR => cwV 1 hts (lw_V q2551 q2552 q2553 q109 q2554) rfl rfl rfl (by decide +kernel) hR⟩
theorem lk_X2_128 : zw_LV [0] "MultipoleLineModel" "MultipoleLineModel" 128 yX2_isWord cX2_isWord 3 (Option.some Jvm.ClassFile.FieldType.boolean) 1 := ⟨by
  intro ci hci
  simp only [List.mem_cons, List.not_mem_nil, or_false] at hci
  subst hci
  exact ⟨_, rfl, rfl⟩, fun R s args Z rm hts hK hR => cwV 1 hts (lw_V q2542 q2544 qs43 q111 q2545) rfl rfl rfl (by decide +kernel) hR⟩
theorem lk_X2_113 : zw_LV [0] "MultipoleLineModel" "MultipoleLineModel" 113 yX2_faults cX2_faults 2 (Option.none : Option Jvm.ClassFile.FieldType) 1 := ⟨by
  intro ci hci
  simp only [List.mem_cons, List.not_mem_nil, or_false] at hci
  subst hci
  exact ⟨_, rfl, rfl⟩, fun R s args Z rm hts hK hR => cwV 1 hts (lw_V q2566 q2568 qs45 q111 q2569) rfl rfl rfl (by decide +kernel) hR⟩
theorem lk_X2_116 : zw_LV [0] "MultipoleLineModel" "MultipoleLineModel" 116 yX2_numberHere cX2_numberHere 3 (Option.some Jvm.ClassFile.FieldType.int) 2 := ⟨by
  intro ci hci
  simp only [List.mem_cons, List.not_mem_nil, or_false] at hci
  subst hci
  exact ⟨_, rfl, rfl⟩, fun R s args Z rm hts hK hR => cwV 2 hts (lw_V q2574 q2576 qs47 q111 q2577) rfl rfl rfl (by decide +kernel) hR⟩
theorem lk_X2_132 : zw_LV [0] "MultipoleLineModel" "MultipoleLineModel" 132 yX2_number cX2_number 4 (Option.some Jvm.ClassFile.FieldType.int) 2 := ⟨by
  intro ci hci
  simp only [List.mem_cons, List.not_mem_nil, or_false] at hci
  subst hci
  exact ⟨_, rfl, rfl⟩, fun R s args Z rm hts hK hR => cwV 2 hts (lw_V q2570 q2572 qs46 q111 q2573) rfl rfl rfl (by decide +kernel) hR⟩
theorem lk_X2_163 : zw_LV [0] "MultipoleLineModel" "MultipoleLineModel" 163 yX2_of cX2_of 3 (Option.some Jvm.ClassFile.FieldType.int) 2 := ⟨by
  intro ci hci
  simp only [List.mem_cons, List.not_mem_nil, or_false] at hci
  subst hci
  exact ⟨_, rfl, rfl⟩, fun R s args Z rm hts hK hR => cwV 2 hts (lw_V q2588 q2590 qs50 q111 q2591) rfl rfl rfl (by decide +kernel) hR⟩
theorem lk_X2_123 : zw_LV [0] "MultipoleLineModel" "MultipoleLineModel" 123 yX2_isFixedAt cX2_isFixedAt 3 (Option.some Jvm.ClassFile.FieldType.boolean) 1 := ⟨by
  intro ci hci
  simp only [List.mem_cons, List.not_mem_nil, or_false] at hci
  subst hci
  exact ⟨_, rfl, rfl⟩, fun R s args Z rm hts hK hR => cwV 1 hts (lw_V q2584 q2586 qs49 q111 q2587) rfl rfl rfl (by decide +kernel) hR⟩
theorem lk_X2_166 : zw_LV [0] "MultipoleLineModel" "MultipoleLineModel" 166 yX2_puts cX2_puts 4 (Option.none : Option Jvm.ClassFile.FieldType) 3 := ⟨by
  intro ci hci
  simp only [List.mem_cons, List.not_mem_nil, or_false] at hci
  subst hci
  exact ⟨_, rfl, rfl⟩, fun R s args Z rm hts hK hR => cwV 3 hts (lw_V q2597 q2599 qs52 q111 q2600) rfl rfl rfl (by decide +kernel) hR⟩
theorem lk_X2_170 : zw_LS "MultipoleLineModel" 170 yX2_one cX2_one 1 (Option.some Jvm.ClassFile.FieldType.int) 1 := fun R s args Z rm hts hK hR => va_cwS 1 hts (lw_S q2601 q2602 q111 q2603) rfl rfl rfl (by decide +kernel) hR
theorem lk_X2_135 : zw_LV [0] "MultipoleLineModel" "MultipoleLineModel" 135 yX2_addsBody cX2_addsBody 5 (Option.none : Option Jvm.ClassFile.FieldType) 3 := ⟨by
  intro ci hci
  simp only [List.mem_cons, List.not_mem_nil, or_false] at hci
  subst hci
  exact ⟨_, rfl, rfl⟩, fun R s args Z rm hts hK hR => cwV 3 hts (lw_V q2593 q2595 qs51 q111 q2596) rfl rfl rfl (by decide +kernel) hR⟩
theorem ls_X2_126 : ("MultipoleLineModel", 126, "minus", 19) ∈ zwSS := List.mem_of_getElem? (i := 9) rfl
theorem lk_X2_145 : zw_LV [0] "MultipoleLineModel" "MultipoleLineModel" 145 yX2_readsBody cX2_readsBody 5 (Option.none : Option Jvm.ClassFile.FieldType) 1 := ⟨by
  intro ci hci
  simp only [List.mem_cons, List.not_mem_nil, or_false] at hci
  subst hci
  exact ⟨_, rfl, rfl⟩, fun R s args Z rm hts hK hR => cwV 1 hts (lw_V q2580 q2582 qs48 q111 q2583) rfl rfl rfl (by decide +kernel) hR⟩
theorem ls_X2_139 : ("MultipoleLineModel", 139, "line", 16) ∈ zwSS := List.mem_of_getElem? (i := 6) rfl
theorem ls_X2_141 : ("MultipoleLineModel", 141, "fixed", 17) ∈ zwSS := List.mem_of_getElem? (i := 7) rfl
theorem ls_X2_143 : ("MultipoleLineModel", 143, "free", 18) ∈ zwSS := List.mem_of_getElem? (i := 8) rfl
theorem lk_X2_153 : zw_LV [0] "MultipoleLineModel" "MultipoleLineModel" 153 yX2_readsText cX2_readsText 2 (Option.none : Option Jvm.ClassFile.FieldType) 0 := ⟨by
  intro ci hci
  simp only [List.mem_cons, List.not_mem_nil, or_false] at hci
  subst hci
  exact ⟨_, rfl, rfl⟩, fun R s args Z rm hts hK hR => cwV 0 hts (lw_V q2525 q2527 qs39 q111 q2528) rfl rfl rfl (by decide +kernel) hR⟩
theorem lf_X2_156 : zw_F "MultipoleLineModel" 156 [0] 6 ("MultipoleLineModel", "isThere", "Z", false) := ⟨Or.inl ⟨"MultipoleLineModel", q2413, Or.inl rfl⟩, by
  intro ci hci
  simp only [List.mem_cons, List.not_mem_nil, or_false] at hci
  subst hci
  exact ⟨_, rfl, by decide, rfl⟩⟩
theorem lf_X2_160 : zw_F "MultipoleLineModel" 160 [0] 7 ("MultipoleLineModel", "undoMany", "I", false) := ⟨Or.inl ⟨"MultipoleLineModel", q2414, Or.inl rfl⟩, by
  intro ci hci
  simp only [List.mem_cons, List.not_mem_nil, or_false] at hci
  subst hci
  exact ⟨_, rfl, by decide, rfl⟩⟩
theorem lk_X2_193 : zw_LV [0] "MultipoleLineModel" "MultipoleLineModel" 193 yX2_mayTwo cX2_mayTwo 3 (Option.some Jvm.ClassFile.FieldType.boolean) 2 := ⟨by
  intro ci hci
  simp only [List.mem_cons, List.not_mem_nil, or_false] at hci
  subst hci
  exact ⟨_, rfl, rfl⟩, fun R s args Z rm hts hK hR => cwV 2 hts (lw_V q2608 q2610 qs53 q111 q2611) rfl rfl rfl (by decide +kernel) hR⟩
theorem lk_X2_197 : zw_LV [0] "MultipoleLineModel" "MultipoleLineModel" 197 yX2_fixedMany cX2_fixedMany 3 (Option.some Jvm.ClassFile.FieldType.int) 0 := ⟨by
  intro ci hci
  simp only [List.mem_cons, List.not_mem_nil, or_false] at hci
  subst hci
  exact ⟨_, rfl, rfl⟩, fun R s args Z rm hts hK hR => cwV 0 hts (lw_V q2612 q2614 qs54 q111 q2615) rfl rfl rfl (by decide +kernel) hR⟩
theorem lk_X2_174 : zw_LS "MultipoleLineModel" 174 yX2_wide cX2_wide 1 (Option.some Jvm.ClassFile.FieldType.int) 1 := fun R s args Z rm hts hK hR => va_cwS 1 hts (lw_S q2627 q2628 q111 q2629) rfl rfl rfl (by decide +kernel) hR
theorem lk_X2_178 : zw_LS "MultipoleLineModel" 178 yX2_boxOf cX2_boxOf 2 (Option.some Jvm.ClassFile.FieldType.int) 2 := fun R s args Z rm hts hK hR => va_cwS 2 hts (lw_S q2624 q2625 q111 q2626) rfl rfl rfl (by decide +kernel) hR
theorem lk_X2_184 : zw_LV [0] "MultipoleLineModel" "MultipoleLineModel" 184 yX2_isIn cX2_isIn 4 (Option.some Jvm.ClassFile.FieldType.boolean) 3 := ⟨by
  intro ci hci
  simp only [List.mem_cons, List.not_mem_nil, or_false] at hci
  subst hci
  exact ⟨_, rfl, rfl⟩, fun R s args Z rm hts hK hR => cwV 3 hts (lw_V q2620 q2622 qs56 q111 q2623) rfl rfl rfl (by decide +kernel) hR⟩
theorem lk_X2_187 : zw_LS "MultipoleLineModel" 187 yX2_far cX2_far 2 (Option.some Jvm.ClassFile.FieldType.int) 2 := fun R s args Z rm hts hK hR => va_cwS 2 hts (lw_S q2630 q2631 q111 q2632) rfl rfl rfl (by decide +kernel) hR
theorem lk_X2_200 : zw_LV [0] "MultipoleLineModel" "MultipoleLineModel" 200 yX2_charge cX2_charge 6 (Option.some Jvm.ClassFile.FieldType.int) 3 := ⟨by
  intro ci hci
  simp only [List.mem_cons, List.not_mem_nil, or_false] at hci
  subst hci
  exact ⟨_, rfl, rfl⟩, fun R s args Z rm hts hK hR => cwV 3 hts (lw_V q2616 q2618 qs55 q111 q2619) rfl rfl rfl (by decide +kernel) hR⟩
theorem lk_X2_190 : zw_LV [0] "MultipoleLineModel" "MultipoleLineModel" 190 yX2_bodiesIn cX2_bodiesIn 5 (Option.some Jvm.ClassFile.FieldType.int) 2 := ⟨by
  intro ci hci
  simp only [List.mem_cons, List.not_mem_nil, or_false] at hci
  subst hci
  exact ⟨_, rfl, rfl⟩, fun R s args Z rm hts hK hR => cwV 2 hts (lw_V q2637 q2639 qs58 q111 q2640) rfl rfl rfl (by decide +kernel) hR⟩
theorem lk_X2_204 : zw_LV [0] "MultipoleLineModel" "MultipoleLineModel" 204 yX2_full cX2_full 3 (Option.some Jvm.ClassFile.FieldType.int) 0 := ⟨by
  intro ci hci
  simp only [List.mem_cons, List.not_mem_nil, or_false] at hci
  subst hci
  exact ⟨_, rfl, rfl⟩, fun R s args Z rm hts hK hR => cwV 0 hts (lw_V q2633 q2635 qs57 q111 q2636) rfl rfl rfl (by decide +kernel) hR⟩
theorem lk_X2_207 : zw_LV [0] "MultipoleLineModel" "MultipoleLineModel" 207 yX2_end cX2_end 4 (Option.some Jvm.ClassFile.FieldType.int) 1 := ⟨by
  intro ci hci
  simp only [List.mem_cons, List.not_mem_nil, or_false] at hci
  subst hci
  exact ⟨_, rfl, rfl⟩, fun R s args Z rm hts hK hR => cwV 1 hts (lw_V q2641 q2643 qs59 q111 q2644) rfl rfl rfl (by decide +kernel) hR⟩
theorem lk_X2_210 : zw_LV [0] "MultipoleLineModel" "MultipoleLineModel" 210 yX2_isBody cX2_isBody 2 (Option.some Jvm.ClassFile.FieldType.boolean) 1 := ⟨by
  intro ci hci
  simp only [List.mem_cons, List.not_mem_nil, or_false] at hci
  subst hci
  exact ⟨_, rfl, rfl⟩, fun R s args Z rm hts hK hR => cwV 1 hts (lw_V q2649 q2651 qs60 q111 q2652) rfl rfl rfl (by decide +kernel) hR⟩
theorem lk_X2_213 : zw_LS "MultipoleLineModel" 213 yX2_isPoint cX2_isPoint 1 (Option.some Jvm.ClassFile.FieldType.boolean) 1 := fun R s args Z rm hts hK hR => va_cwS 1 hts (lw_S q2661 q2662 q111 q2663) rfl rfl rfl (by decide +kernel) hR
theorem lk_X2_216 : zw_LV [0] "MultipoleLineModel" "MultipoleLineModel" 216 yX2_mayPoint cX2_mayPoint 2 (Option.some Jvm.ClassFile.FieldType.boolean) 1 := ⟨by
  intro ci hci
  simp only [List.mem_cons, List.not_mem_nil, or_false] at hci
  subst hci
  exact ⟨_, rfl, rfl⟩, fun R s args Z rm hts hK hR => cwV 1 hts (lw_V q2657 q2659 qs61 q111 q2660) rfl rfl rfl (by decide +kernel) hR⟩
theorem lk_X2_219 : zw_LV [0] "MultipoleLineModel" "MultipoleLineModel" 219 yX2_firstAt cX2_firstAt 3 (Option.some Jvm.ClassFile.FieldType.int) 1 := ⟨by
  intro ci hci
  simp only [List.mem_cons, List.not_mem_nil, or_false] at hci
  subst hci
  exact ⟨_, rfl, rfl⟩, fun R s args Z rm hts hK hR => cwV 1 hts (lw_V q2664 q2666 qs62 q111 q2667) rfl rfl rfl (by decide +kernel) hR⟩
theorem lk_X2_181 : zw_LV [0] "MultipoleLineModel" "MultipoleLineModel" 181 yX2_isLevel cX2_isLevel 2 (Option.some Jvm.ClassFile.FieldType.boolean) 1 := ⟨by
  intro ci hci
  simp only [List.mem_cons, List.not_mem_nil, or_false] at hci
  subst hci
  exact ⟨_, rfl, rfl⟩, fun R s args Z rm hts hK hR => cwV 1 hts (lw_V q2676 q2678 qs64 q111 q2679) rfl rfl rfl (by decide +kernel) hR⟩
theorem lk_X2_222 : zw_LV [0] "MultipoleLineModel" "MultipoleLineModel" 222 yX2_isBox cX2_isBox 3 (Option.some Jvm.ClassFile.FieldType.boolean) 2 := ⟨by
  intro ci hci
  simp only [List.mem_cons, List.not_mem_nil, or_false] at hci
  subst hci
  exact ⟨_, rfl, rfl⟩, fun R s args Z rm hts hK hR => cwV 2 hts (lw_V q2672 q2674 qs63 q111 q2675) rfl rfl rfl (by decide +kernel) hR⟩
theorem lk_X2_226 : zw_LS "MultipoleLineModel" 226 yX2_centre cX2_centre 2 (Option.some Jvm.ClassFile.FieldType.int) 2 := fun R s args Z rm hts hK hR => va_cwS 2 hts (lw_S q2680 q2681 q111 q2682) rfl rfl rfl (by decide +kernel) hR
theorem lk_X2_229 : zw_LV [0] "MultipoleLineModel" "MultipoleLineModel" 229 yX2_mayAsk cX2_mayAsk 1 (Option.some Jvm.ClassFile.FieldType.boolean) 0 := ⟨by
  intro ci hci
  simp only [List.mem_cons, List.not_mem_nil, or_false] at hci
  subst hci
  exact ⟨_, rfl, rfl⟩, fun R s args Z rm hts hK hR => cwV 0 hts (lw_V q2691 q2693 qs65 q111 q2694) rfl rfl rfl (by decide +kernel) hR⟩
theorem lk_X2_237 : zw_LS "MultipoleLineModel" 237 yX2_isMoment cX2_isMoment 1 (Option.some Jvm.ClassFile.FieldType.boolean) 1 := fun R s args Z rm hts hK hR => va_cwS 1 hts (lw_S q2707 q2708 q111 q2709) rfl rfl rfl (by decide +kernel) hR
theorem lk_X2_240 : zw_LV [0] "MultipoleLineModel" "MultipoleLineModel" 240 yX2_mayMoment cX2_mayMoment 4 (Option.some Jvm.ClassFile.FieldType.boolean) 3 := ⟨by
  intro ci hci
  simp only [List.mem_cons, List.not_mem_nil, or_false] at hci
  subst hci
  exact ⟨_, rfl, rfl⟩, fun R s args Z rm hts hK hR => cwV 3 hts (lw_V q2703 q2705 qs66 q111 q2706) rfl rfl rfl (by decide +kernel) hR⟩
theorem lk_X2_233 : zw_LS "MultipoleLineModel" 233 yX2_power cX2_power 6 (Option.some Jvm.ClassFile.FieldType.long) 2 := fun R s args Z rm hts hK hR => va_cwS 2 hts (lw_S q2714 q2715 q111 q2716) rfl rfl rfl (by decide +kernel) hR
theorem lk_X2_243 : zw_LV [0] "MultipoleLineModel" "MultipoleLineModel" 243 yX2_momentOf cX2_momentOf 7 (Option.some Jvm.ClassFile.FieldType.long) 3 := ⟨by
  intro ci hci
  simp only [List.mem_cons, List.not_mem_nil, or_false] at hci
  subst hci
  exact ⟨_, rfl, rfl⟩, fun R s args Z rm hts hK hR => cwV 3 hts (lw_V q2710 q2712 qs67 q111 q2713) rfl rfl rfl (by decide +kernel) hR⟩
theorem lk_X2_247 : zw_LS "MultipoleLineModel" 247 yX2_laidAt cX2_laidAt 2 (Option.some Jvm.ClassFile.FieldType.int) 2 := fun R s args Z rm hts hK hR => va_cwS 2 hts (lw_S q2729 q2730 q111 q2731) rfl rfl rfl (by decide +kernel) hR
theorem lk_X2_253 : zw_LV [0] "MultipoleLineModel" "MultipoleLineModel" 253 yX2_laysLeaf cX2_laysLeaf 3 (Option.none : Option Jvm.ClassFile.FieldType) 1 := ⟨by
  intro ci hci
  simp only [List.mem_cons, List.not_mem_nil, or_false] at hci
  subst hci
  exact ⟨_, rfl, rfl⟩, fun R s args Z rm hts hK hR => cwV 1 hts (lw_V q2725 q2727 qs69 q111 q2728) rfl rfl rfl (by decide +kernel) hR⟩
theorem lk_X2_250 : zw_LS "MultipoleLineModel" 250 yX2_choose cX2_choose 4 (Option.some Jvm.ClassFile.FieldType.int) 2 := fun R s args Z rm hts hK hR => va_cwS 2 hts (lw_S q2736 q2737 q111 q2738) rfl rfl rfl (by decide +kernel) hR
theorem lk_X2_256 : zw_LV [0] "MultipoleLineModel" "MultipoleLineModel" 256 yX2_shiftOf cX2_shiftOf 9 (Option.some Jvm.ClassFile.FieldType.long) 4 := ⟨by
  intro ci hci
  simp only [List.mem_cons, List.not_mem_nil, or_false] at hci
  subst hci
  exact ⟨_, rfl, rfl⟩, fun R s args Z rm hts hK hR => cwV 4 hts (lw_V q2732 q2734 qs70 q111 q2735) rfl rfl rfl (by decide +kernel) hR⟩
theorem lk_X2_260 : zw_LV [0] "MultipoleLineModel" "MultipoleLineModel" 260 yX2_laysMoments cX2_laysMoments 4 (Option.none : Option Jvm.ClassFile.FieldType) 0 := ⟨by
  intro ci hci
  simp only [List.mem_cons, List.not_mem_nil, or_false] at hci
  subst hci
  exact ⟨_, rfl, rfl⟩, fun R s args Z rm hts hK hR => cwV 0 hts (lw_V q2721 q2723 qs68 q111 q2724) rfl rfl rfl (by decide +kernel) hR⟩
theorem lk_X2_263 : zw_LV [0] "MultipoleLineModel" "MultipoleLineModel" 263 yX2_isNear cX2_isNear 3 (Option.some Jvm.ClassFile.FieldType.boolean) 2 := ⟨by
  intro ci hci
  simp only [List.mem_cons, List.not_mem_nil, or_false] at hci
  subst hci
  exact ⟨_, rfl, rfl⟩, fun R s args Z rm hts hK hR => cwV 2 hts (lw_V q2751 q2753 qs72 q111 q2754) rfl rfl rfl (by decide +kernel) hR⟩
theorem lk_X2_266 : zw_LV [0] "MultipoleLineModel" "MultipoleLineModel" 266 yX2_nearAll cX2_nearAll 4 (Option.some Jvm.ClassFile.FieldType.int) 1 := ⟨by
  intro ci hci
  simp only [List.mem_cons, List.not_mem_nil, or_false] at hci
  subst hci
  exact ⟨_, rfl, rfl⟩, fun R s args Z rm hts hK hR => cwV 1 hts (lw_V q2747 q2749 qs71 q111 q2750) rfl rfl rfl (by decide +kernel) hR⟩
theorem lk_X2_272 : zw_LV [0] "MultipoleLineModel" "MultipoleLineModel" 272 yX2_isFar cX2_isFar 4 (Option.some Jvm.ClassFile.FieldType.boolean) 3 := ⟨by
  intro ci hci
  simp only [List.mem_cons, List.not_mem_nil, or_false] at hci
  subst hci
  exact ⟨_, rfl, rfl⟩, fun R s args Z rm hts hK hR => cwV 3 hts (lw_V q2767 q2769 qs74 q111 q2770) rfl rfl rfl (by decide +kernel) hR⟩
theorem lf_X2_269 : zw_F "MultipoleLineModel" 269 [0] 20 ("MultipoleLineModel", "fars", "I", false) := ⟨Or.inl ⟨"MultipoleLineModel", q2427, Or.inl rfl⟩, by
  intro ci hci
  simp only [List.mem_cons, List.not_mem_nil, or_false] at hci
  subst hci
  exact ⟨_, rfl, by decide, rfl⟩⟩
theorem lk_X2_275 : zw_LV [0] "MultipoleLineModel" "MultipoleLineModel" 275 yX2_laysFar cX2_laysFar 4 (Option.none : Option Jvm.ClassFile.FieldType) 1 := ⟨by
  intro ci hci
  simp only [List.mem_cons, List.not_mem_nil, or_false] at hci
  subst hci
  exact ⟨_, rfl, rfl⟩, fun R s args Z rm hts hK hR => cwV 1 hts (lw_V q2763 q2765 qs73 q111 q2766) rfl rfl rfl (by decide +kernel) hR⟩
theorem lk_X2_278 : zw_LV [0] "MultipoleLineModel" "MultipoleLineModel" 278 yX2_isPair cX2_isPair 4 (Option.some Jvm.ClassFile.FieldType.boolean) 3 := ⟨by
  intro ci hci
  simp only [List.mem_cons, List.not_mem_nil, or_false] at hci
  subst hci
  exact ⟨_, rfl, rfl⟩, fun R s args Z rm hts hK hR => cwV 3 hts (lw_V q2783 q2785 qs75 q111 q2786) rfl rfl rfl (by decide +kernel) hR⟩
theorem lk_X2_281 : zw_LV [0] "MultipoleLineModel" "MultipoleLineModel" 281 yX2_costOf cX2_costOf 5 (Option.some Jvm.ClassFile.FieldType.int) 2 := ⟨by
  intro ci hci
  simp only [List.mem_cons, List.not_mem_nil, or_false] at hci
  subst hci
  exact ⟨_, rfl, rfl⟩, fun R s args Z rm hts hK hR => cwV 2 hts (lw_V q2791 q2793 qs76 q111 q2794) rfl rfl rfl (by decide +kernel) hR⟩
theorem lk_X2_285 : zw_LV [0] "MultipoleLineModel" "MultipoleLineModel" 285 yX2_sumOf cX2_sumOf 7 (Option.some Jvm.ClassFile.FieldType.double) 3 := ⟨by
  intro ci hci
  simp only [List.mem_cons, List.not_mem_nil, or_false] at hci
  subst hci
  exact ⟨_, rfl, rfl⟩, fun R s args Z rm hts hK hR => cwV 3 hts (lw_V q2799 q2801 qs77 q111 q2802) rfl rfl rfl (by decide +kernel) hR⟩
theorem lk_X2_289 : zw_LV [0] "MultipoleLineModel" "MultipoleLineModel" 289 yX2_valueOf cX2_valueOf 10 (Option.some Jvm.ClassFile.FieldType.double) 3 := ⟨by
  intro ci hci
  simp only [List.mem_cons, List.not_mem_nil, or_false] at hci
  subst hci
  exact ⟨_, rfl, rfl⟩, fun R s args Z rm hts hK hR => cwV 3 hts (lw_V q2815 q2817 qs79 q111 q2818) rfl rfl rfl (by decide +kernel) hR⟩
theorem lk_X2_293 : zw_LV [0] "MultipoleLineModel" "MultipoleLineModel" 293 yX2_farOf cX2_farOf 5 (Option.some Jvm.ClassFile.FieldType.double) 1 := ⟨by
  intro ci hci
  simp only [List.mem_cons, List.not_mem_nil, or_false] at hci
  subst hci
  exact ⟨_, rfl, rfl⟩, fun R s args Z rm hts hK hR => cwV 1 hts (lw_V q2811 q2813 qs78 q111 q2814) rfl rfl rfl (by decide +kernel) hR⟩
theorem lk_J34_122 : zw_LS "java/lang/Double" 122 yJ34_isNaN cJ34_isNaN 2 (Option.some Jvm.ClassFile.FieldType.boolean) 1 := fun R s args Z rm hts hK hR => va_cwS 1 hts (lw_S q1816 q1817 q150 q1818) rfl rfl rfl (by decide +kernel) hR
theorem lk_X2_297 : zw_LS "MultipoleLineModel" 297 yJ34_doubleToLongBits cJ34_doubleToLongBits 2 (Option.some Jvm.ClassFile.FieldType.long) 1 := fun R s args Z rm hts hK hR => va_cwS 1 hts (lw_S q2823 q1814 q150 q1815) rfl rfl rfl (by decide +kernel) hR
theorem lk_X2_303 : zw_LV [0] "MultipoleLineModel" "MultipoleLineModel" 303 yX2_boundOf cX2_boundOf 13 (Option.some Jvm.ClassFile.FieldType.double) 2 := ⟨by
  intro ci hci
  simp only [List.mem_cons, List.not_mem_nil, or_false] at hci
  subst hci
  exact ⟨_, rfl, rfl⟩, fun R s args Z rm hts hK hR => cwV 2 hts (lw_V q2832 q2834 qs80 q111 q2835) rfl rfl rfl (by decide +kernel) hR⟩
theorem lk_X2_307 : zw_LS "MultipoleLineModel" 307 yX2_absolute cX2_absolute 2 (Option.some Jvm.ClassFile.FieldType.double) 1 := fun R s args Z rm hts hK hR => va_cwS 1 hts (lw_S q2849 q2850 q111 q2851) rfl rfl rfl (by decide +kernel) hR
theorem lk_X2_313 : zw_LV [0] "MultipoleLineModel" "MultipoleLineModel" 313 yX2_gapOf cX2_gapOf 2 (Option.some Jvm.ClassFile.FieldType.double) 1 := ⟨by
  intro ci hci
  simp only [List.mem_cons, List.not_mem_nil, or_false] at hci
  subst hci
  exact ⟨_, rfl, rfl⟩, fun R s args Z rm hts hK hR => cwV 1 hts (lw_V q2845 q2847 qs81 q111 q2848) rfl rfl rfl (by decide +kernel) hR⟩
theorem lk_X2_318 : zw_LS "MultipoleLineModel" 318 yX2_times cX2_times 8 (Option.some Jvm.ClassFile.FieldType.double) 3 := fun R s args Z rm hts hK hR => va_cwS 3 hts (lw_S q2873 q2874 q111 q2875) rfl rfl rfl (by decide +kernel) hR
theorem lk_X2_322 : zw_LV [0] "MultipoleLineModel" "MultipoleLineModel" 322 yX2_takesAbove cX2_takesAbove 7 (Option.none : Option Jvm.ClassFile.FieldType) 2 := ⟨by
  intro ci hci
  simp only [List.mem_cons, List.not_mem_nil, or_false] at hci
  subst hci
  exact ⟨_, rfl, rfl⟩, fun R s args Z rm hts hK hR => cwV 2 hts (lw_V q2869 q2871 qs83 q111 q2872) rfl rfl rfl (by decide +kernel) hR⟩
theorem lk_X2_326 : zw_LV [0] "MultipoleLineModel" "MultipoleLineModel" 326 yX2_takesFar cX2_takesFar 11 (Option.none : Option Jvm.ClassFile.FieldType) 3 := ⟨by
  intro ci hci
  simp only [List.mem_cons, List.not_mem_nil, or_false] at hci
  subst hci
  exact ⟨_, rfl, rfl⟩, fun R s args Z rm hts hK hR => cwV 3 hts (lw_V q2876 q2878 qs84 q111 q2879) rfl rfl rfl (by decide +kernel) hR⟩
theorem lk_X2_329 : zw_LV [0] "MultipoleLineModel" "MultipoleLineModel" 329 yX2_laysLocal cX2_laysLocal 6 (Option.none : Option Jvm.ClassFile.FieldType) 2 := ⟨by
  intro ci hci
  simp only [List.mem_cons, List.not_mem_nil, or_false] at hci
  subst hci
  exact ⟨_, rfl, rfl⟩, fun R s args Z rm hts hK hR => cwV 2 hts (lw_V q2865 q2867 qs82 q111 q2868) rfl rfl rfl (by decide +kernel) hR⟩
theorem lk_X2_335 : zw_LV [0] "MultipoleLineModel" "MultipoleLineModel" 335 yX2_pullOf cX2_pullOf 9 (Option.some Jvm.ClassFile.FieldType.double) 2 := ⟨by
  intro ci hci
  simp only [List.mem_cons, List.not_mem_nil, or_false] at hci
  subst hci
  exact ⟨_, rfl, rfl⟩, fun R s args Z rm hts hK hR => cwV 2 hts (lw_V q2888 q2890 qs85 q111 q2891) rfl rfl rfl (by decide +kernel) hR⟩
theorem lk_X2_332 : zw_LV [0] "MultipoleLineModel" "MultipoleLineModel" 332 yX2_pullBy cX2_pullBy 9 (Option.some Jvm.ClassFile.FieldType.double) 3 := ⟨by
  intro ci hci
  simp only [List.mem_cons, List.not_mem_nil, or_false] at hci
  subst hci
  exact ⟨_, rfl, rfl⟩, fun R s args Z rm hts hK hR => cwV 3 hts (lw_V q2900 q2902 qs87 q111 q2903) rfl rfl rfl (by decide +kernel) hR⟩
theorem lk_X2_339 : zw_LV [0] "MultipoleLineModel" "MultipoleLineModel" 339 yX2_farPull cX2_farPull 8 (Option.some Jvm.ClassFile.FieldType.double) 1 := ⟨by
  intro ci hci
  simp only [List.mem_cons, List.not_mem_nil, or_false] at hci
  subst hci
  exact ⟨_, rfl, rfl⟩, fun R s args Z rm hts hK hR => cwV 1 hts (lw_V q2896 q2898 qs86 q111 q2899) rfl rfl rfl (by decide +kernel) hR⟩
theorem lk_X2_342 : zw_LV [0] "MultipoleLineModel" "MultipoleLineModel" 342 yX2_pullAll cX2_pullAll 2 (Option.some Jvm.ClassFile.FieldType.double) 1 := ⟨by
  intro ci hci
  simp only [List.mem_cons, List.not_mem_nil, or_false] at hci
  subst hci
  exact ⟨_, rfl, rfl⟩, fun R s args Z rm hts hK hR => cwV 1 hts (lw_V q2908 q2910 qs88 q111 q2911) rfl rfl rfl (by decide +kernel) hR⟩
theorem lk_X2_347 : zw_LV [0] "MultipoleLineModel" "MultipoleLineModel" 347 yX2_moves cX2_moves 6 (Option.some Jvm.ClassFile.FieldType.int) 1 := ⟨by
  intro ci hci
  simp only [List.mem_cons, List.not_mem_nil, or_false] at hci
  subst hci
  exact ⟨_, rfl, rfl⟩, fun R s args Z rm hts hK hR => cwV 1 hts (lw_V q2920 q2922 qs89 q111 q2923) rfl rfl rfl (by decide +kernel) hR⟩
theorem lk_X2_353 : zw_LS "MultipoleLineModel" 353 yX2_isAhead cX2_isAhead 1 (Option.some Jvm.ClassFile.FieldType.boolean) 1 := fun R s args Z rm hts hK hR => va_cwS 1 hts (lw_S q2929 q2930 q111 q2931) rfl rfl rfl (by decide +kernel) hR
theorem lk_X2_356 : zw_LV [0] "MultipoleLineModel" "MultipoleLineModel" 356 yX2_thinks cX2_thinks 1 (Option.none : Option Jvm.ClassFile.FieldType) 0 := ⟨by
  intro ci hci
  simp only [List.mem_cons, List.not_mem_nil, or_false] at hci
  subst hci
  exact ⟨_, rfl, rfl⟩, fun R s args Z rm hts hK hR => cwV 0 hts (lw_V q2932 q2934 qs90 q111 q2935) rfl rfl rfl (by decide +kernel) hR⟩
theorem lk_X2_350 : zw_LV [0] "MultipoleLineModel" "MultipoleLineModel" 350 yX2_steps cX2_steps 3 (Option.some Jvm.ClassFile.FieldType.int) 0 := ⟨by
  intro ci hci
  simp only [List.mem_cons, List.not_mem_nil, or_false] at hci
  subst hci
  exact ⟨_, rfl, rfl⟩, fun R s args Z rm hts hK hR => cwV 0 hts (lw_V q2940 q2942 qs92 q111 q2943) rfl rfl rfl (by decide +kernel) hR⟩
theorem lk_X2_359 : zw_LV [0] "MultipoleLineModel" "MultipoleLineModel" 359 yX2_stepsMany cX2_stepsMany 4 (Option.some Jvm.ClassFile.FieldType.int) 1 := ⟨by
  intro ci hci
  simp only [List.mem_cons, List.not_mem_nil, or_false] at hci
  subst hci
  exact ⟨_, rfl, rfl⟩, fun R s args Z rm hts hK hR => cwV 1 hts (lw_V q2936 q2938 qs91 q111 q2939) rfl rfl rfl (by decide +kernel) hR⟩
theorem lk_X2_362 : zw_LV [0] "MultipoleLineModel" "MultipoleLineModel" 362 yX2_back cX2_back 2 (Option.some Jvm.ClassFile.FieldType.int) 1 := ⟨by
  intro ci hci
  simp only [List.mem_cons, List.not_mem_nil, or_false] at hci
  subst hci
  exact ⟨_, rfl, rfl⟩, fun R s args Z rm hts hK hR => cwV 1 hts (lw_V q2944 q2946 qs93 q111 q2947) rfl rfl rfl (by decide +kernel) hR⟩
theorem lk_X2_365 : zw_LV [0] "MultipoleLineModel" "MultipoleLineModel" 365 yX2_isStill cX2_isStill 2 (Option.some Jvm.ClassFile.FieldType.boolean) 0 := ⟨by
  intro ci hci
  simp only [List.mem_cons, List.not_mem_nil, or_false] at hci
  subst hci
  exact ⟨_, rfl, rfl⟩, fun R s args Z rm hts hK hR => cwV 0 hts (lw_V q2956 q2958 qs94 q111 q2959) rfl rfl rfl (by decide +kernel) hR⟩
theorem lk_X2_369 : zw_LV [0] "MultipoleLineModel" "MultipoleLineModel" 369 yX2_costAll cX2_costAll 3 (Option.some Jvm.ClassFile.FieldType.int) 0 := ⟨by
  intro ci hci
  simp only [List.mem_cons, List.not_mem_nil, or_false] at hci
  subst hci
  exact ⟨_, rfl, rfl⟩, fun R s args Z rm hts hK hR => cwV 0 hts (lw_V q2969 q2971 qs95 q111 q2972) rfl rfl rfl (by decide +kernel) hR⟩
theorem lk_X2_372 : zw_LV [0] "MultipoleLineModel" "MultipoleLineModel" 372 yX2_balanced cX2_balanced 1 (Option.some Jvm.ClassFile.FieldType.float) 0 := ⟨by
  intro ci hci
  simp only [List.mem_cons, List.not_mem_nil, or_false] at hci
  subst hci
  exact ⟨_, rfl, rfl⟩, fun R s args Z rm hts hK hR => cwV 0 hts (lw_V q2985 q2987 qs96 q111 q2988) rfl rfl rfl (by decide +kernel) hR⟩
theorem lk_J35_59 : zw_LS "java/lang/Float" 59 yJ35_isNaN cJ35_isNaN 1 (Option.some Jvm.ClassFile.FieldType.boolean) 1 := fun R s args Z rm hts hK hR => va_cwS 1 hts (lw_S q2113 q2114 q151 q2115) rfl rfl rfl (by decide +kernel) hR
theorem lk_X2_376 : zw_LS "MultipoleLineModel" 376 yJ35_floatToIntBits cJ35_floatToIntBits 1 (Option.some Jvm.ClassFile.FieldType.int) 1 := fun R s args Z rm hts hK hR => va_cwS 1 hts (lw_S q2993 q2111 q151 q2112) rfl rfl rfl (by decide +kernel) hR
theorem lf_X2_382 : zw_F "MultipoleLineModel" 382 [0] 25 ("MultipoleLineModel", "pageSize", "I", false) := ⟨Or.inl ⟨"MultipoleLineModel", q2432, Or.inl rfl⟩, by
  intro ci hci
  simp only [List.mem_cons, List.not_mem_nil, or_false] at hci
  subst hci
  exact ⟨_, rfl, by decide, rfl⟩⟩
theorem lk_X2_385 : zw_LV [0] "MultipoleLineModel" "MultipoleLineModel" 385 yX2_writesByte cX2_writesByte 2 (Option.none : Option Jvm.ClassFile.FieldType) 1 := ⟨by
  intro ci hci
  simp only [List.mem_cons, List.not_mem_nil, or_false] at hci
  subst hci
  exact ⟨_, rfl, rfl⟩, fun R s args Z rm hts hK hR => cwV 1 hts (lw_V q3002 q3004 qs97 q111 q3005) rfl rfl rfl (by decide +kernel) hR⟩
theorem lk_X2_388 : zw_LV [0] "MultipoleLineModel" "MultipoleLineModel" 388 yX2_writesNumber cX2_writesNumber 4 (Option.none : Option Jvm.ClassFile.FieldType) 1 := ⟨by
  intro ci hci
  simp only [List.mem_cons, List.not_mem_nil, or_false] at hci
  subst hci
  exact ⟨_, rfl, rfl⟩, fun R s args Z rm hts hK hR => cwV 1 hts (lw_V q3014 q3016 qs99 q111 q3017) rfl rfl rfl (by decide +kernel) hR⟩
theorem lk_X2_391 : zw_LV [0] "MultipoleLineModel" "MultipoleLineModel" 391 yX2_writesBody cX2_writesBody 2 (Option.none : Option Jvm.ClassFile.FieldType) 1 := ⟨by
  intro ci hci
  simp only [List.mem_cons, List.not_mem_nil, or_false] at hci
  subst hci
  exact ⟨_, rfl, rfl⟩, fun R s args Z rm hts hK hR => cwV 1 hts (lw_V q3010 q3012 qs98 q111 q3013) rfl rfl rfl (by decide +kernel) hR⟩
theorem lk_X2_394 : zw_LV [0] "MultipoleLineModel" "MultipoleLineModel" 394 yX2_writesWord cX2_writesWord 3 (Option.none : Option Jvm.ClassFile.FieldType) 1 := ⟨by
  intro ci hci
  simp only [List.mem_cons, List.not_mem_nil, or_false] at hci
  subst hci
  exact ⟨_, rfl, rfl⟩, fun R s args Z rm hts hK hR => cwV 1 hts (lw_V q3022 q3024 qs100 q111 q3025) rfl rfl rfl (by decide +kernel) hR⟩
theorem lk_X2_398 : zw_LV [0] "MultipoleLineModel" "MultipoleLineModel" 398 yX2_writesToken cX2_writesToken 2 (Option.none : Option Jvm.ClassFile.FieldType) 1 := ⟨by
  intro ci hci
  simp only [List.mem_cons, List.not_mem_nil, or_false] at hci
  subst hci
  exact ⟨_, rfl, rfl⟩, fun R s args Z rm hts hK hR => cwV 1 hts (lw_V q3026 q3028 qs101 q111 q3029) rfl rfl rfl (by decide +kernel) hR⟩
theorem ls_X2_403 : ("MultipoleLineModel", 403, ";free", 21) ∈ zwSS := List.mem_of_getElem? (i := 11) rfl
theorem ls_X2_405 : ("MultipoleLineModel", 405, " minus", 22) ∈ zwSS := List.mem_of_getElem? (i := 12) rfl
theorem ls_X2_401 : ("MultipoleLineModel", 401, ";fixed", 20) ∈ zwSS := List.mem_of_getElem? (i := 10) rfl
theorem lk_X2_407 : zw_LS "MultipoleLineModel" 407 yX2_isCharge cX2_isCharge 1 (Option.some Jvm.ClassFile.FieldType.boolean) 1 := fun R s args Z rm hts hK hR => va_cwS 1 hts (lw_S q3045 q3046 q111 q3047) rfl rfl rfl (by decide +kernel) hR
theorem lk_X2_410 : zw_LV [0] "MultipoleLineModel" "MultipoleLineModel" 410 yX2_remembers cX2_remembers 2 (Option.none : Option Jvm.ClassFile.FieldType) 0 := ⟨by
  intro ci hci
  simp only [List.mem_cons, List.not_mem_nil, or_false] at hci
  subst hci
  exact ⟨_, rfl, rfl⟩, fun R s args Z rm hts hK hR => cwV 0 hts (lw_V q3048 q3050 qs102 q111 q3051) rfl rfl rfl (by decide +kernel) hR⟩
theorem lk_X2_413 : zw_LS "MultipoleLineModel" 413 yX2_isNumber cX2_isNumber 2 (Option.some Jvm.ClassFile.FieldType.boolean) 2 := fun R s args Z rm hts hK hR => va_cwS 2 hts (lw_S q3072 q3073 q111 q3074) rfl rfl rfl (by decide +kernel) hR
theorem lk_J1_42 : zw_LI "java/util/ArrayDeque" 42 yJ0_init cJ0_init 1 (Option.none : Option Jvm.ClassFile.FieldType) 0 := fun R s args Z rm hts hK hR => cwI 0 hts (lw_meth q168) rfl rfl rfl (hts _ q105) (hts _ q166) (hts _ q167) rfl (by decide +kernel) hR
theorem lf_J1_3 : zw_F "java/util/ArrayDeque" 3 [8] 0 ("java/util/ArrayDeque", "elements", "[Ljava/lang/Object;", false) := ⟨Or.inl ⟨"java/util/ArrayDeque", q172, Or.inl rfl⟩, by
  intro ci hci
  simp only [List.mem_cons, List.not_mem_nil, or_false] at hci
  subst hci
  exact ⟨_, rfl, by decide, rfl⟩⟩
theorem lk_X1_37 : zw_LI "MultipoleLine" 37 yJ1_init cJ1_init 1 (Option.none : Option Jvm.ClassFile.FieldType) 0 := fun R s args Z rm hts hK hR => cwI 0 hts (lw_meth q165) rfl rfl rfl (hts _ q106) (hts _ q163) (hts _ q164) rfl (by decide +kernel) hR
theorem lf_J2_15 : zw_F "java/lang/AbstractStringBuilder" 15 [10] 0 ("java/lang/AbstractStringBuilder", "value", "[B", false) := ⟨Or.inl ⟨"java/lang/AbstractStringBuilder", q203, Or.inl rfl⟩, by
  intro ci hci
  simp only [List.mem_cons, List.not_mem_nil, or_false] at hci
  subst hci
  exact ⟨_, rfl, by decide, rfl⟩⟩
theorem lf_J2_22 : zw_F "java/lang/AbstractStringBuilder" 22 [10] 1 ("java/lang/AbstractStringBuilder", "coder", "B", false) := ⟨Or.inl ⟨"java/lang/AbstractStringBuilder", q204, Or.inl rfl⟩, by
  intro ci hci
  simp only [List.mem_cons, List.not_mem_nil, or_false] at hci
  subst hci
  exact ⟨_, rfl, by decide, rfl⟩⟩
theorem lk_J3_1 : zw_LI "java/lang/StringBuilder" 1 yJ2_init cJ2_init 2 (Option.none : Option Jvm.ClassFile.FieldType) 1 := fun R s args Z rm hts hK hR => cwI 1 hts (lw_meth q192) rfl rfl rfl (hts _ q107) (hts _ q190) (hts _ q191) rfl (by decide +kernel) hR
theorem lk_X1_50 : zw_LI "MultipoleLine" 50 yJ3_init cJ3_init 1 (Option.none : Option Jvm.ClassFile.FieldType) 0 := fun R s args Z rm hts hK hR => cwI 0 hts (lw_meth q189) rfl rfl rfl (hts _ q108) (hts _ q187) (hts _ q188) rfl (by decide +kernel) hR
theorem lf_X1_27 : zw_F "MultipoleLine" 27 [1] 0 ("MultipoleLine", "buffer", "[B", true) := ⟨Or.inl ⟨"MultipoleLine", q218, Or.inl rfl⟩, by
  intro ci hci
  simp only [List.mem_cons, List.not_mem_nil, or_false] at hci
  subst hci
  exact ⟨_, rfl, by decide, rfl⟩⟩
theorem lf_X1_31 : zw_F "MultipoleLine" 31 [1] 3 ("MultipoleLine", "errorPosition", "I", false) := ⟨Or.inl ⟨"MultipoleLine", q221, Or.inl rfl⟩, by
  intro ci hci
  simp only [List.mem_cons, List.not_mem_nil, or_false] at hci
  subst hci
  exact ⟨_, rfl, by decide, rfl⟩⟩
theorem ln_X1_35 : zw_N "MultipoleLine" 35 "java/util/ArrayDeque" 8 3 [.null, .int 0, .int 0] := ⟨by decide, ⟨_, rfl⟩, q161, q162, q106, fun j hj => match j, hj with
  | 0, _ => rfl
  | 1, _ => rfl
  | 2, _ => rfl
  | j + 3, hj => absurd hj (by omega)⟩
theorem lf_X1_38 : zw_F "MultipoleLine" 38 [1] 5 ("MultipoleLine", "past", "Ljava/util/ArrayDeque;", true) := ⟨Or.inl ⟨"MultipoleLine", q223, Or.inl rfl⟩, by
  intro ci hci
  simp only [List.mem_cons, List.not_mem_nil, or_false] at hci
  subst hci
  exact ⟨_, rfl, by decide, rfl⟩⟩
theorem lf_X1_44 : zw_F "MultipoleLine" 44 [1] 6 ("MultipoleLine", "saved", "[LMultipoleLine$Line;", true) := ⟨Or.inl ⟨"MultipoleLine", q224, Or.inl rfl⟩, by
  intro ci hci
  simp only [List.mem_cons, List.not_mem_nil, or_false] at hci
  subst hci
  exact ⟨_, rfl, by decide, rfl⟩⟩
theorem ln_X1_48 : zw_N "MultipoleLine" 48 "java/lang/StringBuilder" 10 4 [.null, .int 0, .int 0, .int 0] := ⟨by decide, ⟨_, rfl⟩, q185, q186, q108, fun j hj => match j, hj with
  | 0, _ => rfl
  | 1, _ => rfl
  | 2, _ => rfl
  | 3, _ => rfl
  | j + 4, hj => absurd hj (by omega)⟩
theorem lf_X1_51 : zw_F "MultipoleLine" 51 [1] 7 ("MultipoleLine", "output", "Ljava/lang/StringBuilder;", true) := ⟨Or.inl ⟨"MultipoleLine", q225, Or.inl rfl⟩, by
  intro ci hci
  simp only [List.mem_cons, List.not_mem_nil, or_false] at hci
  subst hci
  exact ⟨_, rfl, by decide, rfl⟩⟩
theorem lf_X1_114 : zw_F "MultipoleLine" 114 [1] 1 ("MultipoleLine", "buffered", "I", false) := ⟨Or.inl ⟨"MultipoleLine", q219, Or.inl rfl⟩, by
  intro ci hci
  simp only [List.mem_cons, List.not_mem_nil, or_false] at hci
  subst hci
  exact ⟨_, rfl, by decide, rfl⟩⟩
theorem lf_X1_117 : zw_F "MultipoleLine" 117 [1] 2 ("MultipoleLine", "parseError", "I", false) := ⟨Or.inl ⟨"MultipoleLine", q220, Or.inl rfl⟩, by
  intro ci hci
  simp only [List.mem_cons, List.not_mem_nil, or_false] at hci
  subst hci
  exact ⟨_, rfl, by decide, rfl⟩⟩
theorem lk_J1_127 : zw_LS "java/util/ArrayDeque" 127 yJ1_sub cJ1_sub 3 (Option.some Jvm.ClassFile.FieldType.int) 3 := fun R s args Z rm hts hK hR => va_cwS 3 hts (lw_S q268 q269 q106 q270) rfl rfl rfl (by decide +kernel) hR
theorem lf_J1_20 : zw_F "java/util/ArrayDeque" 20 [8] 2 ("java/util/ArrayDeque", "tail", "I", false) := ⟨Or.inl ⟨"java/util/ArrayDeque", q174, Or.inl rfl⟩, by
  intro ci hci
  simp only [List.mem_cons, List.not_mem_nil, or_false] at hci
  subst hci
  exact ⟨_, rfl, by decide, rfl⟩⟩
theorem lf_J1_24 : zw_F "java/util/ArrayDeque" 24 [8] 1 ("java/util/ArrayDeque", "head", "I", false) := ⟨Or.inl ⟨"java/util/ArrayDeque", q173, Or.inl rfl⟩, by
  intro ci hci
  simp only [List.mem_cons, List.not_mem_nil, or_false] at hci
  subst hci
  exact ⟨_, rfl, by decide, rfl⟩⟩
theorem lk_X1_440 : zw_LV [8] "java/util/ArrayDeque" "MultipoleLine" 440 yJ1_size cJ1_size 1 (Option.some Jvm.ClassFile.FieldType.int) 0 := ⟨by
  intro ci hci
  simp only [List.mem_cons, List.not_mem_nil, or_false] at hci
  subst hci
  exact ⟨_, rfl, rfl⟩, fun R s args Z rm hts hK hR => cwV 0 hts (lw_V q264 q265 q266 q106 q267) rfl rfl rfl (by decide +kernel) hR⟩
theorem lk_X1_58 : zw_LS "MultipoleLine" 58 yX1_in cX1_in 6 (Option.some Jvm.ClassFile.FieldType.boolean) 3 := fun R s args Z rm hts hK hR => va_cwS 3 hts (lw_S q363 q364 q104 q365) rfl rfl rfl (by decide +kernel) hR
theorem lf_J6_7 : zw_F "java/lang/Throwable" 7 [5] 0 ("java/lang/Throwable", "cause", "Ljava/lang/Throwable;", false) := ⟨Or.inl ⟨"java/lang/Throwable", q314, Or.inl rfl⟩, by
  intro ci hci
  simp only [List.mem_cons, List.not_mem_nil, or_false] at hci
  subst hci
  exact ⟨_, rfl, by decide, rfl⟩⟩
theorem lf_J6_17 : zw_F "java/lang/Throwable" 17 [5] 1 ("java/lang/Throwable", "stackTrace", "[Ljava/lang/StackTraceElement;", false) := ⟨Or.inl ⟨"java/lang/Throwable", q315, Or.inl rfl⟩, by
  intro ci hci
  simp only [List.mem_cons, List.not_mem_nil, or_false] at hci
  subst hci
  exact ⟨_, rfl, by decide, rfl⟩⟩
theorem lf_J6_24 : zw_F "java/lang/Throwable" 24 [5] 2 ("java/lang/Throwable", "suppressedExceptions", "Ljava/util/List;", false) := ⟨Or.inl ⟨"java/lang/Throwable", q316, Or.inl rfl⟩, by
  intro ci hci
  simp only [List.mem_cons, List.not_mem_nil, or_false] at hci
  subst hci
  exact ⟨_, rfl, by decide, rfl⟩⟩
theorem lk_J7_1 : zw_LI "java/lang/Exception" 1 yJ6_init_2 cJ6_init_2 1 (Option.none : Option Jvm.ClassFile.FieldType) 0 := fun R s args Z rm hts hK hR => cwI 0 hts (lw_meth q348) rfl rfl rfl (hts _ q112) (hts _ q384) (hts _ q347) rfl (by decide +kernel) hR
theorem lk_J8_1 : zw_LI "java/lang/RuntimeException" 1 yJ7_init_2 cJ7_init_2 1 (Option.none : Option Jvm.ClassFile.FieldType) 0 := fun R s args Z rm hts hK hR => cwI 0 hts (lw_meth q383) rfl rfl rfl (hts _ q113) (hts _ q381) (hts _ q382) rfl (by decide +kernel) hR
theorem lk_J9_1 : zw_LI "java/lang/IndexOutOfBoundsException" 1 yJ8_init_2 cJ8_init_2 1 (Option.none : Option Jvm.ClassFile.FieldType) 0 := fun R s args Z rm hts hK hR => cwI 0 hts (lw_meth q380) rfl rfl rfl (hts _ q114) (hts _ q378) (hts _ q379) rfl (by decide +kernel) hR
theorem lk_X1_64 : zw_LI "MultipoleLine" 64 yJ9_init_2 cJ9_init_2 1 (Option.none : Option Jvm.ClassFile.FieldType) 0 := fun R s args Z rm hts hK hR => cwI 0 hts (lw_meth q377) rfl rfl rfl (hts _ q115) (hts _ q375) (hts _ q376) rfl (by decide +kernel) hR
theorem lx_X1_62_64 : zw_Thr "MultipoleLine" 62 64 "java/lang/IndexOutOfBoundsException" ["java/lang/RuntimeException", "java/lang/Exception"] := by
  refine ⟨by decide +kernel, by decide +kernel, q366, q115, ?_⟩
  have e9 : vx_at0 "MultipoleLine" 64 "java/lang/IndexOutOfBoundsException" ["java/lang/RuntimeException", "java/lang/Exception"] = [(Jvm.Cond.initialized "java/lang/Throwable"), (Jvm.Cond.superclass "java/lang/Throwable" "java/lang/Object"), (Jvm.Cond.instanceMethod ({ cls := "java/lang/Throwable", name := "fillInStackTrace", desc := "()Ljava/lang/Throwable;" } : Jvm.MethodName)), (Jvm.Cond.codeSync ({ cls := "java/lang/Throwable", name := "fillInStackTrace", desc := "()Ljava/lang/Throwable;" } : Jvm.MethodName) prog_38_method_18_code (1 : Nat) (Option.some (Jvm.ClassFile.FieldType.object "java/lang/Throwable"))), (Jvm.Cond.instanceMethod ({ cls := "java/lang/Throwable", name := "fillInStackTrace", desc := "(I)Ljava/lang/Throwable;" } : Jvm.MethodName)), (Jvm.Cond.native ({ cls := "java/lang/Throwable", name := "fillInStackTrace", desc := "(I)Ljava/lang/Throwable;" } : Jvm.MethodName)), (Jvm.Cond.instanceMethod ({ cls := "java/lang/Throwable", name := "<init>", desc := "()V" } : Jvm.MethodName)), (Jvm.Cond.code ({ cls := "java/lang/Throwable", name := "<init>", desc := "()V" } : Jvm.MethodName) prog_38_method_1_code (1 : Nat) (Option.none : Option Jvm.ClassFile.FieldType)), (Jvm.Cond.instanceMethod ({ cls := "java/lang/Object", name := "<init>", desc := "()V" } : Jvm.MethodName)), (Jvm.Cond.code ({ cls := "java/lang/Object", name := "<init>", desc := "()V" } : Jvm.MethodName) object_method_1_code (1 : Nat) (Option.none : Option Jvm.ClassFile.FieldType)), (Jvm.Cond.methodLink "java/lang/Throwable" (1 : Nat) ({ cls := "java/lang/Object", name := "<init>", desc := "()V" } : Jvm.MethodName)), (Jvm.Cond.methodLink "java/lang/Throwable" (27 : Nat) ({ cls := "java/lang/Throwable", name := "fillInStackTrace", desc := "()Ljava/lang/Throwable;" } : Jvm.MethodName)), (Jvm.Cond.methodLink "java/lang/Throwable" (202 : Nat) ({ cls := "java/lang/Throwable", name := "fillInStackTrace", desc := "(I)Ljava/lang/Throwable;" } : Jvm.MethodName)), (Jvm.Cond.fieldLink "java/lang/Throwable" (7 : Nat) "java/lang/Throwable" "cause" "Ljava/lang/Throwable;"), (Jvm.Cond.lays "java/lang/Throwable" "java/lang/Throwable" "cause" "Ljava/lang/Throwable;"), (Jvm.Cond.fieldLink "java/lang/Throwable" (17 : Nat) "java/lang/Throwable" "stackTrace" "[Ljava/lang/StackTraceElement;"), (Jvm.Cond.lays "java/lang/Throwable" "java/lang/Throwable" "stackTrace" "[Ljava/lang/StackTraceElement;"), (Jvm.Cond.fieldLink "java/lang/Throwable" (24 : Nat) "java/lang/Throwable" "suppressedExceptions" "Ljava/util/List;"), (Jvm.Cond.lays "java/lang/Throwable" "java/lang/Throwable" "suppressedExceptions" "Ljava/util/List;"), (Jvm.Cond.fieldLink "java/lang/Throwable" (13 : Nat) "java/lang/Throwable" "UNASSIGNED_STACK" "[Ljava/lang/StackTraceElement;"), (Jvm.Cond.fieldLink "java/lang/Throwable" (20 : Nat) "java/lang/Throwable" "SUPPRESSED_SENTINEL" "Ljava/util/List;"), (Jvm.Cond.lays "java/lang/Throwable" "java/lang/Throwable" "detailMessage" "Ljava/lang/String;"), (Jvm.Cond.instanceMethod ({ cls := "java/lang/IndexOutOfBoundsException", name := "<init>", desc := "()V" } : Jvm.MethodName)), (Jvm.Cond.code ({ cls := "java/lang/IndexOutOfBoundsException", name := "<init>", desc := "()V" } : Jvm.MethodName) prog_24_method_1_code (1 : Nat) (Option.none : Option Jvm.ClassFile.FieldType)), (Jvm.Cond.methodLink "java/lang/IndexOutOfBoundsException" (1 : Nat) ({ cls := "java/lang/RuntimeException", name := "<init>", desc := "()V" } : Jvm.MethodName)), (Jvm.Cond.instanceMethod ({ cls := "java/lang/RuntimeException", name := "<init>", desc := "()V" } : Jvm.MethodName)), (Jvm.Cond.declares ({ cls := "java/lang/RuntimeException", name := "<init>", desc := "()V" } : Jvm.MethodName)), (Jvm.Cond.instanceMethod ({ cls := "java/lang/RuntimeException", name := "<init>", desc := "()V" } : Jvm.MethodName)), (Jvm.Cond.code ({ cls := "java/lang/RuntimeException", name := "<init>", desc := "()V" } : Jvm.MethodName) prog_31_method_1_code (1 : Nat) (Option.none : Option Jvm.ClassFile.FieldType)), (Jvm.Cond.methodLink "java/lang/RuntimeException" (1 : Nat) ({ cls := "java/lang/Exception", name := "<init>", desc := "()V" } : Jvm.MethodName)), (Jvm.Cond.instanceMethod ({ cls := "java/lang/Exception", name := "<init>", desc := "()V" } : Jvm.MethodName)), (Jvm.Cond.declares ({ cls := "java/lang/Exception", name := "<init>", desc := "()V" } : Jvm.MethodName)), (Jvm.Cond.instanceMethod ({ cls := "java/lang/Exception", name := "<init>", desc := "()V" } : Jvm.MethodName)), (Jvm.Cond.code ({ cls := "java/lang/Exception", name := "<init>", desc := "()V" } : Jvm.MethodName) prog_20_method_1_code (1 : Nat) (Option.none : Option Jvm.ClassFile.FieldType)), (Jvm.Cond.methodLink "java/lang/Exception" (1 : Nat) ({ cls := "java/lang/Throwable", name := "<init>", desc := "()V" } : Jvm.MethodName)), (Jvm.Cond.instanceMethod ({ cls := "java/lang/Throwable", name := "<init>", desc := "()V" } : Jvm.MethodName)), (Jvm.Cond.declares ({ cls := "java/lang/Throwable", name := "<init>", desc := "()V" } : Jvm.MethodName)), (Jvm.Cond.methodLink "MultipoleLine" (64 : Nat) ({ cls := "java/lang/IndexOutOfBoundsException", name := "<init>", desc := "()V" } : Jvm.MethodName)), (Jvm.Cond.instantiable "java/lang/IndexOutOfBoundsException" (6 : Nat)), (Jvm.Cond.castable "java/lang/IndexOutOfBoundsException" "java/lang/IndexOutOfBoundsException"), (Jvm.Cond.selects "java/lang/IndexOutOfBoundsException" ({ cls := "java/lang/Throwable", name := "fillInStackTrace", desc := "(I)Ljava/lang/Throwable;" } : Jvm.MethodName) ({ cls := "java/lang/Throwable", name := "fillInStackTrace", desc := "(I)Ljava/lang/Throwable;" } : Jvm.MethodName)), (Jvm.Cond.selects "java/lang/IndexOutOfBoundsException" ({ cls := "java/lang/Throwable", name := "fillInStackTrace", desc := "()Ljava/lang/Throwable;" } : Jvm.MethodName) ({ cls := "java/lang/Throwable", name := "fillInStackTrace", desc := "()Ljava/lang/Throwable;" } : Jvm.MethodName)), (Jvm.Cond.lays "java/lang/IndexOutOfBoundsException" "java/lang/Throwable" "cause" "Ljava/lang/Throwable;"), (Jvm.Cond.lays "java/lang/IndexOutOfBoundsException" "java/lang/Throwable" "stackTrace" "[Ljava/lang/StackTraceElement;"), (Jvm.Cond.lays "java/lang/IndexOutOfBoundsException" "java/lang/Throwable" "suppressedExceptions" "Ljava/util/List;"), (Jvm.Cond.lays "java/lang/IndexOutOfBoundsException" "java/lang/Throwable" "detailMessage" "Ljava/lang/String;"), (Jvm.Cond.fieldLink "java/lang/Throwable" (198 : Nat) "java/lang/Throwable" "backtrace" "Ljava/lang/Object;"), (Jvm.Cond.lays "java/lang/Throwable" "java/lang/Throwable" "backtrace" "Ljava/lang/Object;"), (Jvm.Cond.lays "java/lang/IndexOutOfBoundsException" "java/lang/Throwable" "backtrace" "Ljava/lang/Object;")] := by decide +kernel
  rw [e9]
  exact List.forall_mem_cons.mpr ⟨⟨Or.inl q112, rfl⟩, List.forall_mem_cons.mpr ⟨⟨Or.inl q346, rfl⟩, List.forall_mem_cons.mpr ⟨⟨Or.inl q296, rfl⟩, List.forall_mem_cons.mpr ⟨⟨Or.inl q306, rfl⟩, List.forall_mem_cons.mpr ⟨⟨Or.inl q309, rfl⟩, List.forall_mem_cons.mpr ⟨⟨Or.inl q311, rfl⟩, List.forall_mem_cons.mpr ⟨⟨Or.inl q347, rfl⟩, List.forall_mem_cons.mpr ⟨⟨Or.inl q348, rfl⟩, List.forall_mem_cons.mpr ⟨⟨Or.inl q159, rfl⟩, List.forall_mem_cons.mpr ⟨⟨Or.inl q160, rfl⟩, List.forall_mem_cons.mpr ⟨⟨Or.inl q290, rfl⟩, List.forall_mem_cons.mpr ⟨⟨Or.inl q295, rfl⟩, List.forall_mem_cons.mpr ⟨⟨Or.inl q307, rfl⟩, List.forall_mem_cons.mpr ⟨⟨Or.inl q314, rfl⟩, List.forall_mem_cons.mpr ⟨⟨Or.inl q340, rfl⟩, List.forall_mem_cons.mpr ⟨⟨Or.inl q315, rfl⟩, List.forall_mem_cons.mpr ⟨⟨Or.inl q341, rfl⟩, List.forall_mem_cons.mpr ⟨⟨Or.inl q316, rfl⟩, List.forall_mem_cons.mpr ⟨⟨Or.inl q342, rfl⟩, List.forall_mem_cons.mpr ⟨⟨Or.inl q291, rfl⟩, List.forall_mem_cons.mpr ⟨⟨Or.inl q293, rfl⟩, List.forall_mem_cons.mpr ⟨⟨Or.inl q343, rfl⟩, List.forall_mem_cons.mpr ⟨⟨Or.inl q376, rfl⟩, List.forall_mem_cons.mpr ⟨⟨Or.inl q377, rfl⟩, List.forall_mem_cons.mpr ⟨⟨Or.inl q378, rfl⟩, List.forall_mem_cons.mpr ⟨⟨Or.inl q379, rfl⟩, List.forall_mem_cons.mpr ⟨⟨Or.inr ⟨q333, rfl⟩, rfl⟩, List.forall_mem_cons.mpr ⟨⟨Or.inl q379, rfl⟩, List.forall_mem_cons.mpr ⟨⟨Or.inl q380, rfl⟩, List.forall_mem_cons.mpr ⟨⟨Or.inl q381, rfl⟩, List.forall_mem_cons.mpr ⟨⟨Or.inl q382, rfl⟩, List.forall_mem_cons.mpr ⟨⟨Or.inr ⟨q335, rfl⟩, rfl⟩, List.forall_mem_cons.mpr ⟨⟨Or.inl q382, rfl⟩, List.forall_mem_cons.mpr ⟨⟨Or.inl q383, rfl⟩, List.forall_mem_cons.mpr ⟨⟨Or.inl q384, rfl⟩, List.forall_mem_cons.mpr ⟨⟨Or.inl q347, rfl⟩, List.forall_mem_cons.mpr ⟨⟨Or.inr ⟨q337, rfl⟩, rfl⟩, List.forall_mem_cons.mpr ⟨⟨Or.inl q375, rfl⟩, List.forall_mem_cons.mpr ⟨⟨Or.inl q367, rfl⟩, List.forall_mem_cons.mpr ⟨⟨Or.inr ⟨q368, rfl⟩, rfl⟩, List.forall_mem_cons.mpr ⟨⟨Or.inl q369, rfl⟩, List.forall_mem_cons.mpr ⟨⟨Or.inl q303, rfl⟩, List.forall_mem_cons.mpr ⟨⟨Or.inl q370, rfl⟩, List.forall_mem_cons.mpr ⟨⟨Or.inl q371, rfl⟩, List.forall_mem_cons.mpr ⟨⟨Or.inl q372, rfl⟩, List.forall_mem_cons.mpr ⟨⟨Or.inl q373, rfl⟩, List.forall_mem_cons.mpr ⟨⟨Or.inl q312, rfl⟩, List.forall_mem_cons.mpr ⟨⟨Or.inl q344, rfl⟩, List.forall_mem_cons.mpr ⟨⟨Or.inl q374, rfl⟩, fun _ h => absurd h List.not_mem_nil⟩⟩⟩⟩⟩⟩⟩⟩⟩⟩⟩⟩⟩⟩⟩⟩⟩⟩⟩⟩⟩⟩⟩⟩⟩⟩⟩⟩⟩⟩⟩⟩⟩⟩⟩⟩⟩⟩⟩⟩⟩⟩⟩⟩⟩⟩⟩⟩⟩
theorem lk_X1_84 : zw_LS "MultipoleLine" 84 yX1_checkIndex cX1_checkIndex 2 (Option.none : Option Jvm.ClassFile.FieldType) 2 := fun R s args Z rm hts hK hR => va_cwS 2 hts (lw_S q360 q361 q104 q362) rfl rfl rfl (by decide +kernel) hR
theorem lk_J11_1 : zw_LI "java/util/AbstractList" 1 yJ0_init cJ0_init 1 (Option.none : Option Jvm.ClassFile.FieldType) 0 := fun R s args Z rm hts hK hR => cwI 0 hts (lw_meth q168) rfl rfl rfl (hts _ q105) (hts _ q407) (hts _ q167) rfl (by decide +kernel) hR
theorem lf_J11_7 : zw_F "java/util/AbstractList" 7 [9, 14] 0 ("java/util/AbstractList", "modCount", "I", false) := ⟨Or.inl ⟨"java/util/AbstractList", q414, Or.inl rfl⟩, by
  intro ci hci
  simp only [List.mem_cons, List.not_mem_nil, or_false] at hci
  rcases hci with rfl | rfl
  · exact ⟨_, rfl, by decide, rfl⟩
  · exact ⟨_, rfl, by decide, rfl⟩⟩
theorem lk_J12_1 : zw_LI "java/util/ArrayList" 1 yJ11_init cJ11_init 1 (Option.none : Option Jvm.ClassFile.FieldType) 0 := fun R s args Z rm hts hK hR => cwI 0 hts (lw_meth q406) rfl rfl rfl (hts _ q119) (hts _ q404) (hts _ q405) rfl (by decide +kernel) hR
theorem lf_J12_9 : zw_F "java/util/ArrayList" 9 [9] 1 ("java/util/ArrayList", "elementData", "[Ljava/lang/Object;", false) := ⟨Or.inl ⟨"java/util/ArrayList", q410, Or.inl rfl⟩, by
  intro ci hci
  simp only [List.mem_cons, List.not_mem_nil, or_false] at hci
  subst hci
  exact ⟨_, rfl, by decide, rfl⟩⟩
theorem lk_X4_11 : zw_LI "MultipoleLine$Line" 11 yJ12_init cJ12_init 1 (Option.none : Option Jvm.ClassFile.FieldType) 0 := fun R s args Z rm hts hK hR => cwI 0 hts (lw_meth q403) rfl rfl rfl (hts _ q120) (hts _ q401) (hts _ q402) rfl (by decide +kernel) hR
theorem lf_X5_9 : zw_F "MultipoleLine$Box" 9 [4] 0 ("MultipoleLine$Box", "level", "I", true) := ⟨Or.inl ⟨"MultipoleLine$Box", q438, Or.inl rfl⟩, by
  intro ci hci
  simp only [List.mem_cons, List.not_mem_nil, or_false] at hci
  subst hci
  exact ⟨_, rfl, by decide, rfl⟩⟩
theorem lf_X5_15 : zw_F "MultipoleLine$Box" 15 [4] 1 ("MultipoleLine$Box", "number", "I", true) := ⟨Or.inl ⟨"MultipoleLine$Box", q441, Or.inl rfl⟩, by
  intro ci hci
  simp only [List.mem_cons, List.not_mem_nil, or_false] at hci
  subst hci
  exact ⟨_, rfl, by decide, rfl⟩⟩
theorem lf_X5_18 : zw_F "MultipoleLine$Box" 18 [4] 2 ("MultipoleLine$Box", "width", "I", true) := ⟨Or.inl ⟨"MultipoleLine$Box", q444, Or.inl rfl⟩, by
  intro ci hci
  simp only [List.mem_cons, List.not_mem_nil, or_false] at hci
  subst hci
  exact ⟨_, rfl, by decide, rfl⟩⟩
theorem lf_X5_21 : zw_F "MultipoleLine$Box" 21 [4] 3 ("MultipoleLine$Box", "centre", "I", true) := ⟨Or.inl ⟨"MultipoleLine$Box", q447, Or.inl rfl⟩, by
  intro ci hci
  simp only [List.mem_cons, List.not_mem_nil, or_false] at hci
  subst hci
  exact ⟨_, rfl, by decide, rfl⟩⟩
theorem lk_X4_33 : zw_LI "MultipoleLine$Line" 33 yX5_init cX5_init 3 (Option.none : Option Jvm.ClassFile.FieldType) 2 := fun R s args Z rm hts hK hR => cwI 2 hts (lw_meth q436) rfl rfl rfl (hts _ q121) (hts _ q434) (hts _ q435) rfl (by decide +kernel) hR
theorem ln_X4_9 : zw_N "MultipoleLine$Line" 9 "java/util/ArrayList" 9 3 [.int 0, .null, .int 0] := ⟨by decide, ⟨_, rfl⟩, q399, q400, q120, fun j hj => match j, hj with
  | 0, _ => rfl
  | 1, _ => rfl
  | 2, _ => rfl
  | j + 3, hj => absurd hj (by omega)⟩
theorem lf_X4_12 : zw_F "MultipoleLine$Line" 12 [2] 0 ("MultipoleLine$Line", "bodies", "Ljava/util/List;", true) := ⟨Or.inl ⟨"MultipoleLine$Line", q459, Or.inl rfl⟩, by
  intro ci hci
  simp only [List.mem_cons, List.not_mem_nil, or_false] at hci
  subst hci
  exact ⟨_, rfl, by decide, rfl⟩⟩
theorem lf_X4_20 : zw_F "MultipoleLine$Line" 20 [2] 1 ("MultipoleLine$Line", "boxes", "[[LMultipoleLine$Box;", true) := ⟨Or.inl ⟨"MultipoleLine$Line", q462, Or.inl rfl⟩, by
  intro ci hci
  simp only [List.mem_cons, List.not_mem_nil, or_false] at hci
  subst hci
  exact ⟨_, rfl, by decide, rfl⟩⟩
theorem lf_X4_26 : zw_F "MultipoleLine$Line" 26 [2] 7 ("MultipoleLine$Line", "far", "[LMultipoleLine$Box;", true) := ⟨Or.inl ⟨"MultipoleLine$Line", q473, Or.inl rfl⟩, by
  intro ci hci
  simp only [List.mem_cons, List.not_mem_nil, or_false] at hci
  subst hci
  exact ⟨_, rfl, by decide, rfl⟩⟩
theorem lf_X4_29 : zw_F "MultipoleLine$Line" 29 [2] 8 ("MultipoleLine$Line", "to", "[I", true) := ⟨Or.inl ⟨"MultipoleLine$Line", q475, Or.inl rfl⟩, by
  intro ci hci
  simp only [List.mem_cons, List.not_mem_nil, or_false] at hci
  subst hci
  exact ⟨_, rfl, by decide, rfl⟩⟩
theorem ln_X4_24 : zw_N "MultipoleLine$Line" 24 "MultipoleLine$Box" 4 4 [.int 0, .int 0, .int 0, .int 0] := ⟨by decide, ⟨_, rfl⟩, q432, q433, q121, fun j hj => match j, hj with
  | 0, _ => rfl
  | 1, _ => rfl
  | 2, _ => rfl
  | 3, _ => rfl
  | j + 4, hj => absurd hj (by omega)⟩
theorem lt_6 : zw_fits [4] "MultipoleLine$Box" := by
  intro ci hci
  simp only [List.mem_cons, List.not_mem_nil, or_false] at hci
  subst hci
  exact ⟨_, rfl, Or.inl rfl⟩
theorem lk_X3_17 : zw_LIN "MultipoleLine$Parser" 17 "MultipoleLine" yX4_init cX4_init 3 (Option.none : Option Jvm.ClassFile.FieldType) 0 := fun R s args Z rm hts hK hR => ⟨va_cnB 0 hts (lw_meth q397) rfl rfl rfl (hK.2.1 _ q395 rfl) (hts _ q118) (by decide +kernel) hR, rfl, hts _ q396⟩
theorem lf_X3_28 : zw_F "MultipoleLine$Parser" 28 [3] 1 ("MultipoleLine$Parser", "length", "I", true) := ⟨Or.inl ⟨"MultipoleLine$Parser", q764, Or.inl rfl⟩, by
  intro ci hci
  simp only [List.mem_cons, List.not_mem_nil, or_false] at hci
  subst hci
  exact ⟨_, rfl, by decide, rfl⟩⟩
theorem lf_X3_3 : zw_F "MultipoleLine$Parser" 3 [3] 7 ("MultipoleLine$Parser", "this$0", "LMultipoleLine;", true) := ⟨Or.inl ⟨"MultipoleLine$Parser", q770, Or.inl rfl⟩, by
  intro ci hci
  simp only [List.mem_cons, List.not_mem_nil, or_false] at hci
  subst hci
  exact ⟨_, rfl, by decide, rfl⟩⟩
theorem lf_X3_35 : zw_F "MultipoleLine$Parser" 35 [1] 0 ("MultipoleLine", "buffer", "[B", true) := ⟨Or.inr ⟨"MultipoleLine", "MultipoleLine", q217, Or.inl rfl⟩, by
  intro ci hci
  simp only [List.mem_cons, List.not_mem_nil, or_false] at hci
  subst hci
  exact ⟨_, rfl, by decide, rfl⟩⟩
theorem lk_X3_39 : zw_LV [3] "MultipoleLine$Parser" "MultipoleLine$Parser" 39 yX3_at cX3_at 2 (Option.some Jvm.ClassFile.FieldType.int) 1 := ⟨by
  intro ci hci
  simp only [List.mem_cons, List.not_mem_nil, or_false] at hci
  subst hci
  exact ⟨_, rfl, rfl⟩, fun R s args Z rm hts hK hR => cwV 1 hts (lw_V q503 q505 qs2 q117 q506) rfl rfl rfl (by decide +kernel) hR⟩
theorem lk_X3_43 : zw_LSN "MultipoleLine$Parser" 43 "MultipoleLine" yX1_in cX1_in 6 (Option.some Jvm.ClassFile.FieldType.boolean) 3 := fun R s args Z rm hts hK hR => ⟨va_cnB 3 hts (lw_meth q365) rfl rfl rfl (hK.2.1 _ q509 rfl) (hts _ q104) (by decide +kernel) hR, hts _ q364, trivial⟩
theorem lk_X3_71 : zw_LV [3] "MultipoleLine$Parser" "MultipoleLine$Parser" 71 yX3_run cX3_run 5 (Option.some Jvm.ClassFile.FieldType.int) 3 := ⟨by
  intro ci hci
  simp only [List.mem_cons, List.not_mem_nil, or_false] at hci
  subst hci
  exact ⟨_, rfl, rfl⟩, fun R s args Z rm hts hK hR => cwV 3 hts (lw_V q510 q512 qs3 q117 q513) rfl rfl rfl (by decide +kernel) hR⟩
theorem lk_X3_49 : zw_LI "MultipoleLine$Parser" 49 yJ3_init cJ3_init 1 (Option.none : Option Jvm.ClassFile.FieldType) 0 := fun R s args Z rm hts hK hR => cwI 0 hts (lw_meth q189) rfl rfl rfl (hts _ q108) (hts _ q519) (hts _ q188) rfl (by decide +kernel) hR
theorem lk_J13_194 : zw_LS "jdk/internal/util/ArraysSupport" 194 yJ14_max cJ14_max 2 (Option.some Jvm.ClassFile.FieldType.int) 2 := fun R s args Z rm hts hK hR => va_cwS 2 hts (lw_S q538 q539 q123 q540) rfl rfl rfl (by decide +kernel) hR
theorem lk_J2_114 : zw_LS "java/lang/AbstractStringBuilder" 114 yJ13_newLength cJ13_newLength 4 (Option.some Jvm.ClassFile.FieldType.int) 3 := fun R s args Z rm hts hK hR => va_cwS 3 hts (lw_S q535 q536 q122 q537) rfl rfl rfl (by decide +kernel) hR
theorem lk_J2_104 : zw_LU [10] "java/lang/StringBuilder" "java/lang/AbstractStringBuilder" 104 "java/lang/AbstractStringBuilder" ⟨"java/lang/AbstractStringBuilder", "newCapacity", "(I)I"⟩ yJ2_newCapacity cJ2_newCapacity 6 (Option.some Jvm.ClassFile.FieldType.int) 1 := ⟨by
  intro ci hci
  simp only [List.mem_cons, List.not_mem_nil, or_false] at hci
  subst hci
  exact ⟨_, rfl, rfl⟩, fun R s args Z rm hts hK hR => va_cwU 1 (List.forall_mem_cons.mpr ⟨va_Nw.use rfl (hK.2.2.2.2.2.2.2.2.2.2.2.1 _ zw_x1), hts⟩) (zw_upX q531 q3094 q533 q107 q534) rfl rfl rfl rfl (by decide +kernel) hR⟩
theorem lk_J15_304 : zw_LS "java/util/Arrays" 304 yJ14_min cJ14_min 2 (Option.some Jvm.ClassFile.FieldType.int) 2 := fun R s args Z rm hts hK hR => va_cwS 2 hts (lw_S q556 q557 q123 q558) rfl rfl rfl (by decide +kernel) hR
theorem lk_J2_108 : zw_LS "java/lang/AbstractStringBuilder" 108 yJ15_copyOf cJ15_copyOf 3 (Option.some (Jvm.ClassFile.FieldType.array Jvm.ClassFile.FieldType.byte)) 2 := fun R s args Z rm hts hK hR => va_cwS 2 hts (lw_S q546 q547 q124 q548) rfl rfl rfl (by decide +kernel) hR
theorem lk_J2_100 : zw_LU [10] "java/lang/StringBuilder" "java/lang/AbstractStringBuilder" 100 "java/lang/AbstractStringBuilder" ⟨"java/lang/AbstractStringBuilder", "ensureCapacityInternal", "(I)V"⟩ yJ2_ensureCapacityInternal cJ2_ensureCapacityInternal 3 (Option.none : Option Jvm.ClassFile.FieldType) 1 := ⟨by
  intro ci hci
  simp only [List.mem_cons, List.not_mem_nil, or_false] at hci
  subst hci
  exact ⟨_, rfl, rfl⟩, fun R s args Z rm hts hK hR => va_cwU 1 (List.forall_mem_cons.mpr ⟨va_Nw.use rfl (hK.2.2.2.2.2.2.2.2.2.2.2.1 _ zw_x0), hts⟩) (zw_upX q527 q3093 q529 q107 q530) rfl rfl rfl rfl (by decide +kernel) hR⟩
theorem lk_J2_83 : zw_LU [10] "java/lang/StringBuilder" "java/lang/AbstractStringBuilder" 83 "java/lang/AbstractStringBuilder" ⟨"java/lang/AbstractStringBuilder", "isLatin1", "()Z"⟩ yJ2_isLatin1 cJ2_isLatin1 1 (Option.some Jvm.ClassFile.FieldType.boolean) 0 := ⟨by
  intro ci hci
  simp only [List.mem_cons, List.not_mem_nil, or_false] at hci
  subst hci
  exact ⟨_, rfl, rfl⟩, fun R s args Z rm hts hK hR => va_cwU 0 hts (lw_app (zw_m5 (q562) (q564) (q565) (q563) (q107)) (lw_meth q566)) rfl rfl rfl rfl (by decide +kernel) hR⟩
theorem lk_J2_191 : zw_LS "java/lang/AbstractStringBuilder" 191 yJ16_canEncode cJ16_canEncode 1 (Option.some Jvm.ClassFile.FieldType.boolean) 1 := fun R s args Z rm hts hK hR => va_cwS 1 hts (lw_S q567 q568 q126 q569) rfl rfl rfl (by decide +kernel) hR
theorem lk_J5_111 : zw_LS "java/lang/StringUTF16" 111 yJ5_putChar cJ5_putChar 3 (Option.none : Option Jvm.ClassFile.FieldType) 3 := fun R s args Z rm hts hK hR => va_cwS 3 hts (lw_S q594 q595 q110 q596) rfl rfl rfl (by decide +kernel) hR
theorem lk_J2_197 : zw_LS "java/lang/AbstractStringBuilder" 197 yJ5_putCharSB cJ5_putCharSB 3 (Option.none : Option Jvm.ClassFile.FieldType) 3 := fun R s args Z rm hts hK hR => va_cwS 3 hts (lw_S q603 q604 q110 q605) rfl rfl rfl (by decide +kernel) hR
theorem lf_J2_79 : zw_F "java/lang/AbstractStringBuilder" 79 [10] 3 ("java/lang/AbstractStringBuilder", "count", "I", false) := ⟨Or.inl ⟨"java/lang/AbstractStringBuilder", q207, Or.inl rfl⟩, by
  intro ci hci
  simp only [List.mem_cons, List.not_mem_nil, or_false] at hci
  subst hci
  exact ⟨_, rfl, by decide, rfl⟩⟩
theorem lk_J3_50 : zw_LSU [10] "java/lang/StringBuilder" "java/lang/StringBuilder" 50 yJ2_append cJ2_append 2 (Option.some (Jvm.ClassFile.FieldType.object "java/lang/AbstractStringBuilder")) 1 := ⟨by
  intro ci hci
  simp only [List.mem_cons, List.not_mem_nil, or_false] at hci
  subst hci
  exact ⟨_, rfl, rfl⟩, fun R s args Z rm hts hK hR => va_cwSU 1 hts (lw_app (zw_m5 (q524) (q3092) (q216) (q525) (q107)) (lw_meth q526)) rfl rfl rfl (by decide +kernel) hR⟩
theorem lk_X3_50 : zw_LV [10] "java/lang/StringBuilder" "MultipoleLine$Parser" 50 yJ3_append cJ3_append 2 (Option.some (Jvm.ClassFile.FieldType.object "java/lang/StringBuilder")) 1 := ⟨by
  intro ci hci
  simp only [List.mem_cons, List.not_mem_nil, or_false] at hci
  subst hci
  exact ⟨_, rfl, rfl⟩, fun R s args Z rm hts hK hR => cwV 1 hts (lw_V q520 q521 q522 q108 q523) rfl rfl rfl (by decide +kernel) hR⟩
theorem lk_J4_552 : zw_LU [10] "java/lang/StringBuilder" "java/lang/String" 552 "java/lang/AbstractStringBuilder" ⟨"java/lang/AbstractStringBuilder", "getValue", "()[B"⟩ yJ2_getValue cJ2_getValue 1 (Option.some (Jvm.ClassFile.FieldType.array Jvm.ClassFile.FieldType.byte)) 0 := ⟨by
  intro ci hci
  simp only [List.mem_cons, List.not_mem_nil, or_false] at hci
  subst hci
  exact ⟨_, rfl, rfl⟩, fun R s args Z rm hts hK hR => va_cwU 0 hts (lw_app (zw_m5 (q627) (q629) (q630) (q628) (q107)) (lw_meth q631)) rfl rfl rfl rfl (by decide +kernel) hR⟩
theorem lk_J3_343 : zw_LSU [10] "java/lang/StringBuilder" "java/lang/StringBuilder" 343 yJ2_length cJ2_length 1 (Option.some Jvm.ClassFile.FieldType.int) 0 := ⟨by
  intro ci hci
  simp only [List.mem_cons, List.not_mem_nil, or_false] at hci
  subst hci
  exact ⟨_, rfl, rfl⟩, fun R s args Z rm hts hK hR => va_cwSU 0 hts (lw_app (zw_m5 (q638) (q634) (q216) (q633) (q107)) (lw_meth q639)) rfl rfl rfl (by decide +kernel) hR⟩
theorem lk_J4_549 : zw_LU [10] "java/lang/StringBuilder" "java/lang/String" 549 "java/lang/AbstractStringBuilder" ⟨"java/lang/AbstractStringBuilder", "length", "()I"⟩ yJ3_length cJ3_length 1 (Option.some Jvm.ClassFile.FieldType.int) 0 := ⟨by
  intro ci hci
  simp only [List.mem_cons, List.not_mem_nil, or_false] at hci
  subst hci
  exact ⟨_, rfl, rfl⟩, fun R s args Z rm hts hK hR => va_cwO 0 hts (lw_app (zw_m6 (q632) (q634) (q633) (q635) (q636) (q108)) (lw_meth q637)) rfl rfl rfl q639 (by decide +kernel) hR⟩
theorem lk_J4_1047 : zw_LU [10] "java/lang/StringBuilder" "java/lang/String" 1047 "java/lang/AbstractStringBuilder" ⟨"java/lang/AbstractStringBuilder", "isLatin1", "()Z"⟩ yJ2_isLatin1 cJ2_isLatin1 1 (Option.some Jvm.ClassFile.FieldType.boolean) 0 := ⟨by
  intro ci hci
  simp only [List.mem_cons, List.not_mem_nil, or_false] at hci
  subst hci
  exact ⟨_, rfl, rfl⟩, fun R s args Z rm hts hK hR => va_cwU 0 hts (lw_app (zw_m5 (q640) (q564) (q565) (q563) (q107)) (lw_meth q566)) rfl rfl rfl rfl (by decide +kernel) hR⟩
theorem lk_J15_47 : zw_LI "java/util/Arrays" 47 yJ3_init cJ3_init 1 (Option.none : Option Jvm.ClassFile.FieldType) 0 := fun R s args Z rm hts hK hR => cwI 0 hts (lw_meth q189) rfl rfl rfl (hts _ q108) (hts _ q660) (hts _ q188) rfl (by decide +kernel) hR
theorem lk_J2_245 : zw_LS "java/lang/AbstractStringBuilder" 245 yJ20_stringSize cJ20_stringSize 4 (Option.some Jvm.ClassFile.FieldType.int) 1 := fun R s args Z rm hts hK hR => va_cwS 1 hts (lw_S q668 q669 q130 q670) rfl rfl rfl (by decide +kernel) hR
theorem lk_J2_248 : zw_LS "java/lang/AbstractStringBuilder" 248 yJ20_getChars cJ20_getChars 7 (Option.some Jvm.ClassFile.FieldType.int) 3 := fun R s args Z rm hts hK hR => va_cwS 3 hts (lw_S q671 q672 q130 q673) rfl rfl rfl (by decide +kernel) hR
theorem lk_J4_1062 : zw_LS "java/lang/String" 1062 yJ17_checkFromToIndex cJ17_checkFromToIndex 4 (Option.some Jvm.ClassFile.FieldType.int) 4 := fun R s args Z rm hts hK hR => va_cwS 4 hts (lw_S q687 q688 q127 q689) rfl rfl rfl (by decide +kernel) hR
theorem lk_J5_241 : zw_LS "java/lang/StringUTF16" 241 yJ4_checkBoundsBeginEnd cJ4_checkBoundsBeginEnd 3 (Option.none : Option Jvm.ClassFile.FieldType) 3 := fun R s args Z rm hts hK hR => va_cwS 3 hts (lw_S q684 q685 q109 q686) rfl rfl rfl (by decide +kernel) hR
theorem lk_J5_96 : zw_LS "java/lang/StringUTF16" 96 yJ5_checkBoundsBeginEnd cJ5_checkBoundsBeginEnd 3 (Option.none : Option Jvm.ClassFile.FieldType) 3 := fun R s args Z rm hts hK hR => va_cwS 3 hts (lw_S q681 q682 q110 q683) rfl rfl rfl (by decide +kernel) hR
theorem lk_J5_393 : zw_LS "java/lang/StringUTF16" 393 yJ5_getChars_2 cJ5_getChars_2 7 (Option.some Jvm.ClassFile.FieldType.int) 3 := fun R s args Z rm hts hK hR => va_cwS 3 hts (lw_S q690 q691 q110 q692) rfl rfl rfl (by decide +kernel) hR
theorem lk_J2_251 : zw_LS "java/lang/AbstractStringBuilder" 251 yJ5_getChars cJ5_getChars 5 (Option.some Jvm.ClassFile.FieldType.int) 4 := fun R s args Z rm hts hK hR => va_cwS 4 hts (lw_S q678 q679 q110 q680) rfl rfl rfl (by decide +kernel) hR
theorem lk_J3_53 : zw_LSU [10] "java/lang/StringBuilder" "java/lang/StringBuilder" 53 yJ2_append_2 cJ2_append_2 4 (Option.some (Jvm.ClassFile.FieldType.object "java/lang/AbstractStringBuilder")) 1 := ⟨by
  intro ci hci
  simp only [List.mem_cons, List.not_mem_nil, or_false] at hci
  subst hci
  exact ⟨_, rfl, rfl⟩, fun R s args Z rm hts hK hR => va_cwSU 1 hts (lw_app (zw_m5 (q665) (q3096) (q216) (q666) (q107)) (lw_meth q667)) rfl rfl rfl (by decide +kernel) hR⟩
theorem lk_J15_54 : zw_LV [10] "java/lang/StringBuilder" "java/util/Arrays" 54 yJ3_append_2 cJ3_append_2 2 (Option.some (Jvm.ClassFile.FieldType.object "java/lang/StringBuilder")) 1 := ⟨by
  intro ci hci
  simp only [List.mem_cons, List.not_mem_nil, or_false] at hci
  subst hci
  exact ⟨_, rfl, rfl⟩, fun R s args Z rm hts hK hR => cwV 1 hts (lw_V q661 q662 q663 q108 q664) rfl rfl rfl (by decide +kernel) hR⟩
theorem lk_J2_32 : zw_LV [11, 17] "java/lang/String" "java/lang/AbstractStringBuilder" 32 yJ4_length cJ4_length 1 (Option.some Jvm.ClassFile.FieldType.int) 0 := ⟨by
  intro ci hci
  simp only [List.mem_cons, List.not_mem_nil, or_false] at hci
  rcases hci with rfl | rfl
  · exact ⟨_, rfl, rfl⟩
  · exact ⟨_, rfl, rfl⟩, fun R s args Z rm hts hK hR => cwV 0 hts (lw_V q710 q711 q712 q109 q713) rfl rfl rfl (by decide +kernel) hR⟩
theorem lk_J4_1065 : zw_LS "java/lang/String" 1065 yJ17_checkFromIndexSize cJ17_checkFromIndexSize 4 (Option.some Jvm.ClassFile.FieldType.int) 4 := fun R s args Z rm hts hK hR => va_cwS 4 hts (lw_S q591 q592 q127 q593) rfl rfl rfl (by decide +kernel) hR
theorem lk_J5_419 : zw_LS "java/lang/StringUTF16" 419 yJ4_checkBoundsOffCount cJ4_checkBoundsOffCount 3 (Option.some Jvm.ClassFile.FieldType.int) 3 := fun R s args Z rm hts hK hR => va_cwS 3 hts (lw_S q586 q587 q109 q588) rfl rfl rfl (by decide +kernel) hR
theorem lk_J5_173 : zw_LS "java/lang/StringUTF16" 173 yJ5_checkBoundsOffCount cJ5_checkBoundsOffCount 3 (Option.none : Option Jvm.ClassFile.FieldType) 3 := fun R s args Z rm hts hK hR => va_cwS 3 hts (lw_S q580 q581 q110 q582) rfl rfl rfl (by decide +kernel) hR
theorem lk_J16_240 : zw_LS "java/lang/StringLatin1" 240 yJ5_inflate cJ5_inflate 6 (Option.none : Option Jvm.ClassFile.FieldType) 5 := fun R s args Z rm hts hK hR => va_cwS 5 hts (lw_S q577 q578 q110 q579) rfl rfl rfl (by decide +kernel) hR
theorem lk_J4_106 : zw_LS "java/lang/String" 106 yJ16_inflate cJ16_inflate 5 (Option.none : Option Jvm.ClassFile.FieldType) 5 := fun R s args Z rm hts hK hR => va_cwS 5 hts (lw_S q733 q575 q126 q576) rfl rfl rfl (by decide +kernel) hR
theorem lk_J2_399 : zw_LV [11, 17] "java/lang/String" "java/lang/AbstractStringBuilder" 399 yJ4_getBytes cJ4_getBytes 4 (Option.none : Option Jvm.ClassFile.FieldType) 3 := ⟨by
  intro ci hci
  simp only [List.mem_cons, List.not_mem_nil, or_false] at hci
  rcases hci with rfl | rfl
  · exact ⟨_, rfl, rfl⟩
  · exact ⟨_, rfl, rfl⟩, fun R s args Z rm hts hK hR => cwV 3 hts (lw_V q728 q729 q730 q109 q731) rfl rfl rfl (by decide +kernel) hR⟩
theorem lk_J2_208 : zw_LU [10] "java/lang/StringBuilder" "java/lang/AbstractStringBuilder" 208 "java/lang/AbstractStringBuilder" ⟨"java/lang/AbstractStringBuilder", "putStringAt", "(ILjava/lang/String;)V"⟩ yJ2_putStringAt cJ2_putStringAt 3 (Option.none : Option Jvm.ClassFile.FieldType) 2 := ⟨by
  intro ci hci
  simp only [List.mem_cons, List.not_mem_nil, or_false] at hci
  subst hci
  exact ⟨_, rfl, rfl⟩, fun R s args Z rm hts hK hR => va_cwU 2 (List.forall_mem_cons.mpr ⟨va_Nw.use rfl (hK.2.2.2.2.2.2.2.2.2.2.2.1 _ zw_x2), hts⟩) (zw_upX q719 q3099 q721 q107 q722) rfl rfl rfl rfl (by decide +kernel) hR⟩
theorem lk_J3_29 : zw_LSU [10] "java/lang/StringBuilder" "java/lang/StringBuilder" 29 yJ2_append_3 cJ2_append_3 3 (Option.some (Jvm.ClassFile.FieldType.object "java/lang/AbstractStringBuilder")) 1 := ⟨by
  intro ci hci
  simp only [List.mem_cons, List.not_mem_nil, or_false] at hci
  subst hci
  exact ⟨_, rfl, rfl⟩, fun R s args Z rm hts hK hR => va_cwSU 1 hts (lw_app (zw_m5 (q700) (q3097) (q216) (q701) (q107)) (lw_meth q702)) rfl rfl rfl (by decide +kernel) hR⟩
theorem lk_J15_50 : zw_LV [10] "java/lang/StringBuilder" "java/util/Arrays" 50 yJ3_append_3 cJ3_append_3 2 (Option.some (Jvm.ClassFile.FieldType.object "java/lang/StringBuilder")) 1 := ⟨by
  intro ci hci
  simp only [List.mem_cons, List.not_mem_nil, or_false] at hci
  subst hci
  exact ⟨_, rfl, rfl⟩, fun R s args Z rm hts hK hR => cwV 1 hts (lw_V q696 q697 q698 q108 q699) rfl rfl rfl (by decide +kernel) hR⟩
theorem lk_J7_7 : zw_LI "java/lang/Exception" 7 yJ6_init cJ6_init 2 (Option.none : Option Jvm.ClassFile.FieldType) 1 := fun R s args Z rm hts hK hR => cwI 1 hts (lw_meth q289) rfl rfl rfl (hts _ q112) (hts _ q287) (hts _ q288) rfl (by decide +kernel) hR
theorem lk_J8_7 : zw_LI "java/lang/RuntimeException" 7 yJ7_init cJ7_init 2 (Option.none : Option Jvm.ClassFile.FieldType) 1 := fun R s args Z rm hts hK hR => cwI 1 hts (lw_meth q286) rfl rfl rfl (hts _ q113) (hts _ q284) (hts _ q285) rfl (by decide +kernel) hR
theorem lk_J18_7 : zw_LI "java/lang/IllegalArgumentException" 7 yJ8_init cJ8_init 2 (Option.none : Option Jvm.ClassFile.FieldType) 1 := fun R s args Z rm hts hK hR => cwI 1 hts (lw_meth q283) rfl rfl rfl (hts _ q114) (hts _ q738) (hts _ q282) rfl (by decide +kernel) hR
theorem lk_J15_65 : zw_LI "java/util/Arrays" 65 yJ18_init cJ18_init 2 (Option.none : Option Jvm.ClassFile.FieldType) 1 := fun R s args Z rm hts hK hR => cwI 1 hts (lw_meth q737) rfl rfl rfl (hts _ q128) (hts _ q735) (hts _ q736) rfl (by decide +kernel) hR
theorem lk_J15_343 : zw_LS "java/util/Arrays" 343 yJ15_checkLength cJ15_checkLength 2 (Option.none : Option Jvm.ClassFile.FieldType) 2 := fun R s args Z rm hts hK hR => va_cwS 2 hts (lw_S q647 q648 q124 q649) rfl rfl rfl (by decide +kernel) hR
theorem lk_J15_339 : zw_LS "java/util/Arrays" 339 yJ15_copyOfRangeByte cJ15_copyOfRangeByte 5 (Option.some (Jvm.ClassFile.FieldType.array Jvm.ClassFile.FieldType.byte)) 3 := fun R s args Z rm hts hK hR => va_cwS 3 hts (lw_S q644 q645 q124 q646) rfl rfl rfl (by decide +kernel) hR
theorem lk_J4_54 : zw_LS "java/lang/String" 54 yJ15_copyOfRange cJ15_copyOfRange 3 (Option.some (Jvm.ClassFile.FieldType.array Jvm.ClassFile.FieldType.byte)) 3 := fun R s args Z rm hts hK hR => va_cwS 3 hts (lw_S q641 q642 q124 q643) rfl rfl rfl (by decide +kernel) hR
theorem lk_J4_47 : zw_LS "java/lang/String" 47 yJ5_coderFromArrayLen cJ5_coderFromArrayLen 2 (Option.some Jvm.ClassFile.FieldType.byte) 2 := fun R s args Z rm hts hK hR => va_cwS 2 hts (lw_S q751 q752 q110 q753) rfl rfl rfl (by decide +kernel) hR
theorem lf_J4_15w : zw_F "java/lang/String" 15 [11] 1 ("java/lang/String", "coder", "B", true) := ⟨lf_J4_15.1, fun ci h => lf_J4_15.2 ci (by revert h; simp; omega)⟩
theorem lf_J4_9w : zw_F "java/lang/String" 9 [11] 0 ("java/lang/String", "value", "[B", true) := ⟨lf_J4_9.1, fun ci h => lf_J4_9.2 ci (by revert h; simp; omega)⟩
theorem lf_J4_1048 : zw_F "java/lang/String" 1048 [10] 2 ("java/lang/AbstractStringBuilder", "maybeLatin1", "Z", false) := ⟨Or.inl ⟨"java/lang/AbstractStringBuilder", q206, Or.inl rfl⟩, by
  intro ci hci
  simp only [List.mem_cons, List.not_mem_nil, or_false] at hci
  subst hci
  exact ⟨_, rfl, by decide, rfl⟩⟩
theorem lk_J4_489 : zw_LI "java/lang/String" 489 yJ4_init_2 cJ4_init_2 5 (Option.none : Option Jvm.ClassFile.FieldType) 2 := fun R s args Z rm hts hK hR => cwI 2 hts (lw_meth q625) rfl rfl rfl (hts _ q109) (hts _ q623) (hts _ q624) rfl (by decide +kernel) hR
theorem lk_J3_137 : zw_LI "java/lang/StringBuilder" 137 yJ4_init cJ4_init 2 (Option.none : Option Jvm.ClassFile.FieldType) 1 := fun R s args Z rm hts hK hR => cwI 1 hts (lw_meth q622) rfl rfl rfl (hts _ q109) (hts _ q620) (hts _ q621) rfl (by decide +kernel) hR
theorem ln_J3_18 : zw_N "java/lang/StringBuilder" 18 "java/lang/String" 11 4 [.null, .int 0, .int 0, .int 0] := ⟨by decide, ⟨_, rfl⟩, q619, q349, q109, fun j hj => match j, hj with
  | 0, _ => rfl
  | 1, _ => rfl
  | 2, _ => rfl
  | 3, _ => rfl
  | j + 4, hj => absurd hj (by omega)⟩
theorem lk_X3_54 : zw_LV [10] "java/lang/StringBuilder" "MultipoleLine$Parser" 54 yJ3_toString cJ3_toString 1 (Option.some (Jvm.ClassFile.FieldType.object "java/lang/String")) 0 := ⟨by
  intro ci hci
  simp only [List.mem_cons, List.not_mem_nil, or_false] at hci
  subst hci
  exact ⟨_, rfl, rfl⟩, fun R s args Z rm hts hK hR => cwV 0 hts (lw_V q615 q616 q617 q108 q618) rfl rfl rfl (by decide +kernel) hR⟩
theorem ln_X3_47 : zw_N "MultipoleLine$Parser" 47 "java/lang/StringBuilder" 10 4 [.null, .int 0, .int 0, .int 0] := ⟨by decide, ⟨_, rfl⟩, q518, q186, q108, fun j hj => match j, hj with
  | 0, _ => rfl
  | 1, _ => rfl
  | 2, _ => rfl
  | 3, _ => rfl
  | j + 4, hj => absurd hj (by omega)⟩
theorem lk_X3_75 : zw_LV [3] "MultipoleLine$Parser" "MultipoleLine$Parser" 75 yX3_letters cX3_letters 5 (Option.some (Jvm.ClassFile.FieldType.object "java/lang/String")) 2 := ⟨by
  intro ci hci
  simp only [List.mem_cons, List.not_mem_nil, or_false] at hci
  subst hci
  exact ⟨_, rfl, rfl⟩, fun R s args Z rm hts hK hR => cwV 2 hts (lw_V q514 q516 qs4 q117 q517) rfl rfl rfl (by decide +kernel) hR⟩
theorem lf_X3_58 : zw_F "MultipoleLine$Parser" 58 [3] 2 ("MultipoleLine$Parser", "next", "I", false) := ⟨Or.inl ⟨"MultipoleLine$Parser", q765, Or.inl rfl⟩, by
  intro ci hci
  simp only [List.mem_cons, List.not_mem_nil, or_false] at hci
  subst hci
  exact ⟨_, rfl, by decide, rfl⟩⟩
theorem lf_X3_61 : zw_F "MultipoleLine$Parser" 61 [3] 3 ("MultipoleLine$Parser", "begin", "I", false) := ⟨Or.inl ⟨"MultipoleLine$Parser", q766, Or.inl rfl⟩, by
  intro ci hci
  simp only [List.mem_cons, List.not_mem_nil, or_false] at hci
  subst hci
  exact ⟨_, rfl, by decide, rfl⟩⟩
theorem ls_X3_22 : ("MultipoleLine$Parser", 22, "", 23) ∈ zwSS := List.mem_of_getElem? (i := 13) rfl
theorem lf_X3_24 : zw_F "MultipoleLine$Parser" 24 [3] 6 ("MultipoleLine$Parser", "word", "Ljava/lang/String;", false) := ⟨Or.inl ⟨"MultipoleLine$Parser", q769, Or.inl rfl⟩, by
  intro ci hci
  simp only [List.mem_cons, List.not_mem_nil, or_false] at hci
  subst hci
  exact ⟨_, rfl, by decide, rfl⟩⟩
theorem lf_X3_64 : zw_F "MultipoleLine$Parser" 64 [3] 4 ("MultipoleLine$Parser", "sort", "I", false) := ⟨Or.inl ⟨"MultipoleLine$Parser", q767, Or.inl rfl⟩, by
  intro ci hci
  simp only [List.mem_cons, List.not_mem_nil, or_false] at hci
  subst hci
  exact ⟨_, rfl, by decide, rfl⟩⟩
theorem lf_X3_83 : zw_F "MultipoleLine$Parser" 83 [3] 5 ("MultipoleLine$Parser", "value", "I", false) := ⟨Or.inl ⟨"MultipoleLine$Parser", q768, Or.inl rfl⟩, by
  intro ci hci
  simp only [List.mem_cons, List.not_mem_nil, or_false] at hci
  subst hci
  exact ⟨_, rfl, by decide, rfl⟩⟩
theorem lk_X3_32 : zw_LV [3] "MultipoleLine$Parser" "MultipoleLine$Parser" 32 yX3_step cX3_step 3 (Option.none : Option Jvm.ClassFile.FieldType) 0 := ⟨by
  intro ci hci
  simp only [List.mem_cons, List.not_mem_nil, or_false] at hci
  subst hci
  exact ⟨_, rfl, rfl⟩, fun R s args Z rm hts hK hR => cwV 0 hts (lw_V q499 q501 qs1 q117 q502) rfl rfl rfl (by decide +kernel) hR⟩
theorem ln_X3_15 : zw_N "MultipoleLine$Parser" 15 "MultipoleLine$Line" 2 10 [.null, .null, .int 0, .int 0, .int 0, .int 0, .int 0, .null, .null, .int 0] := ⟨by decide, ⟨_, rfl⟩, q393, q394, q118, fun j hj => match j, hj with
  | 0, _ => rfl
  | 1, _ => rfl
  | 2, _ => rfl
  | 3, _ => rfl
  | 4, _ => rfl
  | 5, _ => rfl
  | 6, _ => rfl
  | 7, _ => rfl
  | 8, _ => rfl
  | 9, _ => rfl
  | j + 10, hj => absurd hj (by omega)⟩
theorem lf_X3_18 : zw_F "MultipoleLine$Parser" 18 [3] 0 ("MultipoleLine$Parser", "made", "LMultipoleLine$Line;", true) := ⟨Or.inl ⟨"MultipoleLine$Parser", q763, Or.inl rfl⟩, by
  intro ci hci
  simp only [List.mem_cons, List.not_mem_nil, or_false] at hci
  subst hci
  exact ⟨_, rfl, by decide, rfl⟩⟩
theorem lk_X1_122 : zw_LI "MultipoleLine" 122 yX3_init cX3_init 3 (Option.none : Option Jvm.ClassFile.FieldType) 2 := fun R s args Z rm hts hK hR => cwI 2 hts (lw_meth q391) rfl rfl rfl (hts _ q117) (hts _ q389) (hts _ q390) rfl (by decide +kernel) hR
theorem lk_J4_541 : zw_LS "java/lang/String" 541 yJ16_equals cJ16_equals 3 (Option.some Jvm.ClassFile.FieldType.boolean) 2 := fun R s args Z rm hts hK hR => va_cwS 2 hts (lw_S q798 q799 q126 q800) rfl rfl rfl (by decide +kernel) hR
theorem lc_J4_10 : zw_Cs "java/lang/String" 10 [11, 17] := ⟨"java/lang/String", q797, by
  intro ci hci
  simp only [List.mem_cons, List.not_mem_nil, or_false] at hci
  rcases hci with rfl | rfl
  · exact ⟨_, rfl, Or.inl rfl⟩
  · exact ⟨_, rfl, Or.inl rfl⟩⟩
theorem lk_X3_101 : zw_LV [11, 17] "java/lang/String" "MultipoleLine$Parser" 101 yJ4_equals cJ4_equals 3 (Option.some Jvm.ClassFile.FieldType.boolean) 1 := ⟨by
  intro ci hci
  simp only [List.mem_cons, List.not_mem_nil, or_false] at hci
  rcases hci with rfl | rfl
  · exact ⟨_, rfl, rfl⟩
  · exact ⟨_, rfl, rfl⟩, fun R s args Z rm hts hK hR => cwV 1 hts (lw_V q793 q794 q795 q109 q796) rfl rfl rfl (by decide +kernel) hR⟩
theorem lf_J6_31 : zw_F "java/lang/Throwable" 31 [5] 3 ("java/lang/Throwable", "detailMessage", "Ljava/lang/String;", false) := ⟨Or.inl ⟨"java/lang/Throwable", q313, Or.inl rfl⟩, by
  intro ci hci
  simp only [List.mem_cons, List.not_mem_nil, or_false] at hci
  subst hci
  exact ⟨_, rfl, by decide, rfl⟩⟩
theorem lk_J7_16 : zw_LI "java/lang/Exception" 16 yJ6_init_3 cJ6_init_3 5 (Option.none : Option Jvm.ClassFile.FieldType) 4 := fun R s args Z rm hts hK hR => cwI 4 hts (lw_meth q822) rfl rfl rfl (hts _ q112) (hts _ q820) (hts _ q821) rfl (by decide +kernel) hR
theorem lk_X6_1 : zw_LI "MultipoleLine$Flaw" 1 yJ7_init_3 cJ7_init_3 5 (Option.none : Option Jvm.ClassFile.FieldType) 4 := fun R s args Z rm hts hK hR => cwI 4 hts (lw_meth q819) rfl rfl rfl (hts _ q113) (hts _ q817) (hts _ q818) rfl (by decide +kernel) hR
theorem lf_X6_7 : zw_F "MultipoleLine$Flaw" 7 [5] 6 ("MultipoleLine$Flaw", "code", "I", true) := ⟨Or.inl ⟨"MultipoleLine$Flaw", q823, Or.inl rfl⟩, by
  intro ci hci
  simp only [List.mem_cons, List.not_mem_nil, or_false] at hci
  subst hci
  exact ⟨_, rfl, by decide, rfl⟩⟩
theorem lf_X6_13 : zw_F "MultipoleLine$Flaw" 13 [5] 7 ("MultipoleLine$Flaw", "position", "I", true) := ⟨Or.inl ⟨"MultipoleLine$Flaw", q825, Or.inl rfl⟩, by
  intro ci hci
  simp only [List.mem_cons, List.not_mem_nil, or_false] at hci
  subst hci
  exact ⟨_, rfl, by decide, rfl⟩⟩
theorem lk_X3_88 : zw_LI "MultipoleLine$Parser" 88 yX6_init cX6_init 3 (Option.none : Option Jvm.ClassFile.FieldType) 2 := fun R s args Z rm hts hK hR => cwI 2 hts (lw_meth q816) rfl rfl rfl (hts _ q131) (hts _ q814) (hts _ q815) rfl (by decide +kernel) hR
theorem ln_X3_86 : zw_N "MultipoleLine$Parser" 86 "MultipoleLine$Flaw" 5 8 [.null, .null, .null, .null, .null, .int 0, .int 0, .int 0] := ⟨by decide, ⟨_, rfl⟩, q805, q806, q131, fun j hj => match j, hj with
  | 0, _ => rfl
  | 1, _ => rfl
  | 2, _ => rfl
  | 3, _ => rfl
  | 4, _ => rfl
  | 5, _ => rfl
  | 6, _ => rfl
  | 7, _ => rfl
  | j + 8, hj => absurd hj (by omega)⟩
theorem lk_X3_91 : zw_LV [3] "MultipoleLine$Parser" "MultipoleLine$Parser" 91 yX3_check cX3_check 3 (Option.none : Option Jvm.ClassFile.FieldType) 2 := ⟨by
  intro ci hci
  simp only [List.mem_cons, List.not_mem_nil, or_false] at hci
  subst hci
  exact ⟨_, rfl, rfl⟩, fun R s args Z rm hts hK hR => cwV 2 hts (lw_V q801 q803 qs5 q117 q804) rfl rfl rfl (by decide +kernel) hR⟩
theorem lk_X3_143 : zw_LS "MultipoleLine$Parser" 143 yX4_low cX4_low 1 (Option.some Jvm.ClassFile.FieldType.int) 1 := fun R s args Z rm hts hK hR => va_cwS 1 hts (lw_S q833 q834 q118 q835) rfl rfl rfl (by decide +kernel) hR
theorem lk_X3_146 : zw_LS "MultipoleLine$Parser" 146 yX4_high cX4_high 1 (Option.some Jvm.ClassFile.FieldType.int) 1 := fun R s args Z rm hts hK hR => va_cwS 1 hts (lw_S q836 q837 q118 q838) rfl rfl rfl (by decide +kernel) hR
theorem lk_X3_95 : zw_LV [3] "MultipoleLine$Parser" "MultipoleLine$Parser" 95 yX3_looks cX3_looks 3 (Option.some Jvm.ClassFile.FieldType.int) 2 := ⟨by
  intro ci hci
  simp only [List.mem_cons, List.not_mem_nil, or_false] at hci
  subst hci
  exact ⟨_, rfl, rfl⟩, fun R s args Z rm hts hK hR => cwV 2 hts (lw_V q843 q845 qs7 q117 q846) rfl rfl rfl (by decide +kernel) hR⟩
theorem lk_X3_119 : zw_LV [3] "MultipoleLine$Parser" "MultipoleLine$Parser" 119 yX3_number cX3_number 4 (Option.some Jvm.ClassFile.FieldType.int) 2 := ⟨by
  intro ci hci
  simp only [List.mem_cons, List.not_mem_nil, or_false] at hci
  subst hci
  exact ⟨_, rfl, rfl⟩, fun R s args Z rm hts hK hR => cwV 2 hts (lw_V q839 q841 qs6 q117 q842) rfl rfl rfl (by decide +kernel) hR⟩
theorem lf_X4_57 : zw_F "MultipoleLine$Line" 57 [2] 2 ("MultipoleLine$Line", "levels", "I", false) := ⟨Or.inl ⟨"MultipoleLine$Line", q464, Or.inl rfl⟩, by
  intro ci hci
  simp only [List.mem_cons, List.not_mem_nil, or_false] at hci
  subst hci
  exact ⟨_, rfl, by decide, rfl⟩⟩
theorem lf_X4_61 : zw_F "MultipoleLine$Line" 61 [2] 3 ("MultipoleLine$Line", "order", "I", false) := ⟨Or.inl ⟨"MultipoleLine$Line", q466, Or.inl rfl⟩, by
  intro ci hci
  simp only [List.mem_cons, List.not_mem_nil, or_false] at hci
  subst hci
  exact ⟨_, rfl, by decide, rfl⟩⟩
theorem lf_X4_64 : zw_F "MultipoleLine$Line" 64 [2] 4 ("MultipoleLine$Line", "friction", "I", false) := ⟨Or.inl ⟨"MultipoleLine$Line", q468, Or.inl rfl⟩, by
  intro ci hci
  simp only [List.mem_cons, List.not_mem_nil, or_false] at hci
  subst hci
  exact ⟨_, rfl, by decide, rfl⟩⟩
theorem lk_X3_149 : zw_LV [2] "MultipoleLine$Line" "MultipoleLine$Parser" 149 yX4_sets cX4_sets 3 (Option.none : Option Jvm.ClassFile.FieldType) 2 := ⟨by
  intro ci hci
  simp only [List.mem_cons, List.not_mem_nil, or_false] at hci
  subst hci
  exact ⟨_, rfl, rfl⟩, fun R s args Z rm hts hK hR => cwV 2 hts (lw_V q847 q848 q849 q118 q850) rfl rfl rfl (by decide +kernel) hR⟩
theorem lf_J12_48 : zw_F "java/util/ArrayList" 48 [9] 2 ("java/util/ArrayList", "size", "I", false) := ⟨Or.inl ⟨"java/util/ArrayList", q413, Or.inl rfl⟩, by
  intro ci hci
  simp only [List.mem_cons, List.not_mem_nil, or_false] at hci
  subst hci
  exact ⟨_, rfl, by decide, rfl⟩⟩
theorem lk_X4_73 : zw_LF [9] "java/util/ArrayList" "MultipoleLine$Line" 73 ⟨"java/util/List", "size", "()I"⟩ yJ12_size cJ12_size 1 (Option.some Jvm.ClassFile.FieldType.int) 0 := ⟨by
  intro ci hci
  simp only [List.mem_cons, List.not_mem_nil, or_false] at hci
  subst hci
  exact ⟨_, rfl, rfl⟩, fun R s args Z rm hts hK hR => va_cwF 0 hts (lw_app (zw_m4 (q862) (q866) (q868) (q120)) (lw_meth q870)) rfl rfl rfl (hK.2.2.1 _ (List.mem_of_getElem? (i := 0) rfl)) (by decide +kernel) hR⟩
theorem lk_X3_109 : zw_LV [2] "MultipoleLine$Line" "MultipoleLine$Parser" 109 yX4_size cX4_size 1 (Option.some Jvm.ClassFile.FieldType.int) 0 := ⟨by
  intro ci hci
  simp only [List.mem_cons, List.not_mem_nil, or_false] at hci
  subst hci
  exact ⟨_, rfl, rfl⟩, fun R s args Z rm hts hK hR => cwV 0 hts (lw_V q857 q858 q859 q118 q860) rfl rfl rfl (by decide +kernel) hR⟩
theorem lk_X4_37 : zw_LV [2] "MultipoleLine$Line" "MultipoleLine$Line" 37 yX4_size cX4_size 1 (Option.some Jvm.ClassFile.FieldType.int) 0 := ⟨by
  intro ci hci
  simp only [List.mem_cons, List.not_mem_nil, or_false] at hci
  subst hci
  exact ⟨_, rfl, rfl⟩, fun R s args Z rm hts hK hR => cwV 0 hts (lw_V q881 q858 q859 q118 q860) rfl rfl rfl (by decide +kernel) hR⟩
theorem lk_J21_105 : zw_LS "java/util/Objects" 105 yJ17_checkIndex cJ17_checkIndex 3 (Option.some Jvm.ClassFile.FieldType.int) 3 := fun R s args Z rm hts hK hR => va_cwS 3 hts (lw_S q898 q613 q127 q614) rfl rfl rfl (by decide +kernel) hR
theorem lk_J12_118 : zw_LS "java/util/ArrayList" 118 yJ21_checkIndex cJ21_checkIndex 2 (Option.some Jvm.ClassFile.FieldType.int) 2 := fun R s args Z rm hts hK hR => va_cwS 2 hts (lw_S q895 q896 q132 q897) rfl rfl rfl (by decide +kernel) hR
theorem lk_J12_123 : zw_LV [9] "java/util/ArrayList" "java/util/ArrayList" 123 yJ12_elementData cJ12_elementData 2 (Option.some (Jvm.ClassFile.FieldType.object "java/lang/Object")) 1 := ⟨by
  intro ci hci
  simp only [List.mem_cons, List.not_mem_nil, or_false] at hci
  subst hci
  exact ⟨_, rfl, rfl⟩, fun R s args Z rm hts hK hR => cwV 1 hts (lw_V q899 q900 q901 q120 q902) rfl rfl rfl (by decide +kernel) hR⟩
theorem lk_X4_74 : zw_LF [9] "java/util/ArrayList" "MultipoleLine$Line" 74 ⟨"java/util/List", "get", "(I)Ljava/lang/Object;"⟩ yJ12_get cJ12_get 2 (Option.some (Jvm.ClassFile.FieldType.object "java/lang/Object")) 1 := ⟨by
  intro ci hci
  simp only [List.mem_cons, List.not_mem_nil, or_false] at hci
  subst hci
  exact ⟨_, rfl, rfl⟩, fun R s args Z rm hts hK hR => va_cwF 1 hts (lw_app (zw_m4 (q887) (q890) (q892) (q120)) (lw_meth q894)) rfl rfl rfl (hK.2.2.1 _ (List.mem_of_getElem? (i := 1) rfl)) (by decide +kernel) hR⟩
theorem lc_X4_46 : zw_Cs "MultipoleLine$Line" 46 [6, 7] := ⟨"MultipoleLine$Body", q934, by
  intro ci hci
  simp only [List.mem_cons, List.not_mem_nil, or_false] at hci
  rcases hci with rfl | rfl
  · exact ⟨_, rfl, Or.inr q3109⟩
  · exact ⟨_, rfl, Or.inr q3110⟩⟩
theorem lk_X4_41 : zw_LV [2] "MultipoleLine$Line" "MultipoleLine$Line" 41 yX4_at cX4_at 2 (Option.some (Jvm.ClassFile.FieldType.object "MultipoleLine$Body")) 1 := ⟨by
  intro ci hci
  simp only [List.mem_cons, List.not_mem_nil, or_false] at hci
  subst hci
  exact ⟨_, rfl, rfl⟩, fun R s args Z rm hts hK hR => cwV 1 hts (lw_V q882 q883 q884 q118 q885) rfl rfl rfl (by decide +kernel) hR⟩
theorem lf_X4_86 : zw_F "MultipoleLine$Line" 86 [6, 7] 0 ("MultipoleLine$Body", "x", "I", false) := ⟨Or.inr ⟨"MultipoleLine$Body", "MultipoleLine", q949, Or.inl rfl⟩, by
  intro ci hci
  simp only [List.mem_cons, List.not_mem_nil, or_false] at hci
  rcases hci with rfl | rfl
  · exact ⟨_, rfl, by decide, rfl⟩
  · exact ⟨_, rfl, by decide, rfl⟩⟩
theorem lf_X4_78 : zw_F "MultipoleLine$Line" 78 [6, 7] 3 ("MultipoleLine$Body", "isMover", "Z", false) := ⟨Or.inr ⟨"MultipoleLine$Body", "MultipoleLine", q957, Or.inl rfl⟩, by
  intro ci hci
  simp only [List.mem_cons, List.not_mem_nil, or_false] at hci
  rcases hci with rfl | rfl
  · exact ⟨_, rfl, by decide, rfl⟩
  · exact ⟨_, rfl, by decide, rfl⟩⟩
theorem lk_X3_113 : zw_LV [2] "MultipoleLine$Line" "MultipoleLine$Parser" 113 yX4_hasFixed cX4_hasFixed 4 (Option.some Jvm.ClassFile.FieldType.boolean) 1 := ⟨by
  intro ci hci
  simp only [List.mem_cons, List.not_mem_nil, or_false] at hci
  subst hci
  exact ⟨_, rfl, rfl⟩, fun R s args Z rm hts hK hR => cwV 1 hts (lw_V q877 q878 q879 q118 q880) rfl rfl rfl (by decide +kernel) hR⟩
theorem lk_X8_1 : zw_LIN "MultipoleLine$Fixed" 1 "MultipoleLine" yX7_init cX7_init 1 (Option.none : Option Jvm.ClassFile.FieldType) 0 := fun R s args Z rm hts hK hR => ⟨va_cnB 0 hts (lw_meth q946) rfl rfl rfl (hK.2.1 _ q944 rfl) (hts _ q133) (by decide +kernel) hR, rfl, hts _ q945⟩
theorem lk_X1_5 : zw_LIN "MultipoleLine" 5 "MultipoleLine" yX8_init cX8_init 1 (Option.none : Option Jvm.ClassFile.FieldType) 0 := fun R s args Z rm hts hK hR => ⟨va_cnB 0 hts (lw_meth q943) rfl rfl rfl (hK.2.1 _ q941 rfl) (hts _ q134) (by decide +kernel) hR, rfl, hts _ q942⟩
theorem lk_X9_1 : zw_LIN "MultipoleLine$Free" 1 "MultipoleLine" yX7_init cX7_init 1 (Option.none : Option Jvm.ClassFile.FieldType) 0 := fun R s args Z rm hts hK hR => ⟨va_cnB 0 hts (lw_meth q946) rfl rfl rfl (hK.2.1 _ q974 rfl) (hts _ q133) (by decide +kernel) hR, rfl, hts _ q945⟩
theorem lk_X1_11 : zw_LIN "MultipoleLine" 11 "MultipoleLine" yX9_init cX9_init 1 (Option.none : Option Jvm.ClassFile.FieldType) 0 := fun R s args Z rm hts hK hR => ⟨va_cnB 0 hts (lw_meth q973) rfl rfl rfl (hK.2.1 _ q971 rfl) (hts _ q135) (by decide +kernel) hR, rfl, hts _ q972⟩
theorem lk_X1_12 : zw_LSX "MultipoleLine" 12 [((0 : Nat), (5 : Nat), (6 : Nat), (1 : Nat))] yX1_isFree cX1_isFree 3 (Option.some Jvm.ClassFile.FieldType.boolean) 2 := fun R s args Z rm hts hK hR => vx_cwSW 2 hts (lw_SW q981 q982 q104 q983) rfl rfl rfl (by decide +kernel) hR
theorem ln_X1_9 : zw_N "MultipoleLine" 9 "MultipoleLine$Free" 7 4 [.int 0, .int 0, .int 0, .int 0] := ⟨by decide, ⟨_, rfl⟩, q969, q970, q135, fun j hj => match j, hj with
  | 0, _ => rfl
  | 1, _ => rfl
  | 2, _ => rfl
  | 3, _ => rfl
  | j + 4, hj => absurd hj (by omega)⟩
theorem lf_X1_18 : zw_F "MultipoleLine" 18 [6, 7] 3 ("MultipoleLine$Body", "isMover", "Z", false) := ⟨Or.inr ⟨"MultipoleLine$Body", "MultipoleLine", q959, Or.inl rfl⟩, by
  intro ci hci
  simp only [List.mem_cons, List.not_mem_nil, or_false] at hci
  rcases hci with rfl | rfl
  · exact ⟨_, rfl, by decide, rfl⟩
  · exact ⟨_, rfl, by decide, rfl⟩⟩
theorem ln_X1_3 : zw_N "MultipoleLine" 3 "MultipoleLine$Fixed" 6 4 [.int 0, .int 0, .int 0, .int 0] := ⟨by decide, ⟨_, rfl⟩, q939, q940, q134, fun j hj => match j, hj with
  | 0, _ => rfl
  | 1, _ => rfl
  | 2, _ => rfl
  | 3, _ => rfl
  | j + 4, hj => absurd hj (by omega)⟩
theorem lk_X3_126 : zw_LSN "MultipoleLine$Parser" 126 "MultipoleLine" yX1_body cX1_body 2 (Option.some (Jvm.ClassFile.FieldType.object "MultipoleLine$Body")) 1 := fun R s args Z rm hts hK hR => ⟨va_cnB 1 hts (lw_meth q938) rfl rfl rfl (hK.2.1 _ q936 rfl) (hts _ q104) (by decide +kernel) hR, hts _ q937, trivial⟩
theorem lf_X7_7 : zw_F "MultipoleLine$Body" 7 [6, 7] 0 ("MultipoleLine$Body", "x", "I", false) := ⟨Or.inl ⟨"MultipoleLine$Body", q948, Or.inl rfl⟩, by
  intro ci hci
  simp only [List.mem_cons, List.not_mem_nil, or_false] at hci
  rcases hci with rfl | rfl
  · exact ⟨_, rfl, by decide, rfl⟩
  · exact ⟨_, rfl, by decide, rfl⟩⟩
theorem lf_X7_13 : zw_F "MultipoleLine$Body" 13 [6, 7] 1 ("MultipoleLine$Body", "charge", "I", false) := ⟨Or.inl ⟨"MultipoleLine$Body", q951, Or.inl rfl⟩, by
  intro ci hci
  simp only [List.mem_cons, List.not_mem_nil, or_false] at hci
  rcases hci with rfl | rfl
  · exact ⟨_, rfl, by decide, rfl⟩
  · exact ⟨_, rfl, by decide, rfl⟩⟩
theorem lf_X7_16 : zw_F "MultipoleLine$Body" 16 [6, 7] 2 ("MultipoleLine$Body", "moves", "I", false) := ⟨Or.inl ⟨"MultipoleLine$Body", q954, Or.inl rfl⟩, by
  intro ci hci
  simp only [List.mem_cons, List.not_mem_nil, or_false] at hci
  rcases hci with rfl | rfl
  · exact ⟨_, rfl, by decide, rfl⟩
  · exact ⟨_, rfl, by decide, rfl⟩⟩
theorem lk_X3_130_6 : zw_LU [6] "MultipoleLine$Fixed" "MultipoleLine$Parser" 130 "MultipoleLine$Body" ⟨"MultipoleLine$Body", "be", "(III)LMultipoleLine$Body;"⟩ yX7_be cX7_be 4 (Option.some (Jvm.ClassFile.FieldType.object "MultipoleLine$Body")) 3 := ⟨by
  intro ci hci
  simp only [List.mem_cons, List.not_mem_nil, or_false] at hci
  subst hci
  exact ⟨_, rfl, rfl⟩, fun R s args Z rm hts hK hR => va_cwU 3 hts (lw_app (zw_m5 (q998) (q1000) (q1001) (q999) (q133)) (lw_meth q1003)) rfl rfl rfl rfl (by decide +kernel) hR⟩
theorem lk_X3_130_7 : zw_LU [7] "MultipoleLine$Free" "MultipoleLine$Parser" 130 "MultipoleLine$Body" ⟨"MultipoleLine$Body", "be", "(III)LMultipoleLine$Body;"⟩ yX7_be cX7_be 4 (Option.some (Jvm.ClassFile.FieldType.object "MultipoleLine$Body")) 3 := ⟨by
  intro ci hci
  simp only [List.mem_cons, List.not_mem_nil, or_false] at hci
  subst hci
  exact ⟨_, rfl, rfl⟩, fun R s args Z rm hts hK hR => va_cwU 3 hts (lw_app (zw_m5 (q998) (q1000) (q1002) (q999) (q133)) (lw_meth q1003)) rfl rfl rfl rfl (by decide +kernel) hR⟩
theorem lk_J12_73 : zw_LS "java/util/ArrayList" 73 yJ13_newLength cJ13_newLength 4 (Option.some Jvm.ClassFile.FieldType.int) 3 := fun R s args Z rm hts hK hR => va_cwS 3 hts (lw_S q1025 q536 q122 q537) rfl rfl rfl (by decide +kernel) hR
theorem lt_5 : zw_fits [0, 1, 2, 3, 4, 5, 6, 7, 8, 9, 10, 11, 12, 13, 14, 15, 16, 17, 18] "java/lang/Object" := by
  intro ci hci
  simp only [List.mem_cons, List.not_mem_nil, or_false] at hci
  rcases hci with rfl | rfl | rfl | rfl | rfl | rfl | rfl | rfl | rfl | rfl | rfl | rfl | rfl | rfl | rfl | rfl | rfl | rfl | rfl
  · exact ⟨_, rfl, Or.inr q3117⟩
  · exact ⟨_, rfl, Or.inr q3114⟩
  · exact ⟨_, rfl, Or.inr q3111⟩
  · exact ⟨_, rfl, Or.inr q3120⟩
  · exact ⟨_, rfl, Or.inr q3112⟩
  · exact ⟨_, rfl, Or.inr q3124⟩
  · exact ⟨_, rfl, Or.inr q3125⟩
  · exact ⟨_, rfl, Or.inr q3113⟩
  · exact ⟨_, rfl, Or.inr q3115⟩
  · exact ⟨_, rfl, Or.inr q3121⟩
  · exact ⟨_, rfl, Or.inr q3116⟩
  · exact ⟨_, rfl, Or.inr q3122⟩
  · exact ⟨_, rfl, Or.inr q3130⟩
  · exact ⟨_, rfl, Or.inr q3131⟩
  · exact ⟨_, rfl, Or.inr q3129⟩
  · exact ⟨_, rfl, Or.inr q3134⟩
  · exact ⟨_, rfl, Or.inr q3128⟩
  · exact ⟨_, rfl, Or.inr q3122⟩
  · exact ⟨_, rfl, Or.inr q3130⟩
theorem lk_J15_300 : zw_LS "java/util/Arrays" 300 yJ15_copyOf_3 cJ15_copyOf_3 4 (Option.some (Jvm.ClassFile.FieldType.array (Jvm.ClassFile.FieldType.object "java/lang/Object"))) 3 := fun R s args Z rm hts hK hR => va_cwS 3 hts (lw_S q1059 q1060 q124 q1061) rfl rfl rfl (by decide +kernel) hR
theorem lk_J12_66 : zw_LS "java/util/ArrayList" 66 yJ15_copyOf_2 cJ15_copyOf_2 2 (Option.some (Jvm.ClassFile.FieldType.array (Jvm.ClassFile.FieldType.object "java/lang/Object"))) 2 := fun R s args Z rm hts hK hR => va_cwS 2 hts (lw_S q1026 q1027 q124 q1028) rfl rfl rfl (by decide +kernel) hR
theorem lk_J12_79 : zw_LS "java/util/ArrayList" 79 yJ14_max cJ14_max 2 (Option.some Jvm.ClassFile.FieldType.int) 2 := fun R s args Z rm hts hK hR => va_cwS 2 hts (lw_S q1064 q539 q123 q540) rfl rfl rfl (by decide +kernel) hR
theorem lk_J12_69 : zw_LV [9] "java/util/ArrayList" "java/util/ArrayList" 69 yJ12_grow_2 cJ12_grow_2 4 (Option.some (Jvm.ClassFile.FieldType.array (Jvm.ClassFile.FieldType.object "java/lang/Object"))) 1 := ⟨by
  intro ci hci
  simp only [List.mem_cons, List.not_mem_nil, or_false] at hci
  subst hci
  exact ⟨_, rfl, rfl⟩, fun R s args Z rm hts hK hR => cwV 1 hts (lw_V q1021 q1023 qs14 q120 q1024) rfl rfl rfl (by decide +kernel) hR⟩
theorem lk_J12_129 : zw_LV [9] "java/util/ArrayList" "java/util/ArrayList" 129 yJ12_grow cJ12_grow 1 (Option.some (Jvm.ClassFile.FieldType.array (Jvm.ClassFile.FieldType.object "java/lang/Object"))) 0 := ⟨by
  intro ci hci
  simp only [List.mem_cons, List.not_mem_nil, or_false] at hci
  subst hci
  exact ⟨_, rfl, rfl⟩, fun R s args Z rm hts hK hR => cwV 0 hts (lw_V q1017 q1019 qs13 q120 q1020) rfl rfl rfl (by decide +kernel) hR⟩
theorem lk_J12_131 : zw_LV [9] "java/util/ArrayList" "java/util/ArrayList" 131 yJ12_add_2 cJ12_add_2 4 (Option.none : Option Jvm.ClassFile.FieldType) 3 := ⟨by
  intro ci hci
  simp only [List.mem_cons, List.not_mem_nil, or_false] at hci
  subst hci
  exact ⟨_, rfl, rfl⟩, fun R s args Z rm hts hK hR => cwV 3 hts (lw_V q1013 q1015 qs12 q120 q1016) rfl rfl rfl (by decide +kernel) hR⟩
theorem lf_J12_63 : zw_F "java/util/ArrayList" 63 [9] 0 ("java/util/AbstractList", "modCount", "I", false) := ⟨Or.inl ⟨"java/util/ArrayList", q421, Or.inr q418⟩, by
  intro ci hci
  simp only [List.mem_cons, List.not_mem_nil, or_false] at hci
  subst hci
  exact ⟨_, rfl, by decide, rfl⟩⟩
theorem lk_X3_136 : zw_LF [9] "java/util/ArrayList" "MultipoleLine$Parser" 136 ⟨"java/util/List", "add", "(Ljava/lang/Object;)Z"⟩ yJ12_add cJ12_add 2 (Option.some Jvm.ClassFile.FieldType.boolean) 1 := ⟨by
  intro ci hci
  simp only [List.mem_cons, List.not_mem_nil, or_false] at hci
  subst hci
  exact ⟨_, rfl, rfl⟩, fun R s args Z rm hts hK hR => va_cwF 1 hts (lw_app (zw_m4 (q1005) (q1008) (q1010) (q120)) (lw_meth q1012)) rfl rfl rfl (hK.2.2.1 _ (List.mem_of_getElem? (i := 2) rfl)) (by decide +kernel) hR⟩
theorem ls_X3_99 : ("MultipoleLine$Parser", 99, "fixed", 25) ∈ zwSS := List.mem_of_getElem? (i := 15) rfl
theorem ls_X3_117 : ("MultipoleLine$Parser", 117, "minus", 27) ∈ zwSS := List.mem_of_getElem? (i := 17) rfl
theorem lf_X3_122 : zw_F "MultipoleLine$Parser" 122 [2] 0 ("MultipoleLine$Line", "bodies", "Ljava/util/List;", true) := ⟨Or.inr ⟨"MultipoleLine$Line", "MultipoleLine", q460, Or.inl rfl⟩, by
  intro ci hci
  simp only [List.mem_cons, List.not_mem_nil, or_false] at hci
  subst hci
  exact ⟨_, rfl, by decide, rfl⟩⟩
theorem ls_X3_107 : ("MultipoleLine$Parser", 107, "free", 26) ∈ zwSS := List.mem_of_getElem? (i := 16) rfl
theorem lk_X3_152 : zw_LV [3] "MultipoleLine$Parser" "MultipoleLine$Parser" 152 yX3_line cX3_line 5 (Option.none : Option Jvm.ClassFile.FieldType) 0 := ⟨by
  intro ci hci
  simp only [List.mem_cons, List.not_mem_nil, or_false] at hci
  subst hci
  exact ⟨_, rfl, rfl⟩, fun R s args Z rm hts hK hR => cwV 0 hts (lw_V q851 q853 qs8 q117 q854) rfl rfl rfl (by decide +kernel) hR⟩
theorem ls_X3_141 : ("MultipoleLine$Parser", 141, "line", 24) ∈ zwSS := List.mem_of_getElem? (i := 14) rfl
theorem lk_X1_125 : zw_LV [3] "MultipoleLine$Parser" "MultipoleLine" 125 yX3_parse cX3_parse 2 (Option.some (Jvm.ClassFile.FieldType.object "MultipoleLine$Line")) 0 := ⟨by
  intro ci hci
  simp only [List.mem_cons, List.not_mem_nil, or_false] at hci
  subst hci
  exact ⟨_, rfl, rfl⟩, fun R s args Z rm hts hK hR => cwV 0 hts (lw_V q788 q789 q790 q117 q791) rfl rfl rfl (by decide +kernel) hR⟩
theorem lk_J1_181 : zw_LS "java/util/ArrayDeque" 181 yJ1_circularClear cJ1_circularClear 4 (Option.none : Option Jvm.ClassFile.FieldType) 3 := fun R s args Z rm hts hK hR => va_cwS 3 hts (lw_S q1100 q1101 q106 q1102) rfl rfl rfl (by decide +kernel) hR
theorem lk_X1_128 : zw_LV [8] "java/util/ArrayDeque" "MultipoleLine" 128 yJ1_clear cJ1_clear 1 (Option.none : Option Jvm.ClassFile.FieldType) 0 := ⟨by
  intro ci hci
  simp only [List.mem_cons, List.not_mem_nil, or_false] at hci
  subst hci
  exact ⟨_, rfl, rfl⟩, fun R s args Z rm hts hK hR => cwV 0 hts (lw_V q1096 q1097 q1098 q106 q1099) rfl rfl rfl (by decide +kernel) hR⟩
theorem lk_X1_80 : zw_LV [2] "MultipoleLine$Line" "MultipoleLine" 80 yX4_size cX4_size 1 (Option.some Jvm.ClassFile.FieldType.int) 0 := ⟨by
  intro ci hci
  simp only [List.mem_cons, List.not_mem_nil, or_false] at hci
  subst hci
  exact ⟨_, rfl, rfl⟩, fun R s args Z rm hts hK hR => cwV 0 hts (lw_V q1103 q858 q859 q118 q860) rfl rfl rfl (by decide +kernel) hR⟩
theorem lk_J18_1 : zw_LI "java/lang/IllegalArgumentException" 1 yJ8_init_2 cJ8_init_2 1 (Option.none : Option Jvm.ClassFile.FieldType) 0 := fun R s args Z rm hts hK hR => cwI 0 hts (lw_meth q380) rfl rfl rfl (hts _ q114) (hts _ q1108) (hts _ q379) rfl (by decide +kernel) hR
theorem lk_X1_57 : zw_LI "MultipoleLine" 57 yJ18_init_2 cJ18_init_2 1 (Option.none : Option Jvm.ClassFile.FieldType) 0 := fun R s args Z rm hts hK hR => cwI 0 hts (lw_meth q1107) rfl rfl rfl (hts _ q128) (hts _ q1105) (hts _ q1106) rfl (by decide +kernel) hR
theorem ln_X1_120 : zw_N "MultipoleLine" 120 "MultipoleLine$Parser" 3 8 [.null, .int 0, .int 0, .int 0, .int 0, .int 0, .null, .null] := ⟨by decide, ⟨_, rfl⟩, q387, q388, q117, fun j hj => match j, hj with
  | 0, _ => rfl
  | 1, _ => rfl
  | 2, _ => rfl
  | 3, _ => rfl
  | 4, _ => rfl
  | 5, _ => rfl
  | 6, _ => rfl
  | 7, _ => rfl
  | j + 8, hj => absurd hj (by omega)⟩
theorem lf_X1_133 : zw_F "MultipoleLine" 133 [5] 6 ("MultipoleLine$Flaw", "code", "I", true) := ⟨Or.inr ⟨"MultipoleLine$Flaw", "MultipoleLine", q824, Or.inl rfl⟩, by
  intro ci hci
  simp only [List.mem_cons, List.not_mem_nil, or_false] at hci
  subst hci
  exact ⟨_, rfl, by decide, rfl⟩⟩
theorem lf_X1_136 : zw_F "MultipoleLine" 136 [5] 7 ("MultipoleLine$Flaw", "position", "I", true) := ⟨Or.inr ⟨"MultipoleLine$Flaw", "MultipoleLine", q826, Or.inl rfl⟩, by
  intro ci hci
  simp only [List.mem_cons, List.not_mem_nil, or_false] at hci
  subst hci
  exact ⟨_, rfl, by decide, rfl⟩⟩
theorem lx_X1_55_57 : zw_Thr "MultipoleLine" 55 57 "java/lang/IllegalArgumentException" ["java/lang/RuntimeException", "java/lang/Exception"] := by
  refine ⟨by decide +kernel, by decide +kernel, q1104, q128, ?_⟩
  have e9 : vx_at0 "MultipoleLine" 57 "java/lang/IllegalArgumentException" ["java/lang/RuntimeException", "java/lang/Exception"] = [(Jvm.Cond.initialized "java/lang/Throwable"), (Jvm.Cond.superclass "java/lang/Throwable" "java/lang/Object"), (Jvm.Cond.instanceMethod ({ cls := "java/lang/Throwable", name := "fillInStackTrace", desc := "()Ljava/lang/Throwable;" } : Jvm.MethodName)), (Jvm.Cond.codeSync ({ cls := "java/lang/Throwable", name := "fillInStackTrace", desc := "()Ljava/lang/Throwable;" } : Jvm.MethodName) prog_38_method_18_code (1 : Nat) (Option.some (Jvm.ClassFile.FieldType.object "java/lang/Throwable"))), (Jvm.Cond.instanceMethod ({ cls := "java/lang/Throwable", name := "fillInStackTrace", desc := "(I)Ljava/lang/Throwable;" } : Jvm.MethodName)), (Jvm.Cond.native ({ cls := "java/lang/Throwable", name := "fillInStackTrace", desc := "(I)Ljava/lang/Throwable;" } : Jvm.MethodName)), (Jvm.Cond.instanceMethod ({ cls := "java/lang/Throwable", name := "<init>", desc := "()V" } : Jvm.MethodName)), (Jvm.Cond.code ({ cls := "java/lang/Throwable", name := "<init>", desc := "()V" } : Jvm.MethodName) prog_38_method_1_code (1 : Nat) (Option.none : Option Jvm.ClassFile.FieldType)), (Jvm.Cond.instanceMethod ({ cls := "java/lang/Object", name := "<init>", desc := "()V" } : Jvm.MethodName)), (Jvm.Cond.code ({ cls := "java/lang/Object", name := "<init>", desc := "()V" } : Jvm.MethodName) object_method_1_code (1 : Nat) (Option.none : Option Jvm.ClassFile.FieldType)), (Jvm.Cond.methodLink "java/lang/Throwable" (1 : Nat) ({ cls := "java/lang/Object", name := "<init>", desc := "()V" } : Jvm.MethodName)), (Jvm.Cond.methodLink "java/lang/Throwable" (27 : Nat) ({ cls := "java/lang/Throwable", name := "fillInStackTrace", desc := "()Ljava/lang/Throwable;" } : Jvm.MethodName)), (Jvm.Cond.methodLink "java/lang/Throwable" (202 : Nat) ({ cls := "java/lang/Throwable", name := "fillInStackTrace", desc := "(I)Ljava/lang/Throwable;" } : Jvm.MethodName)), (Jvm.Cond.fieldLink "java/lang/Throwable" (7 : Nat) "java/lang/Throwable" "cause" "Ljava/lang/Throwable;"), (Jvm.Cond.lays "java/lang/Throwable" "java/lang/Throwable" "cause" "Ljava/lang/Throwable;"), (Jvm.Cond.fieldLink "java/lang/Throwable" (17 : Nat) "java/lang/Throwable" "stackTrace" "[Ljava/lang/StackTraceElement;"), (Jvm.Cond.lays "java/lang/Throwable" "java/lang/Throwable" "stackTrace" "[Ljava/lang/StackTraceElement;"), (Jvm.Cond.fieldLink "java/lang/Throwable" (24 : Nat) "java/lang/Throwable" "suppressedExceptions" "Ljava/util/List;"), (Jvm.Cond.lays "java/lang/Throwable" "java/lang/Throwable" "suppressedExceptions" "Ljava/util/List;"), (Jvm.Cond.fieldLink "java/lang/Throwable" (13 : Nat) "java/lang/Throwable" "UNASSIGNED_STACK" "[Ljava/lang/StackTraceElement;"), (Jvm.Cond.fieldLink "java/lang/Throwable" (20 : Nat) "java/lang/Throwable" "SUPPRESSED_SENTINEL" "Ljava/util/List;"), (Jvm.Cond.lays "java/lang/Throwable" "java/lang/Throwable" "detailMessage" "Ljava/lang/String;"), (Jvm.Cond.instanceMethod ({ cls := "java/lang/IllegalArgumentException", name := "<init>", desc := "()V" } : Jvm.MethodName)), (Jvm.Cond.code ({ cls := "java/lang/IllegalArgumentException", name := "<init>", desc := "()V" } : Jvm.MethodName) prog_22_method_1_code (1 : Nat) (Option.none : Option Jvm.ClassFile.FieldType)), (Jvm.Cond.methodLink "java/lang/IllegalArgumentException" (1 : Nat) ({ cls := "java/lang/RuntimeException", name := "<init>", desc := "()V" } : Jvm.MethodName)), (Jvm.Cond.instanceMethod ({ cls := "java/lang/RuntimeException", name := "<init>", desc := "()V" } : Jvm.MethodName)), (Jvm.Cond.declares ({ cls := "java/lang/RuntimeException", name := "<init>", desc := "()V" } : Jvm.MethodName)), (Jvm.Cond.instanceMethod ({ cls := "java/lang/RuntimeException", name := "<init>", desc := "()V" } : Jvm.MethodName)), (Jvm.Cond.code ({ cls := "java/lang/RuntimeException", name := "<init>", desc := "()V" } : Jvm.MethodName) prog_31_method_1_code (1 : Nat) (Option.none : Option Jvm.ClassFile.FieldType)), (Jvm.Cond.methodLink "java/lang/RuntimeException" (1 : Nat) ({ cls := "java/lang/Exception", name := "<init>", desc := "()V" } : Jvm.MethodName)), (Jvm.Cond.instanceMethod ({ cls := "java/lang/Exception", name := "<init>", desc := "()V" } : Jvm.MethodName)), (Jvm.Cond.declares ({ cls := "java/lang/Exception", name := "<init>", desc := "()V" } : Jvm.MethodName)), (Jvm.Cond.instanceMethod ({ cls := "java/lang/Exception", name := "<init>", desc := "()V" } : Jvm.MethodName)), (Jvm.Cond.code ({ cls := "java/lang/Exception", name := "<init>", desc := "()V" } : Jvm.MethodName) prog_20_method_1_code (1 : Nat) (Option.none : Option Jvm.ClassFile.FieldType)), (Jvm.Cond.methodLink "java/lang/Exception" (1 : Nat) ({ cls := "java/lang/Throwable", name := "<init>", desc := "()V" } : Jvm.MethodName)), (Jvm.Cond.instanceMethod ({ cls := "java/lang/Throwable", name := "<init>", desc := "()V" } : Jvm.MethodName)), (Jvm.Cond.declares ({ cls := "java/lang/Throwable", name := "<init>", desc := "()V" } : Jvm.MethodName)), (Jvm.Cond.methodLink "MultipoleLine" (57 : Nat) ({ cls := "java/lang/IllegalArgumentException", name := "<init>", desc := "()V" } : Jvm.MethodName)), (Jvm.Cond.instantiable "java/lang/IllegalArgumentException" (6 : Nat)), (Jvm.Cond.castable "java/lang/IllegalArgumentException" "java/lang/IllegalArgumentException"), (Jvm.Cond.selects "java/lang/IllegalArgumentException" ({ cls := "java/lang/Throwable", name := "fillInStackTrace", desc := "(I)Ljava/lang/Throwable;" } : Jvm.MethodName) ({ cls := "java/lang/Throwable", name := "fillInStackTrace", desc := "(I)Ljava/lang/Throwable;" } : Jvm.MethodName)), (Jvm.Cond.selects "java/lang/IllegalArgumentException" ({ cls := "java/lang/Throwable", name := "fillInStackTrace", desc := "()Ljava/lang/Throwable;" } : Jvm.MethodName) ({ cls := "java/lang/Throwable", name := "fillInStackTrace", desc := "()Ljava/lang/Throwable;" } : Jvm.MethodName)), (Jvm.Cond.lays "java/lang/IllegalArgumentException" "java/lang/Throwable" "cause" "Ljava/lang/Throwable;"), (Jvm.Cond.lays "java/lang/IllegalArgumentException" "java/lang/Throwable" "stackTrace" "[Ljava/lang/StackTraceElement;"), (Jvm.Cond.lays "java/lang/IllegalArgumentException" "java/lang/Throwable" "suppressedExceptions" "Ljava/util/List;"), (Jvm.Cond.lays "java/lang/IllegalArgumentException" "java/lang/Throwable" "detailMessage" "Ljava/lang/String;"), (Jvm.Cond.fieldLink "java/lang/Throwable" (198 : Nat) "java/lang/Throwable" "backtrace" "Ljava/lang/Object;"), (Jvm.Cond.lays "java/lang/Throwable" "java/lang/Throwable" "backtrace" "Ljava/lang/Object;"), (Jvm.Cond.lays "java/lang/IllegalArgumentException" "java/lang/Throwable" "backtrace" "Ljava/lang/Object;")] := by decide +kernel
  rw [e9]
  exact List.forall_mem_cons.mpr ⟨⟨Or.inl q112, rfl⟩, List.forall_mem_cons.mpr ⟨⟨Or.inl q346, rfl⟩, List.forall_mem_cons.mpr ⟨⟨Or.inl q296, rfl⟩, List.forall_mem_cons.mpr ⟨⟨Or.inl q306, rfl⟩, List.forall_mem_cons.mpr ⟨⟨Or.inl q309, rfl⟩, List.forall_mem_cons.mpr ⟨⟨Or.inl q311, rfl⟩, List.forall_mem_cons.mpr ⟨⟨Or.inl q347, rfl⟩, List.forall_mem_cons.mpr ⟨⟨Or.inl q348, rfl⟩, List.forall_mem_cons.mpr ⟨⟨Or.inl q159, rfl⟩, List.forall_mem_cons.mpr ⟨⟨Or.inl q160, rfl⟩, List.forall_mem_cons.mpr ⟨⟨Or.inl q290, rfl⟩, List.forall_mem_cons.mpr ⟨⟨Or.inl q295, rfl⟩, List.forall_mem_cons.mpr ⟨⟨Or.inl q307, rfl⟩, List.forall_mem_cons.mpr ⟨⟨Or.inl q314, rfl⟩, List.forall_mem_cons.mpr ⟨⟨Or.inl q340, rfl⟩, List.forall_mem_cons.mpr ⟨⟨Or.inl q315, rfl⟩, List.forall_mem_cons.mpr ⟨⟨Or.inl q341, rfl⟩, List.forall_mem_cons.mpr ⟨⟨Or.inl q316, rfl⟩, List.forall_mem_cons.mpr ⟨⟨Or.inl q342, rfl⟩, List.forall_mem_cons.mpr ⟨⟨Or.inl q291, rfl⟩, List.forall_mem_cons.mpr ⟨⟨Or.inl q293, rfl⟩, List.forall_mem_cons.mpr ⟨⟨Or.inl q343, rfl⟩, List.forall_mem_cons.mpr ⟨⟨Or.inl q1106, rfl⟩, List.forall_mem_cons.mpr ⟨⟨Or.inl q1107, rfl⟩, List.forall_mem_cons.mpr ⟨⟨Or.inl q1108, rfl⟩, List.forall_mem_cons.mpr ⟨⟨Or.inl q379, rfl⟩, List.forall_mem_cons.mpr ⟨⟨Or.inr ⟨q333, rfl⟩, rfl⟩, List.forall_mem_cons.mpr ⟨⟨Or.inl q379, rfl⟩, List.forall_mem_cons.mpr ⟨⟨Or.inl q380, rfl⟩, List.forall_mem_cons.mpr ⟨⟨Or.inl q381, rfl⟩, List.forall_mem_cons.mpr ⟨⟨Or.inl q382, rfl⟩, List.forall_mem_cons.mpr ⟨⟨Or.inr ⟨q335, rfl⟩, rfl⟩, List.forall_mem_cons.mpr ⟨⟨Or.inl q382, rfl⟩, List.forall_mem_cons.mpr ⟨⟨Or.inl q383, rfl⟩, List.forall_mem_cons.mpr ⟨⟨Or.inl q384, rfl⟩, List.forall_mem_cons.mpr ⟨⟨Or.inl q347, rfl⟩, List.forall_mem_cons.mpr ⟨⟨Or.inr ⟨q337, rfl⟩, rfl⟩, List.forall_mem_cons.mpr ⟨⟨Or.inl q1105, rfl⟩, List.forall_mem_cons.mpr ⟨⟨Or.inl q651, rfl⟩, List.forall_mem_cons.mpr ⟨⟨Or.inr ⟨q652, rfl⟩, rfl⟩, List.forall_mem_cons.mpr ⟨⟨Or.inl q653, rfl⟩, List.forall_mem_cons.mpr ⟨⟨Or.inl q301, rfl⟩, List.forall_mem_cons.mpr ⟨⟨Or.inl q654, rfl⟩, List.forall_mem_cons.mpr ⟨⟨Or.inl q655, rfl⟩, List.forall_mem_cons.mpr ⟨⟨Or.inl q656, rfl⟩, List.forall_mem_cons.mpr ⟨⟨Or.inl q657, rfl⟩, List.forall_mem_cons.mpr ⟨⟨Or.inl q312, rfl⟩, List.forall_mem_cons.mpr ⟨⟨Or.inl q344, rfl⟩, List.forall_mem_cons.mpr ⟨⟨Or.inl q658, rfl⟩, fun _ h => absurd h List.not_mem_nil⟩⟩⟩⟩⟩⟩⟩⟩⟩⟩⟩⟩⟩⟩⟩⟩⟩⟩⟩⟩⟩⟩⟩⟩⟩⟩⟩⟩⟩⟩⟩⟩⟩⟩⟩⟩⟩⟩⟩⟩⟩⟩⟩⟩⟩⟩⟩⟩⟩
theorem lf_X1_68 : zw_F "MultipoleLine" 68 [1] 4 ("MultipoleLine", "now", "LMultipoleLine$Line;", false) := ⟨Or.inl ⟨"MultipoleLine", q222, Or.inl rfl⟩, by
  intro ci hci
  simp only [List.mem_cons, List.not_mem_nil, or_false] at hci
  subst hci
  exact ⟨_, rfl, by decide, rfl⟩⟩
theorem lt_8 : zw_fits [2] "MultipoleLine$Line" := by
  intro ci hci
  simp only [List.mem_cons, List.not_mem_nil, or_false] at hci
  subst hci
  exact ⟨_, rfl, Or.inl rfl⟩
theorem lk_J24_1 : zw_LI "java/lang/IllegalStateException" 1 yJ8_init_2 cJ8_init_2 1 (Option.none : Option Jvm.ClassFile.FieldType) 0 := fun R s args Z rm hts hK hR => cwI 0 hts (lw_meth q380) rfl rfl rfl (hts _ q114) (hts _ q1136) (hts _ q379) rfl (by decide +kernel) hR
theorem lk_X1_67 : zw_LI "MultipoleLine" 67 yJ24_init cJ24_init 1 (Option.none : Option Jvm.ClassFile.FieldType) 0 := fun R s args Z rm hts hK hR => cwI 0 hts (lw_meth q1135) rfl rfl rfl (hts _ q138) (hts _ q1133) (hts _ q1134) rfl (by decide +kernel) hR
theorem lx_X1_65_67 : zw_Thr "MultipoleLine" 65 67 "java/lang/IllegalStateException" ["java/lang/RuntimeException", "java/lang/Exception"] := by
  refine ⟨by decide +kernel, by decide +kernel, q1124, q138, ?_⟩
  have e9 : vx_at0 "MultipoleLine" 67 "java/lang/IllegalStateException" ["java/lang/RuntimeException", "java/lang/Exception"] = [(Jvm.Cond.initialized "java/lang/Throwable"), (Jvm.Cond.superclass "java/lang/Throwable" "java/lang/Object"), (Jvm.Cond.instanceMethod ({ cls := "java/lang/Throwable", name := "fillInStackTrace", desc := "()Ljava/lang/Throwable;" } : Jvm.MethodName)), (Jvm.Cond.codeSync ({ cls := "java/lang/Throwable", name := "fillInStackTrace", desc := "()Ljava/lang/Throwable;" } : Jvm.MethodName) prog_38_method_18_code (1 : Nat) (Option.some (Jvm.ClassFile.FieldType.object "java/lang/Throwable"))), (Jvm.Cond.instanceMethod ({ cls := "java/lang/Throwable", name := "fillInStackTrace", desc := "(I)Ljava/lang/Throwable;" } : Jvm.MethodName)), (Jvm.Cond.native ({ cls := "java/lang/Throwable", name := "fillInStackTrace", desc := "(I)Ljava/lang/Throwable;" } : Jvm.MethodName)), (Jvm.Cond.instanceMethod ({ cls := "java/lang/Throwable", name := "<init>", desc := "()V" } : Jvm.MethodName)), (Jvm.Cond.code ({ cls := "java/lang/Throwable", name := "<init>", desc := "()V" } : Jvm.MethodName) prog_38_method_1_code (1 : Nat) (Option.none : Option Jvm.ClassFile.FieldType)), (Jvm.Cond.instanceMethod ({ cls := "java/lang/Object", name := "<init>", desc := "()V" } : Jvm.MethodName)), (Jvm.Cond.code ({ cls := "java/lang/Object", name := "<init>", desc := "()V" } : Jvm.MethodName) object_method_1_code (1 : Nat) (Option.none : Option Jvm.ClassFile.FieldType)), (Jvm.Cond.methodLink "java/lang/Throwable" (1 : Nat) ({ cls := "java/lang/Object", name := "<init>", desc := "()V" } : Jvm.MethodName)), (Jvm.Cond.methodLink "java/lang/Throwable" (27 : Nat) ({ cls := "java/lang/Throwable", name := "fillInStackTrace", desc := "()Ljava/lang/Throwable;" } : Jvm.MethodName)), (Jvm.Cond.methodLink "java/lang/Throwable" (202 : Nat) ({ cls := "java/lang/Throwable", name := "fillInStackTrace", desc := "(I)Ljava/lang/Throwable;" } : Jvm.MethodName)), (Jvm.Cond.fieldLink "java/lang/Throwable" (7 : Nat) "java/lang/Throwable" "cause" "Ljava/lang/Throwable;"), (Jvm.Cond.lays "java/lang/Throwable" "java/lang/Throwable" "cause" "Ljava/lang/Throwable;"), (Jvm.Cond.fieldLink "java/lang/Throwable" (17 : Nat) "java/lang/Throwable" "stackTrace" "[Ljava/lang/StackTraceElement;"), (Jvm.Cond.lays "java/lang/Throwable" "java/lang/Throwable" "stackTrace" "[Ljava/lang/StackTraceElement;"), (Jvm.Cond.fieldLink "java/lang/Throwable" (24 : Nat) "java/lang/Throwable" "suppressedExceptions" "Ljava/util/List;"), (Jvm.Cond.lays "java/lang/Throwable" "java/lang/Throwable" "suppressedExceptions" "Ljava/util/List;"), (Jvm.Cond.fieldLink "java/lang/Throwable" (13 : Nat) "java/lang/Throwable" "UNASSIGNED_STACK" "[Ljava/lang/StackTraceElement;"), (Jvm.Cond.fieldLink "java/lang/Throwable" (20 : Nat) "java/lang/Throwable" "SUPPRESSED_SENTINEL" "Ljava/util/List;"), (Jvm.Cond.lays "java/lang/Throwable" "java/lang/Throwable" "detailMessage" "Ljava/lang/String;"), (Jvm.Cond.instanceMethod ({ cls := "java/lang/IllegalStateException", name := "<init>", desc := "()V" } : Jvm.MethodName)), (Jvm.Cond.code ({ cls := "java/lang/IllegalStateException", name := "<init>", desc := "()V" } : Jvm.MethodName) prog_23_method_1_code (1 : Nat) (Option.none : Option Jvm.ClassFile.FieldType)), (Jvm.Cond.methodLink "java/lang/IllegalStateException" (1 : Nat) ({ cls := "java/lang/RuntimeException", name := "<init>", desc := "()V" } : Jvm.MethodName)), (Jvm.Cond.instanceMethod ({ cls := "java/lang/RuntimeException", name := "<init>", desc := "()V" } : Jvm.MethodName)), (Jvm.Cond.declares ({ cls := "java/lang/RuntimeException", name := "<init>", desc := "()V" } : Jvm.MethodName)), (Jvm.Cond.instanceMethod ({ cls := "java/lang/RuntimeException", name := "<init>", desc := "()V" } : Jvm.MethodName)), (Jvm.Cond.code ({ cls := "java/lang/RuntimeException", name := "<init>", desc := "()V" } : Jvm.MethodName) prog_31_method_1_code (1 : Nat) (Option.none : Option Jvm.ClassFile.FieldType)), (Jvm.Cond.methodLink "java/lang/RuntimeException" (1 : Nat) ({ cls := "java/lang/Exception", name := "<init>", desc := "()V" } : Jvm.MethodName)), (Jvm.Cond.instanceMethod ({ cls := "java/lang/Exception", name := "<init>", desc := "()V" } : Jvm.MethodName)), (Jvm.Cond.declares ({ cls := "java/lang/Exception", name := "<init>", desc := "()V" } : Jvm.MethodName)), (Jvm.Cond.instanceMethod ({ cls := "java/lang/Exception", name := "<init>", desc := "()V" } : Jvm.MethodName)), (Jvm.Cond.code ({ cls := "java/lang/Exception", name := "<init>", desc := "()V" } : Jvm.MethodName) prog_20_method_1_code (1 : Nat) (Option.none : Option Jvm.ClassFile.FieldType)), (Jvm.Cond.methodLink "java/lang/Exception" (1 : Nat) ({ cls := "java/lang/Throwable", name := "<init>", desc := "()V" } : Jvm.MethodName)), (Jvm.Cond.instanceMethod ({ cls := "java/lang/Throwable", name := "<init>", desc := "()V" } : Jvm.MethodName)), (Jvm.Cond.declares ({ cls := "java/lang/Throwable", name := "<init>", desc := "()V" } : Jvm.MethodName)), (Jvm.Cond.methodLink "MultipoleLine" (67 : Nat) ({ cls := "java/lang/IllegalStateException", name := "<init>", desc := "()V" } : Jvm.MethodName)), (Jvm.Cond.instantiable "java/lang/IllegalStateException" (6 : Nat)), (Jvm.Cond.castable "java/lang/IllegalStateException" "java/lang/IllegalStateException"), (Jvm.Cond.selects "java/lang/IllegalStateException" ({ cls := "java/lang/Throwable", name := "fillInStackTrace", desc := "(I)Ljava/lang/Throwable;" } : Jvm.MethodName) ({ cls := "java/lang/Throwable", name := "fillInStackTrace", desc := "(I)Ljava/lang/Throwable;" } : Jvm.MethodName)), (Jvm.Cond.selects "java/lang/IllegalStateException" ({ cls := "java/lang/Throwable", name := "fillInStackTrace", desc := "()Ljava/lang/Throwable;" } : Jvm.MethodName) ({ cls := "java/lang/Throwable", name := "fillInStackTrace", desc := "()Ljava/lang/Throwable;" } : Jvm.MethodName)), (Jvm.Cond.lays "java/lang/IllegalStateException" "java/lang/Throwable" "cause" "Ljava/lang/Throwable;"), (Jvm.Cond.lays "java/lang/IllegalStateException" "java/lang/Throwable" "stackTrace" "[Ljava/lang/StackTraceElement;"), (Jvm.Cond.lays "java/lang/IllegalStateException" "java/lang/Throwable" "suppressedExceptions" "Ljava/util/List;"), (Jvm.Cond.lays "java/lang/IllegalStateException" "java/lang/Throwable" "detailMessage" "Ljava/lang/String;"), (Jvm.Cond.fieldLink "java/lang/Throwable" (198 : Nat) "java/lang/Throwable" "backtrace" "Ljava/lang/Object;"), (Jvm.Cond.lays "java/lang/Throwable" "java/lang/Throwable" "backtrace" "Ljava/lang/Object;"), (Jvm.Cond.lays "java/lang/IllegalStateException" "java/lang/Throwable" "backtrace" "Ljava/lang/Object;")] := by decide +kernel
  rw [e9]
  exact List.forall_mem_cons.mpr ⟨⟨Or.inl q112, rfl⟩, List.forall_mem_cons.mpr ⟨⟨Or.inl q346, rfl⟩, List.forall_mem_cons.mpr ⟨⟨Or.inl q296, rfl⟩, List.forall_mem_cons.mpr ⟨⟨Or.inl q306, rfl⟩, List.forall_mem_cons.mpr ⟨⟨Or.inl q309, rfl⟩, List.forall_mem_cons.mpr ⟨⟨Or.inl q311, rfl⟩, List.forall_mem_cons.mpr ⟨⟨Or.inl q347, rfl⟩, List.forall_mem_cons.mpr ⟨⟨Or.inl q348, rfl⟩, List.forall_mem_cons.mpr ⟨⟨Or.inl q159, rfl⟩, List.forall_mem_cons.mpr ⟨⟨Or.inl q160, rfl⟩, List.forall_mem_cons.mpr ⟨⟨Or.inl q290, rfl⟩, List.forall_mem_cons.mpr ⟨⟨Or.inl q295, rfl⟩, List.forall_mem_cons.mpr ⟨⟨Or.inl q307, rfl⟩, List.forall_mem_cons.mpr ⟨⟨Or.inl q314, rfl⟩, List.forall_mem_cons.mpr ⟨⟨Or.inl q340, rfl⟩, List.forall_mem_cons.mpr ⟨⟨Or.inl q315, rfl⟩, List.forall_mem_cons.mpr ⟨⟨Or.inl q341, rfl⟩, List.forall_mem_cons.mpr ⟨⟨Or.inl q316, rfl⟩, List.forall_mem_cons.mpr ⟨⟨Or.inl q342, rfl⟩, List.forall_mem_cons.mpr ⟨⟨Or.inl q291, rfl⟩, List.forall_mem_cons.mpr ⟨⟨Or.inl q293, rfl⟩, List.forall_mem_cons.mpr ⟨⟨Or.inl q343, rfl⟩, List.forall_mem_cons.mpr ⟨⟨Or.inl q1134, rfl⟩, List.forall_mem_cons.mpr ⟨⟨Or.inl q1135, rfl⟩, List.forall_mem_cons.mpr ⟨⟨Or.inl q1136, rfl⟩, List.forall_mem_cons.mpr ⟨⟨Or.inl q379, rfl⟩, List.forall_mem_cons.mpr ⟨⟨Or.inr ⟨q333, rfl⟩, rfl⟩, List.forall_mem_cons.mpr ⟨⟨Or.inl q379, rfl⟩, List.forall_mem_cons.mpr ⟨⟨Or.inl q380, rfl⟩, List.forall_mem_cons.mpr ⟨⟨Or.inl q381, rfl⟩, List.forall_mem_cons.mpr ⟨⟨Or.inl q382, rfl⟩, List.forall_mem_cons.mpr ⟨⟨Or.inr ⟨q335, rfl⟩, rfl⟩, List.forall_mem_cons.mpr ⟨⟨Or.inl q382, rfl⟩, List.forall_mem_cons.mpr ⟨⟨Or.inl q383, rfl⟩, List.forall_mem_cons.mpr ⟨⟨Or.inl q384, rfl⟩, List.forall_mem_cons.mpr ⟨⟨Or.inl q347, rfl⟩, List.forall_mem_cons.mpr ⟨⟨Or.inr ⟨q337, rfl⟩, rfl⟩, List.forall_mem_cons.mpr ⟨⟨Or.inl q1133, rfl⟩, List.forall_mem_cons.mpr ⟨⟨Or.inl q1125, rfl⟩, List.forall_mem_cons.mpr ⟨⟨Or.inr ⟨q1126, rfl⟩, rfl⟩, List.forall_mem_cons.mpr ⟨⟨Or.inl q1127, rfl⟩, List.forall_mem_cons.mpr ⟨⟨Or.inl q302, rfl⟩, List.forall_mem_cons.mpr ⟨⟨Or.inl q1128, rfl⟩, List.forall_mem_cons.mpr ⟨⟨Or.inl q1129, rfl⟩, List.forall_mem_cons.mpr ⟨⟨Or.inl q1130, rfl⟩, List.forall_mem_cons.mpr ⟨⟨Or.inl q1131, rfl⟩, List.forall_mem_cons.mpr ⟨⟨Or.inl q312, rfl⟩, List.forall_mem_cons.mpr ⟨⟨Or.inl q344, rfl⟩, List.forall_mem_cons.mpr ⟨⟨Or.inl q1132, rfl⟩, fun _ h => absurd h List.not_mem_nil⟩⟩⟩⟩⟩⟩⟩⟩⟩⟩⟩⟩⟩⟩⟩⟩⟩⟩⟩⟩⟩⟩⟩⟩⟩⟩⟩⟩⟩⟩⟩⟩⟩⟩⟩⟩⟩⟩⟩⟩⟩⟩⟩⟩⟩⟩⟩⟩⟩
theorem lk_X1_72 : zw_LS "MultipoleLine" 72 yX1_checkState cX1_checkState 1 (Option.none : Option Jvm.ClassFile.FieldType) 1 := fun R s args Z rm hts hK hR => va_cwS 1 hts (lw_S q1121 q1122 q104 q1123) rfl rfl rfl (by decide +kernel) hR
theorem lk_X1_76 : zw_LV [1] "MultipoleLine" "MultipoleLine" 76 yX1_loaded cX1_loaded 1 (Option.some (Jvm.ClassFile.FieldType.object "MultipoleLine$Line")) 0 := ⟨by
  intro ci hci
  simp only [List.mem_cons, List.not_mem_nil, or_false] at hci
  subst hci
  exact ⟨_, rfl, rfl⟩, fun R s args Z rm hts hK hR => cwV 0 hts (lw_V q1117 q1119 qs15 q104 q1120) rfl rfl rfl (by decide +kernel) hR⟩
theorem lk_X4_82 : zw_LSN "MultipoleLine$Line" 82 "MultipoleLine" yX1_flag cX1_flag 1 (Option.some Jvm.ClassFile.FieldType.int) 1 := fun R s args Z rm hts hK hR => ⟨va_cnB 1 hts (lw_meth q1145) rfl rfl rfl (hK.2.1 _ q1143 rfl) (hts _ q104) (by decide +kernel) hR, hts _ q1144, trivial⟩
theorem lk_X1_142 : zw_LV [2] "MultipoleLine$Line" "MultipoleLine" 142 yX4_freeMany cX4_freeMany 3 (Option.some Jvm.ClassFile.FieldType.int) 0 := ⟨by
  intro ci hci
  simp only [List.mem_cons, List.not_mem_nil, or_false] at hci
  subst hci
  exact ⟨_, rfl, rfl⟩, fun R s args Z rm hts hK hR => cwV 0 hts (lw_V q1139 q1140 q1141 q118 q1142) rfl rfl rfl (by decide +kernel) hR⟩
theorem lk_X1_145 : zw_LV [2] "MultipoleLine$Line" "MultipoleLine" 145 yX4_number cX4_number 2 (Option.some Jvm.ClassFile.FieldType.int) 1 := ⟨by
  intro ci hci
  simp only [List.mem_cons, List.not_mem_nil, or_false] at hci
  subst hci
  exact ⟨_, rfl, rfl⟩, fun R s args Z rm hts hK hR => cwV 1 hts (lw_V q1146 q1147 q1148 q118 q1149) rfl rfl rfl (by decide +kernel) hR⟩
theorem lf_X4_89 : zw_F "MultipoleLine$Line" 89 [6, 7] 1 ("MultipoleLine$Body", "charge", "I", false) := ⟨Or.inr ⟨"MultipoleLine$Body", "MultipoleLine", q952, Or.inl rfl⟩, by
  intro ci hci
  simp only [List.mem_cons, List.not_mem_nil, or_false] at hci
  rcases hci with rfl | rfl
  · exact ⟨_, rfl, by decide, rfl⟩
  · exact ⟨_, rfl, by decide, rfl⟩⟩
theorem lk_X1_152 : zw_LV [2] "MultipoleLine$Line" "MultipoleLine" 152 yX4_charges cX4_charges 3 (Option.some Jvm.ClassFile.FieldType.int) 0 := ⟨by
  intro ci hci
  simp only [List.mem_cons, List.not_mem_nil, or_false] at hci
  subst hci
  exact ⟨_, rfl, rfl⟩, fun R s args Z rm hts hK hR => cwV 0 hts (lw_V q1150 q1151 q1152 q118 q1153) rfl rfl rfl (by decide +kernel) hR⟩
theorem lk_X4_92 : zw_LS "MultipoleLine$Line" 92 yJ14_abs cJ14_abs 1 (Option.some Jvm.ClassFile.FieldType.int) 1 := fun R s args Z rm hts hK hR => va_cwS 1 hts (lw_S q1158 q1159 q123 q1160) rfl rfl rfl (by decide +kernel) hR
theorem lk_X1_155 : zw_LV [2] "MultipoleLine$Line" "MultipoleLine" 155 yX4_weights cX4_weights 3 (Option.some Jvm.ClassFile.FieldType.int) 0 := ⟨by
  intro ci hci
  simp only [List.mem_cons, List.not_mem_nil, or_false] at hci
  subst hci
  exact ⟨_, rfl, rfl⟩, fun R s args Z rm hts hK hR => cwV 0 hts (lw_V q1154 q1155 q1156 q118 q1157) rfl rfl rfl (by decide +kernel) hR⟩
theorem lk_J25_35 : zw_LI "java/util/BitSet" 35 yJ3_init cJ3_init 1 (Option.none : Option Jvm.ClassFile.FieldType) 0 := fun R s args Z rm hts hK hR => cwI 0 hts (lw_meth q189) rfl rfl rfl (hts _ q108) (hts _ q1203) (hts _ q188) rfl (by decide +kernel) hR
theorem lk_J25_38 : zw_LV [10] "java/lang/StringBuilder" "java/util/BitSet" 38 yJ3_append_3 cJ3_append_3 2 (Option.some (Jvm.ClassFile.FieldType.object "java/lang/StringBuilder")) 1 := ⟨by
  intro ci hci
  simp only [List.mem_cons, List.not_mem_nil, or_false] at hci
  subst hci
  exact ⟨_, rfl, rfl⟩, fun R s args Z rm hts hK hR => cwV 1 hts (lw_V q1205 q697 q698 q108 q699) rfl rfl rfl (by decide +kernel) hR⟩
theorem lk_J25_42 : zw_LV [10] "java/lang/StringBuilder" "java/util/BitSet" 42 yJ3_append_2 cJ3_append_2 2 (Option.some (Jvm.ClassFile.FieldType.object "java/lang/StringBuilder")) 1 := ⟨by
  intro ci hci
  simp only [List.mem_cons, List.not_mem_nil, or_false] at hci
  subst hci
  exact ⟨_, rfl, rfl⟩, fun R s args Z rm hts hK hR => cwV 1 hts (lw_V q1206 q662 q663 q108 q664) rfl rfl rfl (by decide +kernel) hR⟩
theorem lk_J25_45 : zw_LV [10] "java/lang/StringBuilder" "java/util/BitSet" 45 yJ3_toString cJ3_toString 1 (Option.some (Jvm.ClassFile.FieldType.object "java/lang/String")) 0 := ⟨by
  intro ci hci
  simp only [List.mem_cons, List.not_mem_nil, or_false] at hci
  subst hci
  exact ⟨_, rfl, rfl⟩, fun R s args Z rm hts hK hR => cwV 0 hts (lw_V q1207 q616 q617 q108 q618) rfl rfl rfl (by decide +kernel) hR⟩
theorem lk_J25_52 : zw_LS "java/util/BitSet" 52 yJ25_wordIndex cJ25_wordIndex 1 (Option.some Jvm.ClassFile.FieldType.int) 1 := fun R s args Z rm hts hK hR => va_cwS 1 hts (lw_S q1175 q1176 q139 q1177) rfl rfl rfl (by decide +kernel) hR
theorem lf_J25_11 : zw_F "java/util/BitSet" 11 [16] 0 ("java/util/BitSet", "words", "[J", false) := ⟨Or.inl ⟨"java/util/BitSet", q1178, Or.inl rfl⟩, by
  intro ci hci
  simp only [List.mem_cons, List.not_mem_nil, or_false] at hci
  subst hci
  exact ⟨_, rfl, by decide, rfl⟩⟩
theorem lk_J25_27 : zw_LV [16] "java/util/BitSet" "java/util/BitSet" 27 yJ25_initWords cJ25_initWords 2 (Option.none : Option Jvm.ClassFile.FieldType) 1 := ⟨by
  intro ci hci
  simp only [List.mem_cons, List.not_mem_nil, or_false] at hci
  subst hci
  exact ⟨_, rfl, rfl⟩, fun R s args Z rm hts hK hR => cwV 1 hts (lw_V q1171 q1173 qs16 q139 q1174) rfl rfl rfl (by decide +kernel) hR⟩
theorem lf_J25_7 : zw_F "java/util/BitSet" 7 [16] 1 ("java/util/BitSet", "wordsInUse", "I", false) := ⟨Or.inl ⟨"java/util/BitSet", q1179, Or.inl rfl⟩, by
  intro ci hci
  simp only [List.mem_cons, List.not_mem_nil, or_false] at hci
  subst hci
  exact ⟨_, rfl, by decide, rfl⟩⟩
theorem lf_J25_24 : zw_F "java/util/BitSet" 24 [16] 2 ("java/util/BitSet", "sizeIsSticky", "Z", false) := ⟨Or.inl ⟨"java/util/BitSet", q1180, Or.inl rfl⟩, by
  intro ci hci
  simp only [List.mem_cons, List.not_mem_nil, or_false] at hci
  subst hci
  exact ⟨_, rfl, by decide, rfl⟩⟩
theorem lk_X4_112 : zw_LI "MultipoleLine$Line" 112 yJ25_init cJ25_init 2 (Option.none : Option Jvm.ClassFile.FieldType) 1 := fun R s args Z rm hts hK hR => cwI 1 hts (lw_meth q1169) rfl rfl rfl (hts _ q139) (hts _ q1167) (hts _ q1168) rfl (by decide +kernel) hR
theorem lk_X4_98 : zw_LV [2] "MultipoleLine$Line" "MultipoleLine$Line" 98 yX4_around cX4_around 3 (Option.some (Jvm.ClassFile.FieldType.object "MultipoleLine$Box")) 2 := ⟨by
  intro ci hci
  simp only [List.mem_cons, List.not_mem_nil, or_false] at hci
  subst hci
  exact ⟨_, rfl, rfl⟩, fun R s args Z rm hts hK hR => cwV 2 hts (lw_V q1193 q1194 q1195 q118 q1196) rfl rfl rfl (by decide +kernel) hR⟩
theorem lk_X4_115 : zw_LV [2] "MultipoleLine$Line" "MultipoleLine$Line" 115 yX4_leaf cX4_leaf 2 (Option.some (Jvm.ClassFile.FieldType.object "MultipoleLine$Box")) 1 := ⟨by
  intro ci hci
  simp only [List.mem_cons, List.not_mem_nil, or_false] at hci
  subst hci
  exact ⟨_, rfl, rfl⟩, fun R s args Z rm hts hK hR => cwV 1 hts (lw_V q1189 q1190 q1191 q118 q1192) rfl rfl rfl (by decide +kernel) hR⟩
theorem lk_J9_7 : zw_LI "java/lang/IndexOutOfBoundsException" 7 yJ8_init cJ8_init 2 (Option.none : Option Jvm.ClassFile.FieldType) 1 := fun R s args Z rm hts hK hR => cwI 1 hts (lw_meth q283) rfl rfl rfl (hts _ q114) (hts _ q281) (hts _ q282) rfl (by decide +kernel) hR
theorem lk_J25_146 : zw_LI "java/util/BitSet" 146 yJ9_init cJ9_init 2 (Option.none : Option Jvm.ClassFile.FieldType) 1 := fun R s args Z rm hts hK hR => cwI 1 hts (lw_meth q280) rfl rfl rfl (hts _ q115) (hts _ q1208) (hts _ q279) rfl (by decide +kernel) hR
theorem lk_J25_133 : zw_LS "java/util/BitSet" 133 yJ14_max cJ14_max 2 (Option.some Jvm.ClassFile.FieldType.int) 2 := fun R s args Z rm hts hK hR => va_cwS 2 hts (lw_S q1217 q539 q123 q540) rfl rfl rfl (by decide +kernel) hR
theorem lk_J25_59 : zw_LS "java/util/BitSet" 59 yJ15_copyOf_4 cJ15_copyOf_4 3 (Option.some (Jvm.ClassFile.FieldType.array Jvm.ClassFile.FieldType.long)) 2 := fun R s args Z rm hts hK hR => va_cwS 2 hts (lw_S q1218 q1219 q124 q1220) rfl rfl rfl (by decide +kernel) hR
theorem lk_J25_139 : zw_LV [16] "java/util/BitSet" "java/util/BitSet" 139 yJ25_ensureCapacity cJ25_ensureCapacity 3 (Option.none : Option Jvm.ClassFile.FieldType) 1 := ⟨by
  intro ci hci
  simp only [List.mem_cons, List.not_mem_nil, or_false] at hci
  subst hci
  exact ⟨_, rfl, rfl⟩, fun R s args Z rm hts hK hR => cwV 1 hts (lw_V q1213 q1215 qs18 q139 q1216) rfl rfl rfl (by decide +kernel) hR⟩
theorem lk_J25_155 : zw_LV [16] "java/util/BitSet" "java/util/BitSet" 155 yJ25_expandTo cJ25_expandTo 3 (Option.none : Option Jvm.ClassFile.FieldType) 1 := ⟨by
  intro ci hci
  simp only [List.mem_cons, List.not_mem_nil, or_false] at hci
  subst hci
  exact ⟨_, rfl, rfl⟩, fun R s args Z rm hts hK hR => cwV 1 hts (lw_V q1209 q1211 qs17 q139 q1212) rfl rfl rfl (by decide +kernel) hR⟩
theorem lk_J25_56 : zw_LV [16] "java/util/BitSet" "java/util/BitSet" 56 yJ25_checkInvariants cJ25_checkInvariants 1 (Option.none : Option Jvm.ClassFile.FieldType) 0 := ⟨by
  intro ci hci
  simp only [List.mem_cons, List.not_mem_nil, or_false] at hci
  subst hci
  exact ⟨_, rfl, rfl⟩, fun R s args Z rm hts hK hR => cwV 0 hts (lw_V q1226 q1228 qs19 q139 q1229) rfl rfl rfl (by decide +kernel) hR⟩
theorem lk_X4_122 : zw_LV [16] "java/util/BitSet" "MultipoleLine$Line" 122 yJ25_set cJ25_set 3 (Option.none : Option Jvm.ClassFile.FieldType) 1 := ⟨by
  intro ci hci
  simp only [List.mem_cons, List.not_mem_nil, or_false] at hci
  subst hci
  exact ⟨_, rfl, rfl⟩, fun R s args Z rm hts hK hR => cwV 1 hts (lw_V q1197 q1198 q1199 q139 q1200) rfl rfl rfl (by decide +kernel) hR⟩
theorem ln_X4_110 : zw_N "MultipoleLine$Line" 110 "java/util/BitSet" 16 3 [.null, .int 0, .int 0] := ⟨by decide, ⟨_, rfl⟩, q1165, q1166, q139, fun j hj => match j, hj with
  | 0, _ => rfl
  | 1, _ => rfl
  | 2, _ => rfl
  | j + 3, hj => absurd hj (by omega)⟩
theorem lf_X4_119 : zw_F "MultipoleLine$Line" 119 [4] 1 ("MultipoleLine$Box", "number", "I", true) := ⟨Or.inr ⟨"MultipoleLine$Box", "MultipoleLine", q442, Or.inl rfl⟩, by
  intro ci hci
  simp only [List.mem_cons, List.not_mem_nil, or_false] at hci
  subst hci
  exact ⟨_, rfl, by decide, rfl⟩⟩
theorem lk_X1_158 : zw_LV [2] "MultipoleLine$Line" "MultipoleLine" 158 yX4_leaves cX4_leaves 3 (Option.some (Jvm.ClassFile.FieldType.object "java/util/BitSet")) 0 := ⟨by
  intro ci hci
  simp only [List.mem_cons, List.not_mem_nil, or_false] at hci
  subst hci
  exact ⟨_, rfl, rfl⟩, fun R s args Z rm hts hK hR => cwV 0 hts (lw_V q1161 q1162 q1163 q118 q1164) rfl rfl rfl (by decide +kernel) hR⟩
theorem lk_J25_196 : zw_LS "java/util/BitSet" 196 yJ26_bitCount cJ26_bitCount 2 (Option.some Jvm.ClassFile.FieldType.int) 1 := fun R s args Z rm hts hK hR => va_cwS 1 hts (lw_S q1236 q1237 q140 q1238) rfl rfl rfl (by decide +kernel) hR
theorem lk_X1_162 : zw_LV [16] "java/util/BitSet" "MultipoleLine" 162 yJ25_cardinality cJ25_cardinality 3 (Option.some Jvm.ClassFile.FieldType.int) 0 := ⟨by
  intro ci hci
  simp only [List.mem_cons, List.not_mem_nil, or_false] at hci
  subst hci
  exact ⟨_, rfl, rfl⟩, fun R s args Z rm hts hK hR => cwV 0 hts (lw_V q1232 q1233 q1234 q139 q1235) rfl rfl rfl (by decide +kernel) hR⟩
theorem lk_X1_88 : zw_LV [2] "MultipoleLine$Line" "MultipoleLine" 88 yX4_at cX4_at 2 (Option.some (Jvm.ClassFile.FieldType.object "MultipoleLine$Body")) 1 := ⟨by
  intro ci hci
  simp only [List.mem_cons, List.not_mem_nil, or_false] at hci
  subst hci
  exact ⟨_, rfl, rfl⟩, fun R s args Z rm hts hK hR => cwV 1 hts (lw_V q1245 q883 q884 q118 q885) rfl rfl rfl (by decide +kernel) hR⟩
theorem lf_X1_139 : zw_F "MultipoleLine" 139 [6, 7] 0 ("MultipoleLine$Body", "x", "I", false) := ⟨Or.inr ⟨"MultipoleLine$Body", "MultipoleLine", q950, Or.inl rfl⟩, by
  intro ci hci
  simp only [List.mem_cons, List.not_mem_nil, or_false] at hci
  rcases hci with rfl | rfl
  · exact ⟨_, rfl, by decide, rfl⟩
  · exact ⟨_, rfl, by decide, rfl⟩⟩
theorem lk_X1_170 : zw_LS "MultipoleLine" 170 yX1_extreme cX1_extreme 5 (Option.some Jvm.ClassFile.FieldType.int) 2 := fun R s args Z rm hts hK hR => va_cwS 2 hts (lw_S q1242 q1243 q104 q1244) rfl rfl rfl (by decide +kernel) hR
theorem lf_X1_149 : zw_F "MultipoleLine" 149 [2] 5 ("MultipoleLine$Line", "time", "I", false) := ⟨Or.inr ⟨"MultipoleLine$Line", "MultipoleLine", q470, Or.inl rfl⟩, by
  intro ci hci
  simp only [List.mem_cons, List.not_mem_nil, or_false] at hci
  subst hci
  exact ⟨_, rfl, by decide, rfl⟩⟩
theorem lf_X1_167 : zw_F "MultipoleLine" 167 [2] 6 ("MultipoleLine$Line", "moves", "I", false) := ⟨Or.inr ⟨"MultipoleLine$Line", "MultipoleLine", q472, Or.inl rfl⟩, by
  intro ci hci
  simp only [List.mem_cons, List.not_mem_nil, or_false] at hci
  subst hci
  exact ⟨_, rfl, by decide, rfl⟩⟩
theorem lf_X1_101 : zw_F "MultipoleLine" 101 [2] 2 ("MultipoleLine$Line", "levels", "I", false) := ⟨Or.inr ⟨"MultipoleLine$Line", "MultipoleLine", q465, Or.inl rfl⟩, by
  intro ci hci
  simp only [List.mem_cons, List.not_mem_nil, or_false] at hci
  subst hci
  exact ⟨_, rfl, by decide, rfl⟩⟩
theorem lk_X1_174 : zw_LV [1] "MultipoleLine" "MultipoleLine" 174 yX1_bodyOf cX1_bodyOf 2 (Option.some (Jvm.ClassFile.FieldType.object "MultipoleLine$Body")) 1 := ⟨by
  intro ci hci
  simp only [List.mem_cons, List.not_mem_nil, or_false] at hci
  subst hci
  exact ⟨_, rfl, rfl⟩, fun R s args Z rm hts hK hR => cwV 1 hts (lw_V q1253 q1255 qs20 q104 q1256) rfl rfl rfl (by decide +kernel) hR⟩
theorem lk_X1_180 : zw_LS "MultipoleLine" 180 yX1_flag cX1_flag 1 (Option.some Jvm.ClassFile.FieldType.int) 1 := fun R s args Z rm hts hK hR => va_cwS 1 hts (lw_S q1257 q1144 q104 q1145) rfl rfl rfl (by decide +kernel) hR
theorem lk_X1_184 : zw_LV [2] "MultipoleLine$Line" "MultipoleLine" 184 yX4_leaf cX4_leaf 2 (Option.some (Jvm.ClassFile.FieldType.object "MultipoleLine$Box")) 1 := ⟨by
  intro ci hci
  simp only [List.mem_cons, List.not_mem_nil, or_false] at hci
  subst hci
  exact ⟨_, rfl, rfl⟩, fun R s args Z rm hts hK hR => cwV 1 hts (lw_V q1258 q1190 q1191 q118 q1192) rfl rfl rfl (by decide +kernel) hR⟩
theorem lf_X1_177 : zw_F "MultipoleLine" 177 [6, 7] 1 ("MultipoleLine$Body", "charge", "I", false) := ⟨Or.inr ⟨"MultipoleLine$Body", "MultipoleLine", q953, Or.inl rfl⟩, by
  intro ci hci
  simp only [List.mem_cons, List.not_mem_nil, or_false] at hci
  rcases hci with rfl | rfl
  · exact ⟨_, rfl, by decide, rfl⟩
  · exact ⟨_, rfl, by decide, rfl⟩⟩
theorem lf_X1_188 : zw_F "MultipoleLine" 188 [4] 1 ("MultipoleLine$Box", "number", "I", true) := ⟨Or.inr ⟨"MultipoleLine$Box", "MultipoleLine", q443, Or.inl rfl⟩, by
  intro ci hci
  simp only [List.mem_cons, List.not_mem_nil, or_false] at hci
  subst hci
  exact ⟨_, rfl, by decide, rfl⟩⟩
theorem lf_X1_192 : zw_F "MultipoleLine" 192 [6, 7] 2 ("MultipoleLine$Body", "moves", "I", false) := ⟨Or.inr ⟨"MultipoleLine$Body", "MultipoleLine", q955, Or.inl rfl⟩, by
  intro ci hci
  simp only [List.mem_cons, List.not_mem_nil, or_false] at hci
  rcases hci with rfl | rfl
  · exact ⟨_, rfl, by decide, rfl⟩
  · exact ⟨_, rfl, by decide, rfl⟩⟩
theorem lk_X1_94 : zw_LS "MultipoleLine" 94 yX1_isPoint cX1_isPoint 1 (Option.some Jvm.ClassFile.FieldType.boolean) 1 := fun R s args Z rm hts hK hR => va_cwS 1 hts (lw_S q1270 q1271 q104 q1272) rfl rfl rfl (by decide +kernel) hR
theorem lk_X1_98 : zw_LS "MultipoleLine" 98 yX1_checkArgument cX1_checkArgument 1 (Option.none : Option Jvm.ClassFile.FieldType) 1 := fun R s args Z rm hts hK hR => va_cwS 1 hts (lw_S q1274 q1275 q104 q1276) rfl rfl rfl (by decide +kernel) hR
theorem lk_X1_193 : zw_LV [1] "MultipoleLine" "MultipoleLine" 193 yX1_at cX1_at 3 (Option.some (Jvm.ClassFile.FieldType.object "MultipoleLine$Line")) 1 := ⟨by
  intro ci hci
  simp only [List.mem_cons, List.not_mem_nil, or_false] at hci
  subst hci
  exact ⟨_, rfl, rfl⟩, fun R s args Z rm hts hK hR => cwV 1 hts (lw_V q1266 q1268 qs21 q104 q1269) rfl rfl rfl (by decide +kernel) hR⟩
theorem lk_X1_104 : zw_LV [2] "MultipoleLine$Line" "MultipoleLine" 104 yX4_box cX4_box 3 (Option.some (Jvm.ClassFile.FieldType.object "MultipoleLine$Box")) 2 := ⟨by
  intro ci hci
  simp only [List.mem_cons, List.not_mem_nil, or_false] at hci
  subst hci
  exact ⟨_, rfl, rfl⟩, fun R s args Z rm hts hK hR => cwV 2 hts (lw_V q1288 q1289 q1290 q118 q1291) rfl rfl rfl (by decide +kernel) hR⟩
theorem lk_X1_196 : zw_LV [1] "MultipoleLine" "MultipoleLine" 196 yX1_boxOf cX1_boxOf 3 (Option.some (Jvm.ClassFile.FieldType.object "MultipoleLine$Box")) 2 := ⟨by
  intro ci hci
  simp only [List.mem_cons, List.not_mem_nil, or_false] at hci
  subst hci
  exact ⟨_, rfl, rfl⟩, fun R s args Z rm hts hK hR => cwV 2 hts (lw_V q1284 q1286 qs22 q104 q1287) rfl rfl rfl (by decide +kernel) hR⟩
theorem lk_X1_199 : zw_LV [4] "MultipoleLine$Box" "MultipoleLine" 199 yX5_first cX5_first 1 (Option.some Jvm.ClassFile.FieldType.int) 0 := ⟨by
  intro ci hci
  simp only [List.mem_cons, List.not_mem_nil, or_false] at hci
  subst hci
  exact ⟨_, rfl, rfl⟩, fun R s args Z rm hts hK hR => cwV 0 hts (lw_V q1292 q1293 q1294 q121 q1295) rfl rfl rfl (by decide +kernel) hR⟩
theorem lk_X4_102 : zw_LV [4] "MultipoleLine$Box" "MultipoleLine$Line" 102 yX5_has cX5_has 2 (Option.some Jvm.ClassFile.FieldType.boolean) 1 := ⟨by
  intro ci hci
  simp only [List.mem_cons, List.not_mem_nil, or_false] at hci
  subst hci
  exact ⟨_, rfl, rfl⟩, fun R s args Z rm hts hK hR => cwV 1 hts (lw_V q1300 q1301 q1302 q121 q1303) rfl rfl rfl (by decide +kernel) hR⟩
theorem lk_X1_208 : zw_LV [2] "MultipoleLine$Line" "MultipoleLine" 208 yX4_bodiesIn cX4_bodiesIn 4 (Option.some Jvm.ClassFile.FieldType.int) 1 := ⟨by
  intro ci hci
  simp only [List.mem_cons, List.not_mem_nil, or_false] at hci
  subst hci
  exact ⟨_, rfl, rfl⟩, fun R s args Z rm hts hK hR => cwV 1 hts (lw_V q1296 q1297 q1298 q118 q1299) rfl rfl rfl (by decide +kernel) hR⟩
theorem lk_X4_128 : zw_LS "MultipoleLine$Line" 128 yX4_raised cX4_raised 6 (Option.some Jvm.ClassFile.FieldType.long) 2 := fun R s args Z rm hts hK hR => va_cwS 2 hts (lw_S q1312 q1313 q118 q1314) rfl rfl rfl (by decide +kernel) hR
theorem lf_X4_125 : zw_F "MultipoleLine$Line" 125 [4] 3 ("MultipoleLine$Box", "centre", "I", true) := ⟨Or.inr ⟨"MultipoleLine$Box", "MultipoleLine", q448, Or.inl rfl⟩, by
  intro ci hci
  simp only [List.mem_cons, List.not_mem_nil, or_false] at hci
  subst hci
  exact ⟨_, rfl, by decide, rfl⟩⟩
theorem lk_X4_106 : zw_LV [2] "MultipoleLine$Line" "MultipoleLine$Line" 106 yX4_moment cX4_moment 7 (Option.some Jvm.ClassFile.FieldType.long) 2 := ⟨by
  intro ci hci
  simp only [List.mem_cons, List.not_mem_nil, or_false] at hci
  subst hci
  exact ⟨_, rfl, rfl⟩, fun R s args Z rm hts hK hR => cwV 2 hts (lw_V q1308 q1309 q1310 q118 q1311) rfl rfl rfl (by decide +kernel) hR⟩
theorem lk_X1_212 : zw_LV [2] "MultipoleLine$Line" "MultipoleLine" 212 yX4_chargesIn cX4_chargesIn 2 (Option.some Jvm.ClassFile.FieldType.int) 1 := ⟨by
  intro ci hci
  simp only [List.mem_cons, List.not_mem_nil, or_false] at hci
  subst hci
  exact ⟨_, rfl, rfl⟩, fun R s args Z rm hts hK hR => cwV 1 hts (lw_V q1304 q1305 q1306 q118 q1307) rfl rfl rfl (by decide +kernel) hR⟩
theorem lk_X1_215 : zw_LV [2] "MultipoleLine$Line" "MultipoleLine" 215 yX4_weightsIn cX4_weightsIn 4 (Option.some Jvm.ClassFile.FieldType.int) 1 := ⟨by
  intro ci hci
  simp only [List.mem_cons, List.not_mem_nil, or_false] at hci
  subst hci
  exact ⟨_, rfl, rfl⟩, fun R s args Z rm hts hK hR => cwV 1 hts (lw_V q1315 q1316 q1317 q118 q1318) rfl rfl rfl (by decide +kernel) hR⟩
theorem lf_X1_202 : zw_F "MultipoleLine" 202 [4] 2 ("MultipoleLine$Box", "width", "I", true) := ⟨Or.inr ⟨"MultipoleLine$Box", "MultipoleLine", q445, Or.inl rfl⟩, by
  intro ci hci
  simp only [List.mem_cons, List.not_mem_nil, or_false] at hci
  subst hci
  exact ⟨_, rfl, by decide, rfl⟩⟩
theorem lf_X1_205 : zw_F "MultipoleLine" 205 [4] 3 ("MultipoleLine$Box", "centre", "I", true) := ⟨Or.inr ⟨"MultipoleLine$Box", "MultipoleLine", q449, Or.inl rfl⟩, by
  intro ci hci
  simp only [List.mem_cons, List.not_mem_nil, or_false] at hci
  subst hci
  exact ⟨_, rfl, by decide, rfl⟩⟩
theorem lk_X1_218 : zw_LV [2] "MultipoleLine$Line" "MultipoleLine" 218 yX4_around cX4_around 3 (Option.some (Jvm.ClassFile.FieldType.object "MultipoleLine$Box")) 2 := ⟨by
  intro ci hci
  simp only [List.mem_cons, List.not_mem_nil, or_false] at hci
  subst hci
  exact ⟨_, rfl, rfl⟩, fun R s args Z rm hts hK hR => cwV 2 hts (lw_V q1326 q1194 q1195 q118 q1196) rfl rfl rfl (by decide +kernel) hR⟩
theorem lk_J26_311 : zw_LS "java/lang/Long" 311 yJ20_numberOfTrailingZeros cJ20_numberOfTrailingZeros 2 (Option.some Jvm.ClassFile.FieldType.int) 1 := fun R s args Z rm hts hK hR => va_cwS 1 hts (lw_S q1343 q1344 q130 q1345) rfl rfl rfl (by decide +kernel) hR
theorem lk_J25_182 : zw_LS "java/util/BitSet" 182 yJ26_numberOfTrailingZeros cJ26_numberOfTrailingZeros 3 (Option.some Jvm.ClassFile.FieldType.int) 1 := fun R s args Z rm hts hK hR => va_cwS 1 hts (lw_S q1340 q1341 q140 q1342) rfl rfl rfl (by decide +kernel) hR
theorem lk_X1_221 : zw_LV [16] "java/util/BitSet" "MultipoleLine" 221 yJ25_nextClearBit cJ25_nextClearBit 5 (Option.some Jvm.ClassFile.FieldType.int) 1 := ⟨by
  intro ci hci
  simp only [List.mem_cons, List.not_mem_nil, or_false] at hci
  subst hci
  exact ⟨_, rfl, rfl⟩, fun R s args Z rm hts hK hR => cwV 1 hts (lw_V q1334 q1335 q1336 q139 q1337) rfl rfl rfl (by decide +kernel) hR⟩
theorem lk_X1_224 : zw_LV [16] "java/util/BitSet" "MultipoleLine" 224 yJ25_nextSetBit cJ25_nextSetBit 5 (Option.some Jvm.ClassFile.FieldType.int) 1 := ⟨by
  intro ci hci
  simp only [List.mem_cons, List.not_mem_nil, or_false] at hci
  subst hci
  exact ⟨_, rfl, rfl⟩, fun R s args Z rm hts hK hR => cwV 1 hts (lw_V q1354 q1355 q1356 q139 q1357) rfl rfl rfl (by decide +kernel) hR⟩
theorem lk_X1_229 : zw_LS "MultipoleLine" 229 yX1_checkOrder cX1_checkOrder 1 (Option.none : Option Jvm.ClassFile.FieldType) 1 := fun R s args Z rm hts hK hR => va_cwS 1 hts (lw_S q1365 q1366 q104 q1367) rfl rfl rfl (by decide +kernel) hR
theorem lk_X1_233 : zw_LV [2] "MultipoleLine$Line" "MultipoleLine" 233 yX4_moment cX4_moment 7 (Option.some Jvm.ClassFile.FieldType.long) 2 := ⟨by
  intro ci hci
  simp only [List.mem_cons, List.not_mem_nil, or_false] at hci
  subst hci
  exact ⟨_, rfl, rfl⟩, fun R s args Z rm hts hK hR => cwV 2 hts (lw_V q1369 q1309 q1310 q118 q1311) rfl rfl rfl (by decide +kernel) hR⟩
theorem lk_X4_142 : zw_LV [2] "MultipoleLine$Line" "MultipoleLine$Line" 142 yX4_box cX4_box 3 (Option.some (Jvm.ClassFile.FieldType.object "MultipoleLine$Box")) 2 := ⟨by
  intro ci hci
  simp only [List.mem_cons, List.not_mem_nil, or_false] at hci
  subst hci
  exact ⟨_, rfl, rfl⟩, fun R s args Z rm hts hK hR => cwV 2 hts (lw_V q1381 q1289 q1290 q118 q1291) rfl rfl rfl (by decide +kernel) hR⟩
theorem lk_X4_132 : zw_LSN "MultipoleLine$Line" 132 "MultipoleLine" yX1_choose cX1_choose 5 (Option.some Jvm.ClassFile.FieldType.long) 2 := fun R s args Z rm hts hK hR => ⟨va_cnB 2 hts (lw_meth q1388) rfl rfl rfl (hK.2.1 _ q1386 rfl) (hts _ q104) (by decide +kernel) hR, hts _ q1387, trivial⟩
theorem lk_X4_145 : zw_LV [2] "MultipoleLine$Line" "MultipoleLine$Line" 145 yX4_shift cX4_shift 7 (Option.some Jvm.ClassFile.FieldType.long) 3 := ⟨by
  intro ci hci
  simp only [List.mem_cons, List.not_mem_nil, or_false] at hci
  subst hci
  exact ⟨_, rfl, rfl⟩, fun R s args Z rm hts hK hR => cwV 3 hts (lw_V q1382 q1384 qs23 q118 q1385) rfl rfl rfl (by decide +kernel) hR⟩
theorem lf_X4_139 : zw_F "MultipoleLine$Line" 139 [4] 0 ("MultipoleLine$Box", "level", "I", true) := ⟨Or.inr ⟨"MultipoleLine$Box", "MultipoleLine", q439, Or.inl rfl⟩, by
  intro ci hci
  simp only [List.mem_cons, List.not_mem_nil, or_false] at hci
  subst hci
  exact ⟨_, rfl, by decide, rfl⟩⟩
theorem lk_X4_136 : zw_LV [2] "MultipoleLine$Line" "MultipoleLine$Line" 136 yX4_shifted cX4_shifted 3 (Option.some Jvm.ClassFile.FieldType.long) 2 := ⟨by
  intro ci hci
  simp only [List.mem_cons, List.not_mem_nil, or_false] at hci
  subst hci
  exact ⟨_, rfl, rfl⟩, fun R s args Z rm hts hK hR => cwV 2 hts (lw_V q1389 q1378 q1379 q118 q1380) rfl rfl rfl (by decide +kernel) hR⟩
theorem lk_X1_237 : zw_LV [2] "MultipoleLine$Line" "MultipoleLine" 237 yX4_shifted cX4_shifted 3 (Option.some Jvm.ClassFile.FieldType.long) 2 := ⟨by
  intro ci hci
  simp only [List.mem_cons, List.not_mem_nil, or_false] at hci
  subst hci
  exact ⟨_, rfl, rfl⟩, fun R s args Z rm hts hK hR => cwV 2 hts (lw_V q1377 q1378 q1379 q118 q1380) rfl rfl rfl (by decide +kernel) hR⟩
theorem lk_X4_149 : zw_LS "MultipoleLine$Line" 149 yJ14_abs_2 cJ14_abs_2 2 (Option.some Jvm.ClassFile.FieldType.long) 1 := fun R s args Z rm hts hK hR => va_cwS 1 hts (lw_S q1401 q1402 q123 q1403) rfl rfl rfl (by decide +kernel) hR
theorem lk_X1_240 : zw_LV [2] "MultipoleLine$Line" "MultipoleLine" 240 yX4_momentGap cX4_momentGap 9 (Option.some Jvm.ClassFile.FieldType.long) 0 := ⟨by
  intro ci hci
  simp only [List.mem_cons, List.not_mem_nil, or_false] at hci
  subst hci
  exact ⟨_, rfl, rfl⟩, fun R s args Z rm hts hK hR => cwV 0 hts (lw_V q1397 q1398 q1399 q118 q1400) rfl rfl rfl (by decide +kernel) hR⟩
theorem lk_J27_1 : zw_LI "java/util/AbstractSequentialList" 1 yJ11_init cJ11_init 1 (Option.none : Option Jvm.ClassFile.FieldType) 0 := fun R s args Z rm hts hK hR => cwI 0 hts (lw_meth q406) rfl rfl rfl (hts _ q119) (hts _ q1422) (hts _ q405) rfl (by decide +kernel) hR
theorem lk_J28_1 : zw_LI "java/util/LinkedList" 1 yJ27_init cJ27_init 1 (Option.none : Option Jvm.ClassFile.FieldType) 0 := fun R s args Z rm hts hK hR => cwI 0 hts (lw_meth q1421) rfl rfl rfl (hts _ q141) (hts _ q1419) (hts _ q1420) rfl (by decide +kernel) hR
theorem lf_J28_7 : zw_F "java/util/LinkedList" 7 [14] 1 ("java/util/LinkedList", "size", "I", false) := ⟨Or.inl ⟨"java/util/LinkedList", q1423, Or.inl rfl⟩, by
  intro ci hci
  simp only [List.mem_cons, List.not_mem_nil, or_false] at hci
  subst hci
  exact ⟨_, rfl, by decide, rfl⟩⟩
theorem lk_X4_160 : zw_LI "MultipoleLine$Line" 160 yJ28_init cJ28_init 1 (Option.none : Option Jvm.ClassFile.FieldType) 0 := fun R s args Z rm hts hK hR => cwI 0 hts (lw_meth q1418) rfl rfl rfl (hts _ q142) (hts _ q1416) (hts _ q1417) rfl (by decide +kernel) hR
theorem lk_X4_154 : zw_LSN "MultipoleLine$Line" 154 "MultipoleLine" yX1_in cX1_in 6 (Option.some Jvm.ClassFile.FieldType.boolean) 3 := fun R s args Z rm hts hK hR => ⟨va_cnB 3 hts (lw_meth q365) rfl rfl rfl (hK.2.1 _ q1440 rfl) (hts _ q104) (by decide +kernel) hR, hts _ q364, trivial⟩
theorem lk_X4_161 : zw_LV [2] "MultipoleLine$Line" "MultipoleLine$Line" 161 yX4_isNear cX4_isNear 3 (Option.some Jvm.ClassFile.FieldType.boolean) 2 := ⟨by
  intro ci hci
  simp only [List.mem_cons, List.not_mem_nil, or_false] at hci
  subst hci
  exact ⟨_, rfl, rfl⟩, fun R s args Z rm hts hK hR => cwV 2 hts (lw_V q1435 q1436 q1437 q118 q1438) rfl rfl rfl (by decide +kernel) hR⟩
theorem lk_J20_202 : zw_LI "java/lang/Integer" 202 yJ19_init cJ19_init 1 (Option.none : Option Jvm.ClassFile.FieldType) 0 := fun R s args Z rm hts hK hR => cwI 0 hts (lw_meth q1455) rfl rfl rfl (hts _ q129) (hts _ q1453) (hts _ q1454) rfl (by decide +kernel) hR
theorem lf_J20_205 : zw_F "java/lang/Integer" 205 [12, 18] 0 ("java/lang/Integer", "value", "I", true) := ⟨Or.inl ⟨"java/lang/Integer", q1457, Or.inl rfl⟩, by
  intro ci hci
  simp only [List.mem_cons, List.not_mem_nil, or_false] at hci
  rcases hci with rfl | rfl
  · exact ⟨_, rfl, by decide, rfl⟩
  · exact ⟨_, rfl, by decide, rfl⟩⟩
theorem lf_J20_205w : zw_F "java/lang/Integer" 205 [12] 0 ("java/lang/Integer", "value", "I", true) := ⟨lf_J20_205.1, fun ci h => lf_J20_205.2 ci (by revert h; simp; omega)⟩
theorem lk_J20_199 : zw_LI "java/lang/Integer" 199 yJ20_init cJ20_init 2 (Option.none : Option Jvm.ClassFile.FieldType) 1 := fun R s args Z rm hts hK hR => cwI 1 hts (lw_meth q1452) rfl rfl rfl (hts _ q130) (hts _ q1450) (hts _ q1451) rfl (by decide +kernel) hR
theorem ln_J20_1 : zw_N "java/lang/Integer" 1 "java/lang/Integer" 12 1 [.int 0] := ⟨by decide, ⟨_, rfl⟩, q1448, q1449, q130, fun j hj => match j, hj with
  | 0, _ => rfl
  | j + 1, hj => absurd hj (by omega)⟩
theorem lk_X4_165 : zw_LS "MultipoleLine$Line" 165 yJ20_valueOf cJ20_valueOf 1 (Option.some (Jvm.ClassFile.FieldType.object "java/lang/Integer")) 1 := fun R s args Z rm hts hK hR => va_cwS 1 hts (lw_S q1441 q1442 q130 q1443) rfl rfl rfl (by decide +kernel) hR
theorem lf_J23_7 : zw_F "java/util/LinkedList$Node" 7 [13] 0 ("java/util/LinkedList$Node", "item", "Ljava/lang/Object;", false) := ⟨Or.inl ⟨"java/util/LinkedList$Node", q1081, Or.inl rfl⟩, by
  intro ci hci
  simp only [List.mem_cons, List.not_mem_nil, or_false] at hci
  subst hci
  exact ⟨_, rfl, by decide, rfl⟩⟩
theorem lf_J23_13 : zw_F "java/util/LinkedList$Node" 13 [13] 1 ("java/util/LinkedList$Node", "next", "Ljava/util/LinkedList$Node;", false) := ⟨Or.inl ⟨"java/util/LinkedList$Node", q1084, Or.inl rfl⟩, by
  intro ci hci
  simp only [List.mem_cons, List.not_mem_nil, or_false] at hci
  subst hci
  exact ⟨_, rfl, by decide, rfl⟩⟩
theorem lf_J23_17 : zw_F "java/util/LinkedList$Node" 17 [13] 2 ("java/util/LinkedList$Node", "prev", "Ljava/util/LinkedList$Node;", false) := ⟨Or.inl ⟨"java/util/LinkedList$Node", q1087, Or.inl rfl⟩, by
  intro ci hci
  simp only [List.mem_cons, List.not_mem_nil, or_false] at hci
  subst hci
  exact ⟨_, rfl, by decide, rfl⟩⟩
theorem lk_J28_24 : zw_LI "java/util/LinkedList" 24 yJ23_init cJ23_init 4 (Option.none : Option Jvm.ClassFile.FieldType) 3 := fun R s args Z rm hts hK hR => cwI 3 hts (lw_meth q1079) rfl rfl rfl (hts _ q137) (hts _ q1077) (hts _ q1078) rfl (by decide +kernel) hR
theorem lf_J28_27 : zw_F "java/util/LinkedList" 27 [14] 3 ("java/util/LinkedList", "last", "Ljava/util/LinkedList$Node;", false) := ⟨Or.inl ⟨"java/util/LinkedList", q1426, Or.inl rfl⟩, by
  intro ci hci
  simp only [List.mem_cons, List.not_mem_nil, or_false] at hci
  subst hci
  exact ⟨_, rfl, by decide, rfl⟩⟩
theorem ln_J28_22 : zw_N "java/util/LinkedList" 22 "java/util/LinkedList$Node" 13 3 [.null, .null, .null] := ⟨by decide, ⟨_, rfl⟩, q1075, q1076, q137, fun j hj => match j, hj with
  | 0, _ => rfl
  | 1, _ => rfl
  | 2, _ => rfl
  | j + 3, hj => absurd hj (by omega)⟩
theorem lf_J28_36 : zw_F "java/util/LinkedList" 36 [13] 1 ("java/util/LinkedList$Node", "next", "Ljava/util/LinkedList$Node;", false) := ⟨Or.inl ⟨"java/util/LinkedList$Node", q1086, Or.inl rfl⟩, by
  intro ci hci
  simp only [List.mem_cons, List.not_mem_nil, or_false] at hci
  subst hci
  exact ⟨_, rfl, by decide, rfl⟩⟩
theorem lf_J28_33 : zw_F "java/util/LinkedList" 33 [14] 0 ("java/util/AbstractList", "modCount", "I", false) := ⟨Or.inl ⟨"java/util/LinkedList", q420, Or.inr q416⟩, by
  intro ci hci
  simp only [List.mem_cons, List.not_mem_nil, or_false] at hci
  subst hci
  exact ⟨_, rfl, by decide, rfl⟩⟩
theorem lf_J28_18 : zw_F "java/util/LinkedList" 18 [14] 2 ("java/util/LinkedList", "first", "Ljava/util/LinkedList$Node;", false) := ⟨Or.inl ⟨"java/util/LinkedList", q1425, Or.inl rfl⟩, by
  intro ci hci
  simp only [List.mem_cons, List.not_mem_nil, or_false] at hci
  subst hci
  exact ⟨_, rfl, by decide, rfl⟩⟩
theorem lk_J28_57 : zw_LV [14] "java/util/LinkedList" "java/util/LinkedList" 57 yJ28_linkLast cJ28_linkLast 4 (Option.none : Option Jvm.ClassFile.FieldType) 1 := ⟨by
  intro ci hci
  simp only [List.mem_cons, List.not_mem_nil, or_false] at hci
  subst hci
  exact ⟨_, rfl, rfl⟩, fun R s args Z rm hts hK hR => cwV 1 hts (lw_V q1071 q1072 q1073 q142 q1074) rfl rfl rfl (by decide +kernel) hR⟩
theorem lk_X4_171 : zw_LV [14] "java/util/LinkedList" "MultipoleLine$Line" 171 yJ28_addLast cJ28_addLast 2 (Option.none : Option Jvm.ClassFile.FieldType) 1 := ⟨by
  intro ci hci
  simp only [List.mem_cons, List.not_mem_nil, or_false] at hci
  subst hci
  exact ⟨_, rfl, rfl⟩, fun R s args Z rm hts hK hR => cwV 1 hts (lw_V q1461 q1462 q1463 q142 q1464) rfl rfl rfl (by decide +kernel) hR⟩
theorem ln_X4_158 : zw_N "MultipoleLine$Line" 158 "java/util/LinkedList" 14 4 [.int 0, .int 0, .null, .null] := ⟨by decide, ⟨_, rfl⟩, q1415, q911, q142, fun j hj => match j, hj with
  | 0, _ => rfl
  | 1, _ => rfl
  | 2, _ => rfl
  | 3, _ => rfl
  | j + 4, hj => absurd hj (by omega)⟩
theorem lk_X1_244 : zw_LV [2] "MultipoleLine$Line" "MultipoleLine" 244 yX4_near cX4_near 4 (Option.some (Jvm.ClassFile.FieldType.object "java/util/LinkedList")) 1 := ⟨by
  intro ci hci
  simp only [List.mem_cons, List.not_mem_nil, or_false] at hci
  subst hci
  exact ⟨_, rfl, rfl⟩, fun R s args Z rm hts hK hR => cwV 1 hts (lw_V q1411 q1412 q1413 q118 q1414) rfl rfl rfl (by decide +kernel) hR⟩
theorem lk_X1_248 : zw_LV [14] "java/util/LinkedList" "MultipoleLine" 248 yJ28_size cJ28_size 1 (Option.some Jvm.ClassFile.FieldType.int) 0 := ⟨by
  intro ci hci
  simp only [List.mem_cons, List.not_mem_nil, or_false] at hci
  subst hci
  exact ⟨_, rfl, rfl⟩, fun R s args Z rm hts hK hR => cwV 0 hts (lw_V q1465 q874 q3101 q142 q876) rfl rfl rfl (by decide +kernel) hR⟩
theorem lk_J12_193 : zw_LI "java/util/ArrayList" 193 yJ9_init cJ9_init 2 (Option.none : Option Jvm.ClassFile.FieldType) 1 := fun R s args Z rm hts hK hR => cwI 1 hts (lw_meth q280) rfl rfl rfl (hts _ q115) (hts _ q1507) (hts _ q279) rfl (by decide +kernel) hR
theorem lk_J12_135 : zw_LV [9] "java/util/ArrayList" "java/util/ArrayList" 135 yJ12_rangeCheckForAdd cJ12_rangeCheckForAdd 2 (Option.none : Option Jvm.ClassFile.FieldType) 1 := ⟨by
  intro ci hci
  simp only [List.mem_cons, List.not_mem_nil, or_false] at hci
  subst hci
  exact ⟨_, rfl, rfl⟩, fun R s args Z rm hts hK hR => cwV 1 hts (lw_V q1491 q1493 qs24 q120 q1494) rfl rfl rfl (by decide +kernel) hR⟩
theorem lk_J31_7 : zw_LI "java/util/ArrayList$ListItr" 7 yJ30_init cJ30_init 2 (Option.none : Option Jvm.ClassFile.FieldType) 1 := fun R s args Z rm hts hK hR => cwI 1 hts (lw_meth q1515) rfl rfl rfl (hts _ q146) (hts _ q1513) (hts _ q1514) rfl (by decide +kernel) hR
theorem lk_J12_264 : zw_LI "java/util/ArrayList" 264 yJ31_init cJ31_init 3 (Option.none : Option Jvm.ClassFile.FieldType) 2 := fun R s args Z rm hts hK hR => cwI 2 hts (lw_meth q1512) rfl rfl rfl (hts _ q147) (hts _ q1510) (hts _ q1511) rfl (by decide +kernel) hR
theorem lk_J11_47_9 : zw_LU [9] "java/util/ArrayList" "java/util/AbstractList" 47 "java/util/AbstractList" ⟨"java/util/AbstractList", "listIterator", "(I)Ljava/util/ListIterator;"⟩ yJ12_listIterator cJ12_listIterator 2 (Option.some (Jvm.ClassFile.FieldType.object "java/util/ListIterator")) 1 := ⟨by
  intro ci hci
  simp only [List.mem_cons, List.not_mem_nil, or_false] at hci
  subst hci
  exact ⟨_, rfl, rfl⟩, fun R s args Z rm hts hK hR => va_cwA 1 hts (lw_app (zw_m5 (q1485) (q1487) (q1488) (q1489) (q120)) (lw_meth q1490)) rfl rfl rfl (hK.2.1 _ q1569 rfl) (by decide +kernel) hR⟩
theorem lk_J28_128 : zw_LV [14] "java/util/LinkedList" "java/util/LinkedList" 128 yJ28_isPositionIndex cJ28_isPositionIndex 2 (Option.some Jvm.ClassFile.FieldType.boolean) 1 := ⟨by
  intro ci hci
  simp only [List.mem_cons, List.not_mem_nil, or_false] at hci
  subst hci
  exact ⟨_, rfl, rfl⟩, fun R s args Z rm hts hK hR => cwV 1 hts (lw_V q1542 q1544 qs27 q142 q1545) rfl rfl rfl (by decide +kernel) hR⟩
theorem lk_J28_125 : zw_LI "java/util/LinkedList" 125 yJ9_init cJ9_init 2 (Option.none : Option Jvm.ClassFile.FieldType) 1 := fun R s args Z rm hts hK hR => cwI 1 hts (lw_meth q280) rfl rfl rfl (hts _ q115) (hts _ q929) (hts _ q279) rfl (by decide +kernel) hR
theorem lk_J28_76 : zw_LV [14] "java/util/LinkedList" "java/util/LinkedList" 76 yJ28_checkPositionIndex cJ28_checkPositionIndex 2 (Option.none : Option Jvm.ClassFile.FieldType) 1 := ⟨by
  intro ci hci
  simp only [List.mem_cons, List.not_mem_nil, or_false] at hci
  subst hci
  exact ⟨_, rfl, rfl⟩, fun R s args Z rm hts hK hR => cwV 1 hts (lw_V q1538 q1540 qs26 q142 q1541) rfl rfl rfl (by decide +kernel) hR⟩
theorem lf_J28_30 : zw_F "java/util/LinkedList" 30 [13] 2 ("java/util/LinkedList$Node", "prev", "Ljava/util/LinkedList$Node;", false) := ⟨Or.inl ⟨"java/util/LinkedList$Node", q1088, Or.inl rfl⟩, by
  intro ci hci
  simp only [List.mem_cons, List.not_mem_nil, or_false] at hci
  subst hci
  exact ⟨_, rfl, by decide, rfl⟩⟩
theorem lk_J32_25 : zw_LV [14] "java/util/LinkedList" "java/util/LinkedList$ListItr" 25 yJ28_node cJ28_node 4 (Option.some (Jvm.ClassFile.FieldType.object "java/util/LinkedList$Node")) 1 := ⟨by
  intro ci hci
  simp only [List.mem_cons, List.not_mem_nil, or_false] at hci
  subst hci
  exact ⟨_, rfl, rfl⟩, fun R s args Z rm hts hK hR => cwV 1 hts (lw_V q1552 q931 q932 q142 q933) rfl rfl rfl (by decide +kernel) hR⟩
theorem lf_J32_1 : zw_F "java/util/LinkedList$ListItr" 1 [15] 4 ("java/util/LinkedList$ListItr", "this$0", "Ljava/util/LinkedList;", true) := ⟨Or.inl ⟨"java/util/LinkedList$ListItr", q1557, Or.inl rfl⟩, by
  intro ci hci
  simp only [List.mem_cons, List.not_mem_nil, or_false] at hci
  subst hci
  exact ⟨_, rfl, by decide, rfl⟩⟩
theorem lf_J32_13 : zw_F "java/util/LinkedList$ListItr" 13 [14] 0 ("java/util/AbstractList", "modCount", "I", false) := ⟨Or.inl ⟨"java/util/LinkedList", q415, Or.inr q416⟩, by
  intro ci hci
  simp only [List.mem_cons, List.not_mem_nil, or_false] at hci
  subst hci
  exact ⟨_, rfl, by decide, rfl⟩⟩
theorem lf_J32_19 : zw_F "java/util/LinkedList$ListItr" 19 [15] 3 ("java/util/LinkedList$ListItr", "expectedModCount", "I", false) := ⟨Or.inl ⟨"java/util/LinkedList$ListItr", q1556, Or.inl rfl⟩, by
  intro ci hci
  simp only [List.mem_cons, List.not_mem_nil, or_false] at hci
  subst hci
  exact ⟨_, rfl, by decide, rfl⟩⟩
theorem lf_J32_22 : zw_F "java/util/LinkedList$ListItr" 22 [14] 1 ("java/util/LinkedList", "size", "I", false) := ⟨Or.inl ⟨"java/util/LinkedList", q1424, Or.inl rfl⟩, by
  intro ci hci
  simp only [List.mem_cons, List.not_mem_nil, or_false] at hci
  subst hci
  exact ⟨_, rfl, by decide, rfl⟩⟩
theorem lf_J32_29 : zw_F "java/util/LinkedList$ListItr" 29 [15] 1 ("java/util/LinkedList$ListItr", "next", "Ljava/util/LinkedList$Node;", false) := ⟨Or.inl ⟨"java/util/LinkedList$ListItr", q1554, Or.inl rfl⟩, by
  intro ci hci
  simp only [List.mem_cons, List.not_mem_nil, or_false] at hci
  subst hci
  exact ⟨_, rfl, by decide, rfl⟩⟩
theorem lf_J32_33 : zw_F "java/util/LinkedList$ListItr" 33 [15] 2 ("java/util/LinkedList$ListItr", "nextIndex", "I", false) := ⟨Or.inl ⟨"java/util/LinkedList$ListItr", q1555, Or.inl rfl⟩, by
  intro ci hci
  simp only [List.mem_cons, List.not_mem_nil, or_false] at hci
  subst hci
  exact ⟨_, rfl, by decide, rfl⟩⟩
theorem lk_J28_152 : zw_LI "java/util/LinkedList" 152 yJ32_init cJ32_init 3 (Option.none : Option Jvm.ClassFile.FieldType) 2 := fun R s args Z rm hts hK hR => cwI 2 hts (lw_meth q1550) rfl rfl rfl (hts _ q148) (hts _ q1548) (hts _ q1549) rfl (by decide +kernel) hR
theorem ln_J28_150 : zw_N "java/util/LinkedList" 150 "java/util/LinkedList$ListItr" 15 5 [.null, .null, .int 0, .int 0, .null] := ⟨by decide, ⟨_, rfl⟩, q1546, q1547, q148, fun j hj => match j, hj with
  | 0, _ => rfl
  | 1, _ => rfl
  | 2, _ => rfl
  | 3, _ => rfl
  | 4, _ => rfl
  | j + 5, hj => absurd hj (by omega)⟩
theorem lk_J11_47_14 : zw_LU [14] "java/util/LinkedList" "java/util/AbstractList" 47 "java/util/AbstractList" ⟨"java/util/AbstractList", "listIterator", "(I)Ljava/util/ListIterator;"⟩ yJ28_listIterator cJ28_listIterator 2 (Option.some (Jvm.ClassFile.FieldType.object "java/util/ListIterator")) 1 := ⟨by
  intro ci hci
  simp only [List.mem_cons, List.not_mem_nil, or_false] at hci
  subst hci
  exact ⟨_, rfl, rfl⟩, fun R s args Z rm hts hK hR => va_cwA 1 hts (lw_app (zw_m5 (q1485) (q1487) (q1535) (q1536) (q142)) (lw_meth q1537)) rfl rfl rfl (hK.2.1 _ q1569 rfl) (by decide +kernel) hR⟩
theorem lk_J27_65 : zw_LU [14] "java/util/LinkedList" "java/util/AbstractSequentialList" 65 "java/util/AbstractList" ⟨"java/util/AbstractSequentialList", "listIterator", "()Ljava/util/ListIterator;"⟩ yJ11_listIterator cJ11_listIterator 1 (Option.some (Jvm.ClassFile.FieldType.object "java/util/ListIterator")) 0 := ⟨by
  intro ci hci
  simp only [List.mem_cons, List.not_mem_nil, or_false] at hci
  subst hci
  exact ⟨_, rfl, rfl⟩, fun R s args Z rm hts hK hR => va_cwU 0 hts (lw_app (zw_m5 (q1479) (q1480) (q1482) (q1483) (q119)) (lw_meth q1484)) rfl rfl rfl rfl (by decide +kernel) hR⟩
theorem lk_X1_251 : zw_LU [14] "java/util/LinkedList" "MultipoleLine" 251 "java/util/AbstractSequentialList" ⟨"java/util/LinkedList", "iterator", "()Ljava/util/Iterator;"⟩ yJ27_iterator cJ27_iterator 1 (Option.some (Jvm.ClassFile.FieldType.object "java/util/Iterator")) 0 := ⟨by
  intro ci hci
  simp only [List.mem_cons, List.not_mem_nil, or_false] at hci
  subst hci
  exact ⟨_, rfl, rfl⟩, fun R s args Z rm hts hK hR => va_cwU 0 hts (lw_app (zw_m5 (q1473) (q1474) (q1476) (q1477) (q141)) (lw_meth q1478)) rfl rfl rfl rfl (by decide +kernel) hR⟩
theorem lk_X1_255 : zw_LF [15] "java/util/LinkedList$ListItr" "MultipoleLine" 255 ⟨"java/util/Iterator", "hasNext", "()Z"⟩ yJ32_hasNext cJ32_hasNext 1 (Option.some Jvm.ClassFile.FieldType.boolean) 0 := ⟨by
  intro ci hci
  simp only [List.mem_cons, List.not_mem_nil, or_false] at hci
  subst hci
  exact ⟨_, rfl, rfl⟩, fun R s args Z rm hts hK hR => va_cwF 0 hts (lw_app (zw_m4 (q1571) (q1592) (q1594) (q148)) (lw_meth q1596)) rfl rfl rfl (hK.2.2.1 _ (List.mem_of_getElem? (i := 4) rfl)) (by decide +kernel) hR⟩
theorem lk_J32_36 : zw_LV [15] "java/util/LinkedList$ListItr" "java/util/LinkedList$ListItr" 36 yJ32_checkForComodification cJ32_checkForComodification 1 (Option.none : Option Jvm.ClassFile.FieldType) 0 := ⟨by
  intro ci hci
  simp only [List.mem_cons, List.not_mem_nil, or_false] at hci
  subst hci
  exact ⟨_, rfl, rfl⟩, fun R s args Z rm hts hK hR => cwV 0 hts (lw_V q1696 q1697 q1698 q148 q1699) rfl rfl rfl (by decide +kernel) hR⟩
theorem lk_J32_39 : zw_LV [15] "java/util/LinkedList$ListItr" "java/util/LinkedList$ListItr" 39 yJ32_hasNext cJ32_hasNext 1 (Option.some Jvm.ClassFile.FieldType.boolean) 0 := ⟨by
  intro ci hci
  simp only [List.mem_cons, List.not_mem_nil, or_false] at hci
  subst hci
  exact ⟨_, rfl, rfl⟩, fun R s args Z rm hts hK hR => cwV 0 hts (lw_V q1700 q1594 q3102 q148 q1596) rfl rfl rfl (by decide +kernel) hR⟩
theorem lf_J32_46 : zw_F "java/util/LinkedList$ListItr" 46 [15] 0 ("java/util/LinkedList$ListItr", "lastReturned", "Ljava/util/LinkedList$Node;", false) := ⟨Or.inl ⟨"java/util/LinkedList$ListItr", q1553, Or.inl rfl⟩, by
  intro ci hci
  simp only [List.mem_cons, List.not_mem_nil, or_false] at hci
  subst hci
  exact ⟨_, rfl, by decide, rfl⟩⟩
theorem lf_J32_49 : zw_F "java/util/LinkedList$ListItr" 49 [13] 1 ("java/util/LinkedList$Node", "next", "Ljava/util/LinkedList$Node;", false) := ⟨Or.inl ⟨"java/util/LinkedList$Node", q1085, Or.inl rfl⟩, by
  intro ci hci
  simp only [List.mem_cons, List.not_mem_nil, or_false] at hci
  subst hci
  exact ⟨_, rfl, by decide, rfl⟩⟩
theorem lf_J32_52 : zw_F "java/util/LinkedList$ListItr" 52 [13] 0 ("java/util/LinkedList$Node", "item", "Ljava/lang/Object;", false) := ⟨Or.inl ⟨"java/util/LinkedList$Node", q1082, Or.inl rfl⟩, by
  intro ci hci
  simp only [List.mem_cons, List.not_mem_nil, or_false] at hci
  subst hci
  exact ⟨_, rfl, by decide, rfl⟩⟩
theorem lk_X1_261 : zw_LF [15] "java/util/LinkedList$ListItr" "MultipoleLine" 261 ⟨"java/util/Iterator", "next", "()Ljava/lang/Object;"⟩ yJ32_next cJ32_next 1 (Option.some (Jvm.ClassFile.FieldType.object "java/lang/Object")) 0 := ⟨by
  intro ci hci
  simp only [List.mem_cons, List.not_mem_nil, or_false] at hci
  subst hci
  exact ⟨_, rfl, rfl⟩, fun R s args Z rm hts hK hR => va_cwF 0 hts (lw_app (zw_m4 (q1598) (q1691) (q1693) (q148)) (lw_meth q1695)) rfl rfl rfl (hK.2.2.1 _ (List.mem_of_getElem? (i := 5) rfl)) (by decide +kernel) hR⟩
theorem lk_X1_267 : zw_LV [12, 18] "java/lang/Integer" "MultipoleLine" 267 yJ20_intValue cJ20_intValue 1 (Option.some Jvm.ClassFile.FieldType.int) 0 := ⟨by
  intro ci hci
  simp only [List.mem_cons, List.not_mem_nil, or_false] at hci
  rcases hci with rfl | rfl
  · exact ⟨_, rfl, rfl⟩
  · exact ⟨_, rfl, rfl⟩, fun R s args Z rm hts hK hR => cwV 0 hts (lw_V q1702 q1703 q1704 q130 q1705) rfl rfl rfl (by decide +kernel) hR⟩
theorem lc_X1_265 : zw_Cs "MultipoleLine" 265 [12, 18] := ⟨"java/lang/Integer", q1701, by
  intro ci hci
  simp only [List.mem_cons, List.not_mem_nil, or_false] at hci
  rcases hci with rfl | rfl
  · exact ⟨_, rfl, Or.inl rfl⟩
  · exact ⟨_, rfl, Or.inl rfl⟩⟩
theorem lk_X4_175 : zw_LS "MultipoleLine$Line" 175 yJ14_max cJ14_max 2 (Option.some Jvm.ClassFile.FieldType.int) 2 := fun R s args Z rm hts hK hR => va_cwS 2 hts (lw_S q1721 q539 q123 q540) rfl rfl rfl (by decide +kernel) hR
theorem lk_X4_179 : zw_LS "MultipoleLine$Line" 179 yJ14_min cJ14_min 2 (Option.some Jvm.ClassFile.FieldType.int) 2 := fun R s args Z rm hts hK hR => va_cwS 2 hts (lw_S q1722 q557 q123 q558) rfl rfl rfl (by decide +kernel) hR
theorem lk_X5_26 : zw_LSN "MultipoleLine$Box" 26 "MultipoleLine" yX1_in cX1_in 6 (Option.some Jvm.ClassFile.FieldType.boolean) 3 := fun R s args Z rm hts hK hR => ⟨va_cnB 3 hts (lw_meth q365) rfl rfl rfl (hK.2.1 _ q1728 rfl) (hts _ q104) (by decide +kernel) hR, hts _ q364, trivial⟩
theorem lk_X4_182 : zw_LV [4] "MultipoleLine$Box" "MultipoleLine$Line" 182 yX5_isFarFrom cX5_isFarFrom 2 (Option.some Jvm.ClassFile.FieldType.boolean) 1 := ⟨by
  intro ci hci
  simp only [List.mem_cons, List.not_mem_nil, or_false] at hci
  subst hci
  exact ⟨_, rfl, rfl⟩, fun R s args Z rm hts hK hR => cwV 1 hts (lw_V q1723 q1724 q1725 q121 q1726) rfl rfl rfl (by decide +kernel) hR⟩
theorem lk_X4_185 : zw_LV [2] "MultipoleLine$Line" "MultipoleLine$Line" 185 yX4_bodiesIn cX4_bodiesIn 4 (Option.some Jvm.ClassFile.FieldType.int) 1 := ⟨by
  intro ci hci
  simp only [List.mem_cons, List.not_mem_nil, or_false] at hci
  subst hci
  exact ⟨_, rfl, rfl⟩, fun R s args Z rm hts hK hR => cwV 1 hts (lw_V q1729 q1297 q1298 q118 q1299) rfl rfl rfl (by decide +kernel) hR⟩
theorem lf_X4_189 : zw_F "MultipoleLine$Line" 189 [2] 9 ("MultipoleLine$Line", "farMany", "I", false) := ⟨Or.inl ⟨"MultipoleLine$Line", q476, Or.inl rfl⟩, by
  intro ci hci
  simp only [List.mem_cons, List.not_mem_nil, or_false] at hci
  subst hci
  exact ⟨_, rfl, by decide, rfl⟩⟩
theorem lk_X4_192 : zw_LV [2] "MultipoleLine$Line" "MultipoleLine$Line" 192 yX4_laysFar_2 cX4_laysFar_2 6 (Option.none : Option Jvm.ClassFile.FieldType) 2 := ⟨by
  intro ci hci
  simp only [List.mem_cons, List.not_mem_nil, or_false] at hci
  subst hci
  exact ⟨_, rfl, rfl⟩, fun R s args Z rm hts hK hR => cwV 2 hts (lw_V q1717 q1719 qs28 q118 q1720) rfl rfl rfl (by decide +kernel) hR⟩
theorem lk_X1_270 : zw_LV [2] "MultipoleLine$Line" "MultipoleLine" 270 yX4_laysFar cX4_laysFar 3 (Option.some Jvm.ClassFile.FieldType.int) 1 := ⟨by
  intro ci hci
  simp only [List.mem_cons, List.not_mem_nil, or_false] at hci
  subst hci
  exact ⟨_, rfl, rfl⟩, fun R s args Z rm hts hK hR => cwV 1 hts (lw_V q1713 q1714 q1715 q118 q1716) rfl rfl rfl (by decide +kernel) hR⟩
theorem lf_X1_273 : zw_F "MultipoleLine" 273 [2] 7 ("MultipoleLine$Line", "far", "[LMultipoleLine$Box;", true) := ⟨Or.inr ⟨"MultipoleLine$Line", "MultipoleLine", q474, Or.inl rfl⟩, by
  intro ci hci
  simp only [List.mem_cons, List.not_mem_nil, or_false] at hci
  subst hci
  exact ⟨_, rfl, by decide, rfl⟩⟩
theorem lf_X1_277 : zw_F "MultipoleLine" 277 [4] 0 ("MultipoleLine$Box", "level", "I", true) := ⟨Or.inr ⟨"MultipoleLine$Box", "MultipoleLine", q440, Or.inl rfl⟩, by
  intro ci hci
  simp only [List.mem_cons, List.not_mem_nil, or_false] at hci
  subst hci
  exact ⟨_, rfl, by decide, rfl⟩⟩
theorem lk_X4_195 : zw_LV [2] "MultipoleLine$Line" "MultipoleLine$Line" 195 yX4_laysFar cX4_laysFar 3 (Option.some Jvm.ClassFile.FieldType.int) 1 := ⟨by
  intro ci hci
  simp only [List.mem_cons, List.not_mem_nil, or_false] at hci
  subst hci
  exact ⟨_, rfl, rfl⟩, fun R s args Z rm hts hK hR => cwV 1 hts (lw_V q1748 q1714 q1715 q118 q1716) rfl rfl rfl (by decide +kernel) hR⟩
theorem lk_X1_280 : zw_LV [2] "MultipoleLine$Line" "MultipoleLine" 280 yX4_farBodies cX4_farBodies 4 (Option.some Jvm.ClassFile.FieldType.int) 1 := ⟨by
  intro ci hci
  simp only [List.mem_cons, List.not_mem_nil, or_false] at hci
  subst hci
  exact ⟨_, rfl, rfl⟩, fun R s args Z rm hts hK hR => cwV 1 hts (lw_V q1744 q1745 q1746 q118 q1747) rfl rfl rfl (by decide +kernel) hR⟩
theorem lk_X1_283 : zw_LV [2] "MultipoleLine$Line" "MultipoleLine" 283 yX4_cost cX4_cost 5 (Option.some Jvm.ClassFile.FieldType.int) 2 := ⟨by
  intro ci hci
  simp only [List.mem_cons, List.not_mem_nil, or_false] at hci
  subst hci
  exact ⟨_, rfl, rfl⟩, fun R s args Z rm hts hK hR => cwV 2 hts (lw_V q1756 q1757 q1758 q118 q1759) rfl rfl rfl (by decide +kernel) hR⟩
theorem lk_X4_197_6 : zw_LU [6] "MultipoleLine$Fixed" "MultipoleLine$Line" 197 "MultipoleLine$Body" ⟨"MultipoleLine$Body", "distance", "(I)I"⟩ yX7_distance cX7_distance 2 (Option.some Jvm.ClassFile.FieldType.int) 1 := ⟨by
  intro ci hci
  simp only [List.mem_cons, List.not_mem_nil, or_false] at hci
  subst hci
  exact ⟨_, rfl, rfl⟩, fun R s args Z rm hts hK hR => va_cwU 1 hts (lw_app (zw_m5 (q1775) (q1777) (q1778) (q1776) (q133)) (lw_meth q1780)) rfl rfl rfl rfl (by decide +kernel) hR⟩
theorem lk_X4_197_7 : zw_LU [7] "MultipoleLine$Free" "MultipoleLine$Line" 197 "MultipoleLine$Body" ⟨"MultipoleLine$Body", "distance", "(I)I"⟩ yX7_distance cX7_distance 2 (Option.some Jvm.ClassFile.FieldType.int) 1 := ⟨by
  intro ci hci
  simp only [List.mem_cons, List.not_mem_nil, or_false] at hci
  subst hci
  exact ⟨_, rfl, rfl⟩, fun R s args Z rm hts hK hR => va_cwU 1 hts (lw_app (zw_m5 (q1775) (q1777) (q1779) (q1776) (q133)) (lw_meth q1780)) rfl rfl rfl rfl (by decide +kernel) hR⟩
theorem lk_X4_214 : zw_LV [2] "MultipoleLine$Line" "MultipoleLine$Line" 214 yX4_sum cX4_sum 8 (Option.some Jvm.ClassFile.FieldType.double) 3 := ⟨by
  intro ci hci
  simp only [List.mem_cons, List.not_mem_nil, or_false] at hci
  subst hci
  exact ⟨_, rfl, rfl⟩, fun R s args Z rm hts hK hR => cwV 3 hts (lw_V q1771 q1772 q1773 q118 q1774) rfl rfl rfl (by decide +kernel) hR⟩
theorem lk_X4_200 : zw_LV [2] "MultipoleLine$Line" "MultipoleLine$Line" 200 yX4_value cX4_value 10 (Option.some Jvm.ClassFile.FieldType.double) 2 := ⟨by
  intro ci hci
  simp only [List.mem_cons, List.not_mem_nil, or_false] at hci
  subst hci
  exact ⟨_, rfl, rfl⟩, fun R s args Z rm hts hK hR => cwV 2 hts (lw_V q1785 q1786 q1787 q118 q1788) rfl rfl rfl (by decide +kernel) hR⟩
theorem lk_X4_218 : zw_LV [2] "MultipoleLine$Line" "MultipoleLine$Line" 218 yX4_farSum cX4_farSum 6 (Option.some Jvm.ClassFile.FieldType.double) 1 := ⟨by
  intro ci hci
  simp only [List.mem_cons, List.not_mem_nil, or_false] at hci
  subst hci
  exact ⟨_, rfl, rfl⟩, fun R s args Z rm hts hK hR => cwV 1 hts (lw_V q1781 q1782 q1783 q118 q1784) rfl rfl rfl (by decide +kernel) hR⟩
theorem lk_X1_287 : zw_LV [2] "MultipoleLine$Line" "MultipoleLine" 287 yX4_sumBy cX4_sumBy 3 (Option.some Jvm.ClassFile.FieldType.double) 2 := ⟨by
  intro ci hci
  simp only [List.mem_cons, List.not_mem_nil, or_false] at hci
  subst hci
  exact ⟨_, rfl, rfl⟩, fun R s args Z rm hts hK hR => cwV 2 hts (lw_V q1767 q1768 q1769 q118 q1770) rfl rfl rfl (by decide +kernel) hR⟩
theorem lk_X1_291 : zw_LV [2] "MultipoleLine$Line" "MultipoleLine" 291 yX4_sum cX4_sum 8 (Option.some Jvm.ClassFile.FieldType.double) 3 := ⟨by
  intro ci hci
  simp only [List.mem_cons, List.not_mem_nil, or_false] at hci
  subst hci
  exact ⟨_, rfl, rfl⟩, fun R s args Z rm hts hK hR => cwV 3 hts (lw_V q1796 q1772 q1773 q118 q1774) rfl rfl rfl (by decide +kernel) hR⟩
theorem lk_X1_295 : zw_LV [2] "MultipoleLine$Line" "MultipoleLine" 295 yX4_farSum cX4_farSum 6 (Option.some Jvm.ClassFile.FieldType.double) 1 := ⟨by
  intro ci hci
  simp only [List.mem_cons, List.not_mem_nil, or_false] at hci
  subst hci
  exact ⟨_, rfl, rfl⟩, fun R s args Z rm hts hK hR => cwV 1 hts (lw_V q1804 q1782 q1783 q118 q1784) rfl rfl rfl (by decide +kernel) hR⟩
theorem lk_X1_299 : zw_LV [1] "MultipoleLine" "MultipoleLine" 299 yX1_farSum cX1_farSum 2 (Option.some Jvm.ClassFile.FieldType.double) 1 := ⟨by
  intro ci hci
  simp only [List.mem_cons, List.not_mem_nil, or_false] at hci
  subst hci
  exact ⟨_, rfl, rfl⟩, fun R s args Z rm hts hK hR => cwV 1 hts (lw_V q1812 q1801 q1802 q104 q1803) rfl rfl rfl (by decide +kernel) hR⟩
theorem lk_X1_300 : zw_LS "MultipoleLine" 300 yJ34_doubleToLongBits cJ34_doubleToLongBits 2 (Option.some Jvm.ClassFile.FieldType.long) 1 := fun R s args Z rm hts hK hR => va_cwS 1 hts (lw_S q1813 q1814 q150 q1815) rfl rfl rfl (by decide +kernel) hR
theorem lk_X1_306 : zw_LS "MultipoleLine" 306 yJ14_abs cJ14_abs 1 (Option.some Jvm.ClassFile.FieldType.int) 1 := fun R s args Z rm hts hK hR => va_cwS 1 hts (lw_S q1830 q1159 q123 q1160) rfl rfl rfl (by decide +kernel) hR
theorem lk_X1_311 : zw_LV [2] "MultipoleLine$Line" "MultipoleLine" 311 yX4_value cX4_value 10 (Option.some Jvm.ClassFile.FieldType.double) 2 := ⟨by
  intro ci hci
  simp only [List.mem_cons, List.not_mem_nil, or_false] at hci
  subst hci
  exact ⟨_, rfl, rfl⟩, fun R s args Z rm hts hK hR => cwV 2 hts (lw_V q1831 q1786 q1787 q118 q1788) rfl rfl rfl (by decide +kernel) hR⟩
theorem lk_X4_207 : zw_LSN "MultipoleLine$Line" 207 "MultipoleLine" yX1_power cX1_power 8 (Option.some Jvm.ClassFile.FieldType.double) 3 := fun R s args Z rm hts hK hR => ⟨va_cnB 3 hts (lw_meth q1845) rfl rfl rfl (hK.2.1 _ q1843 rfl) (hts _ q104) (by decide +kernel) hR, hts _ q1844, trivial⟩
theorem lk_X4_211 : zw_LV [2] "MultipoleLine$Line" "MultipoleLine$Line" 211 yX4_weightsIn cX4_weightsIn 4 (Option.some Jvm.ClassFile.FieldType.int) 1 := ⟨by
  intro ci hci
  simp only [List.mem_cons, List.not_mem_nil, or_false] at hci
  subst hci
  exact ⟨_, rfl, rfl⟩, fun R s args Z rm hts hK hR => cwV 1 hts (lw_V q1846 q1316 q1317 q118 q1318) rfl rfl rfl (by decide +kernel) hR⟩
theorem lf_X4_204 : zw_F "MultipoleLine$Line" 204 [4] 2 ("MultipoleLine$Box", "width", "I", true) := ⟨Or.inr ⟨"MultipoleLine$Box", "MultipoleLine", q446, Or.inl rfl⟩, by
  intro ci hci
  simp only [List.mem_cons, List.not_mem_nil, or_false] at hci
  subst hci
  exact ⟨_, rfl, by decide, rfl⟩⟩
theorem lk_X1_318 : zw_LV [2] "MultipoleLine$Line" "MultipoleLine" 318 yX4_bound cX4_bound 12 (Option.some Jvm.ClassFile.FieldType.double) 2 := ⟨by
  intro ci hci
  simp only [List.mem_cons, List.not_mem_nil, or_false] at hci
  subst hci
  exact ⟨_, rfl, rfl⟩, fun R s args Z rm hts hK hR => cwV 2 hts (lw_V q1839 q1840 q1841 q118 q1842) rfl rfl rfl (by decide +kernel) hR⟩
theorem lf_X1_315 : zw_F "MultipoleLine" 315 [2] 3 ("MultipoleLine$Line", "order", "I", false) := ⟨Or.inr ⟨"MultipoleLine$Line", "MultipoleLine", q467, Or.inl rfl⟩, by
  intro ci hci
  simp only [List.mem_cons, List.not_mem_nil, or_false] at hci
  subst hci
  exact ⟨_, rfl, by decide, rfl⟩⟩
theorem lk_X4_222 : zw_LV [2] "MultipoleLine$Line" "MultipoleLine$Line" 222 yX4_sumBy cX4_sumBy 3 (Option.some Jvm.ClassFile.FieldType.double) 2 := ⟨by
  intro ci hci
  simp only [List.mem_cons, List.not_mem_nil, or_false] at hci
  subst hci
  exact ⟨_, rfl, rfl⟩, fun R s args Z rm hts hK hR => cwV 2 hts (lw_V q1858 q1768 q1769 q118 q1770) rfl rfl rfl (by decide +kernel) hR⟩
theorem lk_X4_226 : zw_LSN "MultipoleLine$Line" 226 "MultipoleLine" yX1_absolute cX1_absolute 2 (Option.some Jvm.ClassFile.FieldType.double) 1 := fun R s args Z rm hts hK hR => ⟨va_cnB 1 hts (lw_meth q1861) rfl rfl rfl (hK.2.1 _ q1859 rfl) (hts _ q104) (by decide +kernel) hR, hts _ q1860, trivial⟩
theorem lk_X1_322 : zw_LV [2] "MultipoleLine$Line" "MultipoleLine" 322 yX4_gap cX4_gap 2 (Option.some Jvm.ClassFile.FieldType.double) 1 := ⟨by
  intro ci hci
  simp only [List.mem_cons, List.not_mem_nil, or_false] at hci
  subst hci
  exact ⟨_, rfl, rfl⟩, fun R s args Z rm hts hK hR => cwV 1 hts (lw_V q1854 q1855 q1856 q118 q1857) rfl rfl rfl (by decide +kernel) hR⟩
theorem lk_X4_234 : zw_LV [2] "MultipoleLine$Line" "MultipoleLine$Line" 234 yX4_inherits cX4_inherits 9 (Option.some (Jvm.ClassFile.FieldType.array Jvm.ClassFile.FieldType.double)) 1 := ⟨by
  intro ci hci
  simp only [List.mem_cons, List.not_mem_nil, or_false] at hci
  subst hci
  exact ⟨_, rfl, rfl⟩, fun R s args Z rm hts hK hR => cwV 1 hts (lw_V q1888 q1890 qs29 q118 q1891) rfl rfl rfl (by decide +kernel) hR⟩
theorem lk_X4_243 : zw_LV [2] "MultipoleLine$Line" "MultipoleLine$Line" 243 yX4_part cX4_part 9 (Option.some Jvm.ClassFile.FieldType.double) 3 := ⟨by
  intro ci hci
  simp only [List.mem_cons, List.not_mem_nil, or_false] at hci
  subst hci
  exact ⟨_, rfl, rfl⟩, fun R s args Z rm hts hK hR => cwV 3 hts (lw_V q1898 q1900 qs30 q118 q1901) rfl rfl rfl (by decide +kernel) hR⟩
theorem lk_X4_230 : zw_LV [2] "MultipoleLine$Line" "MultipoleLine$Line" 230 yX4_local cX4_local 11 (Option.some (Jvm.ClassFile.FieldType.array Jvm.ClassFile.FieldType.double)) 1 := ⟨by
  intro ci hci
  simp only [List.mem_cons, List.not_mem_nil, or_false] at hci
  subst hci
  exact ⟨_, rfl, rfl⟩, fun R s args Z rm hts hK hR => cwV 1 hts (lw_V q1892 q1885 q1886 q118 q1887) rfl rfl rfl (by decide +kernel) hR⟩
theorem lk_X1_327 : zw_LV [2] "MultipoleLine$Line" "MultipoleLine" 327 yX4_local cX4_local 11 (Option.some (Jvm.ClassFile.FieldType.array Jvm.ClassFile.FieldType.double)) 1 := ⟨by
  intro ci hci
  simp only [List.mem_cons, List.not_mem_nil, or_false] at hci
  subst hci
  exact ⟨_, rfl, rfl⟩, fun R s args Z rm hts hK hR => cwV 1 hts (lw_V q1884 q1885 q1886 q118 q1887) rfl rfl rfl (by decide +kernel) hR⟩
theorem lk_X1_331 : zw_LV [2] "MultipoleLine$Line" "MultipoleLine" 331 yX4_localSum cX4_localSum 9 (Option.some Jvm.ClassFile.FieldType.double) 1 := ⟨by
  intro ci hci
  simp only [List.mem_cons, List.not_mem_nil, or_false] at hci
  subst hci
  exact ⟨_, rfl, rfl⟩, fun R s args Z rm hts hK hR => cwV 1 hts (lw_V q1910 q1911 q1912 q118 q1913) rfl rfl rfl (by decide +kernel) hR⟩
theorem lk_X1_334 : zw_LV [2] "MultipoleLine$Line" "MultipoleLine" 334 yX4_pull cX4_pull 10 (Option.some Jvm.ClassFile.FieldType.double) 2 := ⟨by
  intro ci hci
  simp only [List.mem_cons, List.not_mem_nil, or_false] at hci
  subst hci
  exact ⟨_, rfl, rfl⟩, fun R s args Z rm hts hK hR => cwV 2 hts (lw_V q1921 q1922 q1923 q118 q1924) rfl rfl rfl (by decide +kernel) hR⟩
theorem lk_X1_337 : zw_LV [2] "MultipoleLine$Line" "MultipoleLine" 337 yX4_pullFar cX4_pullFar 13 (Option.some Jvm.ClassFile.FieldType.double) 1 := ⟨by
  intro ci hci
  simp only [List.mem_cons, List.not_mem_nil, or_false] at hci
  subst hci
  exact ⟨_, rfl, rfl⟩, fun R s args Z rm hts hK hR => cwV 1 hts (lw_V q1932 q1933 q1934 q118 q1935) rfl rfl rfl (by decide +kernel) hR⟩
theorem lk_X4_247 : zw_LV [2] "MultipoleLine$Line" "MultipoleLine$Line" 247 yX4_pull cX4_pull 10 (Option.some Jvm.ClassFile.FieldType.double) 2 := ⟨by
  intro ci hci
  simp only [List.mem_cons, List.not_mem_nil, or_false] at hci
  subst hci
  exact ⟨_, rfl, rfl⟩, fun R s args Z rm hts hK hR => cwV 2 hts (lw_V q1947 q1922 q1923 q118 q1924) rfl rfl rfl (by decide +kernel) hR⟩
theorem lk_X4_250 : zw_LV [2] "MultipoleLine$Line" "MultipoleLine$Line" 250 yX4_pullFar cX4_pullFar 13 (Option.some Jvm.ClassFile.FieldType.double) 1 := ⟨by
  intro ci hci
  simp only [List.mem_cons, List.not_mem_nil, or_false] at hci
  subst hci
  exact ⟨_, rfl, rfl⟩, fun R s args Z rm hts hK hR => cwV 1 hts (lw_V q1948 q1933 q1934 q118 q1935) rfl rfl rfl (by decide +kernel) hR⟩
theorem lk_X1_340 : zw_LV [2] "MultipoleLine$Line" "MultipoleLine" 340 yX4_pull_2 cX4_pull_2 2 (Option.some Jvm.ClassFile.FieldType.double) 1 := ⟨by
  intro ci hci
  simp only [List.mem_cons, List.not_mem_nil, or_false] at hci
  subst hci
  exact ⟨_, rfl, rfl⟩, fun R s args Z rm hts hK hR => cwV 1 hts (lw_V q1943 q1944 q1945 q118 q1946) rfl rfl rfl (by decide +kernel) hR⟩
theorem lk_X4_253 : zw_LV [2] "MultipoleLine$Line" "MultipoleLine$Line" 253 yX4_pull_2 cX4_pull_2 2 (Option.some Jvm.ClassFile.FieldType.double) 1 := ⟨by
  intro ci hci
  simp only [List.mem_cons, List.not_mem_nil, or_false] at hci
  subst hci
  exact ⟨_, rfl, rfl⟩, fun R s args Z rm hts hK hR => cwV 1 hts (lw_V q1960 q1944 q1945 q118 q1946) rfl rfl rfl (by decide +kernel) hR⟩
theorem lk_X1_342 : zw_LV [2] "MultipoleLine$Line" "MultipoleLine" 342 yX4_goes cX4_goes 6 (Option.some Jvm.ClassFile.FieldType.int) 1 := ⟨by
  intro ci hci
  simp only [List.mem_cons, List.not_mem_nil, or_false] at hci
  subst hci
  exact ⟨_, rfl, rfl⟩, fun R s args Z rm hts hK hR => cwV 1 hts (lw_V q1956 q1957 q1958 q118 q1959) rfl rfl rfl (by decide +kernel) hR⟩
theorem lk_X1_346 : zw_LS "MultipoleLine" 346 yX1_checkSteps cX1_checkSteps 2 (Option.none : Option Jvm.ClassFile.FieldType) 2 := fun R s args Z rm hts hK hR => va_cwS 2 hts (lw_S q1969 q1970 q104 q1971) rfl rfl rfl (by decide +kernel) hR
theorem lk_X4_36 : zw_LI "MultipoleLine$Line" 36 yX4_init cX4_init 3 (Option.none : Option Jvm.ClassFile.FieldType) 0 := fun R s args Z rm hts hK hR => cwI 0 hts (lw_meth q397) rfl rfl rfl (hts _ q118) (hts _ q1978) (hts _ q396) rfl (by decide +kernel) hR
theorem lk_X8_9 : zw_LI "MultipoleLine$Fixed" 9 yX8_init cX8_init 1 (Option.none : Option Jvm.ClassFile.FieldType) 0 := fun R s args Z rm hts hK hR => cwI 0 hts (lw_meth q943) rfl rfl rfl (hts _ q134) (hts _ q1992) (hts _ q942) rfl (by decide +kernel) hR
theorem ln_X8_7 : zw_N "MultipoleLine$Fixed" 7 "MultipoleLine$Fixed" 6 4 [.int 0, .int 0, .int 0, .int 0] := ⟨by decide, ⟨_, rfl⟩, q1991, q940, q134, fun j hj => match j, hj with
  | 0, _ => rfl
  | 1, _ => rfl
  | 2, _ => rfl
  | 3, _ => rfl
  | j + 4, hj => absurd hj (by omega)⟩
theorem lk_X7_19_6 : zw_LU [6] "MultipoleLine$Fixed" "MultipoleLine$Body" 19 "MultipoleLine$Body" ⟨"MultipoleLine$Body", "same", "()LMultipoleLine$Body;"⟩ yX8_same cX8_same 1 (Option.some (Jvm.ClassFile.FieldType.object "MultipoleLine$Body")) 0 := ⟨by
  intro ci hci
  simp only [List.mem_cons, List.not_mem_nil, or_false] at hci
  subst hci
  exact ⟨_, rfl, rfl⟩, fun R s args Z rm hts hK hR => va_cwA 0 hts (lw_app (zw_m5 (q1985) (q1987) (q1988) (q1989) (q134)) (lw_meth q1990)) rfl rfl rfl (hK.2.1 _ q1986 rfl) (by decide +kernel) hR⟩
theorem lk_X9_9 : zw_LI "MultipoleLine$Free" 9 yX9_init cX9_init 1 (Option.none : Option Jvm.ClassFile.FieldType) 0 := fun R s args Z rm hts hK hR => cwI 0 hts (lw_meth q973) rfl rfl rfl (hts _ q135) (hts _ q1997) (hts _ q972) rfl (by decide +kernel) hR
theorem ln_X9_7 : zw_N "MultipoleLine$Free" 7 "MultipoleLine$Free" 7 4 [.int 0, .int 0, .int 0, .int 0] := ⟨by decide, ⟨_, rfl⟩, q1996, q970, q135, fun j hj => match j, hj with
  | 0, _ => rfl
  | 1, _ => rfl
  | 2, _ => rfl
  | 3, _ => rfl
  | j + 4, hj => absurd hj (by omega)⟩
theorem lk_X7_19_7 : zw_LU [7] "MultipoleLine$Free" "MultipoleLine$Body" 19 "MultipoleLine$Body" ⟨"MultipoleLine$Body", "same", "()LMultipoleLine$Body;"⟩ yX9_same cX9_same 1 (Option.some (Jvm.ClassFile.FieldType.object "MultipoleLine$Body")) 0 := ⟨by
  intro ci hci
  simp only [List.mem_cons, List.not_mem_nil, or_false] at hci
  subst hci
  exact ⟨_, rfl, rfl⟩, fun R s args Z rm hts hK hR => va_cwA 0 hts (lw_app (zw_m5 (q1985) (q1987) (q1993) (q1994) (q135)) (lw_meth q1995)) rfl rfl rfl (hK.2.1 _ q1986 rfl) (by decide +kernel) hR⟩
theorem lk_X7_23_6 : zw_LU [6] "MultipoleLine$Fixed" "MultipoleLine$Body" 23 "MultipoleLine$Body" ⟨"MultipoleLine$Body", "be", "(III)LMultipoleLine$Body;"⟩ yX7_be cX7_be 4 (Option.some (Jvm.ClassFile.FieldType.object "MultipoleLine$Body")) 3 := ⟨by
  intro ci hci
  simp only [List.mem_cons, List.not_mem_nil, or_false] at hci
  subst hci
  exact ⟨_, rfl, rfl⟩, fun R s args Z rm hts hK hR => va_cwU 3 hts (lw_app (zw_m5 (q1998) (q1000) (q1001) (q999) (q133)) (lw_meth q1003)) rfl rfl rfl rfl (by decide +kernel) hR⟩
theorem lk_X7_23_7 : zw_LU [7] "MultipoleLine$Free" "MultipoleLine$Body" 23 "MultipoleLine$Body" ⟨"MultipoleLine$Body", "be", "(III)LMultipoleLine$Body;"⟩ yX7_be cX7_be 4 (Option.some (Jvm.ClassFile.FieldType.object "MultipoleLine$Body")) 3 := ⟨by
  intro ci hci
  simp only [List.mem_cons, List.not_mem_nil, or_false] at hci
  subst hci
  exact ⟨_, rfl, rfl⟩, fun R s args Z rm hts hK hR => va_cwU 3 hts (lw_app (zw_m5 (q1998) (q1000) (q1002) (q999) (q133)) (lw_meth q1003)) rfl rfl rfl rfl (by decide +kernel) hR⟩
theorem lf_X7_27 : zw_F "MultipoleLine$Body" 27 [6, 7] 3 ("MultipoleLine$Body", "isMover", "Z", false) := ⟨Or.inl ⟨"MultipoleLine$Body", q958, Or.inl rfl⟩, by
  intro ci hci
  simp only [List.mem_cons, List.not_mem_nil, or_false] at hci
  rcases hci with rfl | rfl
  · exact ⟨_, rfl, by decide, rfl⟩
  · exact ⟨_, rfl, by decide, rfl⟩⟩
theorem lk_X4_45_6 : zw_LU [6] "MultipoleLine$Fixed" "MultipoleLine$Line" 45 "MultipoleLine$Body" ⟨"MultipoleLine$Body", "copy", "()LMultipoleLine$Body;"⟩ yX7_copy cX7_copy 2 (Option.some (Jvm.ClassFile.FieldType.object "MultipoleLine$Body")) 0 := ⟨by
  intro ci hci
  simp only [List.mem_cons, List.not_mem_nil, or_false] at hci
  subst hci
  exact ⟨_, rfl, rfl⟩, fun R s args Z rm hts hK hR => va_cwU 0 hts (lw_app (zw_m5 (q1979) (q1981) (q1982) (q1980) (q133)) (lw_meth q1984)) rfl rfl rfl rfl (by decide +kernel) hR⟩
theorem lk_X4_45_7 : zw_LU [7] "MultipoleLine$Free" "MultipoleLine$Line" 45 "MultipoleLine$Body" ⟨"MultipoleLine$Body", "copy", "()LMultipoleLine$Body;"⟩ yX7_copy cX7_copy 2 (Option.some (Jvm.ClassFile.FieldType.object "MultipoleLine$Body")) 0 := ⟨by
  intro ci hci
  simp only [List.mem_cons, List.not_mem_nil, or_false] at hci
  subst hci
  exact ⟨_, rfl, rfl⟩, fun R s args Z rm hts hK hR => va_cwU 0 hts (lw_app (zw_m5 (q1979) (q1981) (q1983) (q1980) (q133)) (lw_meth q1984)) rfl rfl rfl rfl (by decide +kernel) hR⟩
theorem lk_X4_51 : zw_LF [9] "java/util/ArrayList" "MultipoleLine$Line" 51 ⟨"java/util/List", "add", "(Ljava/lang/Object;)Z"⟩ yJ12_add cJ12_add 2 (Option.some Jvm.ClassFile.FieldType.boolean) 1 := ⟨by
  intro ci hci
  simp only [List.mem_cons, List.not_mem_nil, or_false] at hci
  subst hci
  exact ⟨_, rfl, rfl⟩, fun R s args Z rm hts hK hR => va_cwF 1 hts (lw_app (zw_m4 (q2000) (q1008) (q1010) (q120)) (lw_meth q1012)) rfl rfl rfl (hK.2.2.1 _ (List.mem_of_getElem? (i := 2) rfl)) (by decide +kernel) hR⟩
theorem ln_X4_13 : zw_N "MultipoleLine$Line" 13 "MultipoleLine$Line" 2 10 [.null, .null, .int 0, .int 0, .int 0, .int 0, .int 0, .null, .null, .int 0] := ⟨by decide, ⟨_, rfl⟩, q1977, q394, q118, fun j hj => match j, hj with
  | 0, _ => rfl
  | 1, _ => rfl
  | 2, _ => rfl
  | 3, _ => rfl
  | 4, _ => rfl
  | 5, _ => rfl
  | 6, _ => rfl
  | 7, _ => rfl
  | 8, _ => rfl
  | 9, _ => rfl
  | j + 10, hj => absurd hj (by omega)⟩
theorem lf_X4_67 : zw_F "MultipoleLine$Line" 67 [2] 5 ("MultipoleLine$Line", "time", "I", false) := ⟨Or.inl ⟨"MultipoleLine$Line", q469, Or.inl rfl⟩, by
  intro ci hci
  simp only [List.mem_cons, List.not_mem_nil, or_false] at hci
  subst hci
  exact ⟨_, rfl, by decide, rfl⟩⟩
theorem lf_X4_70 : zw_F "MultipoleLine$Line" 70 [2] 6 ("MultipoleLine$Line", "moves", "I", false) := ⟨Or.inl ⟨"MultipoleLine$Line", q471, Or.inl rfl⟩, by
  intro ci hci
  simp only [List.mem_cons, List.not_mem_nil, or_false] at hci
  subst hci
  exact ⟨_, rfl, by decide, rfl⟩⟩
theorem lk_X1_349 : zw_LV [2] "MultipoleLine$Line" "MultipoleLine" 349 yX4_copy cX4_copy 3 (Option.some (Jvm.ClassFile.FieldType.object "MultipoleLine$Line")) 0 := ⟨by
  intro ci hci
  simp only [List.mem_cons, List.not_mem_nil, or_false] at hci
  subst hci
  exact ⟨_, rfl, rfl⟩, fun R s args Z rm hts hK hR => cwV 0 hts (lw_V q1973 q1974 q1975 q118 q1976) rfl rfl rfl (by decide +kernel) hR⟩
theorem lk_X4_257 : zw_LV [2] "MultipoleLine$Line" "MultipoleLine$Line" 257 yX4_goes cX4_goes 6 (Option.some Jvm.ClassFile.FieldType.int) 1 := ⟨by
  intro ci hci
  simp only [List.mem_cons, List.not_mem_nil, or_false] at hci
  subst hci
  exact ⟨_, rfl, rfl⟩, fun R s args Z rm hts hK hR => cwV 1 hts (lw_V q2009 q1957 q1958 q118 q1959) rfl rfl rfl (by decide +kernel) hR⟩
theorem lf_X4_261 : zw_F "MultipoleLine$Line" 261 [6, 7] 2 ("MultipoleLine$Body", "moves", "I", false) := ⟨Or.inr ⟨"MultipoleLine$Body", "MultipoleLine", q956, Or.inl rfl⟩, by
  intro ci hci
  simp only [List.mem_cons, List.not_mem_nil, or_false] at hci
  rcases hci with rfl | rfl
  · exact ⟨_, rfl, by decide, rfl⟩
  · exact ⟨_, rfl, by decide, rfl⟩⟩
theorem lk_X4_262 : zw_LV [2] "MultipoleLine$Line" "MultipoleLine$Line" 262 yX4_step cX4_step 3 (Option.some Jvm.ClassFile.FieldType.int) 0 := ⟨by
  intro ci hci
  simp only [List.mem_cons, List.not_mem_nil, or_false] at hci
  subst hci
  exact ⟨_, rfl, rfl⟩, fun R s args Z rm hts hK hR => cwV 0 hts (lw_V q2005 q2007 qs31 q118 q2008) rfl rfl rfl (by decide +kernel) hR⟩
theorem lk_X1_352 : zw_LV [2] "MultipoleLine$Line" "MultipoleLine" 352 yX4_steps cX4_steps 4 (Option.some Jvm.ClassFile.FieldType.int) 1 := ⟨by
  intro ci hci
  simp only [List.mem_cons, List.not_mem_nil, or_false] at hci
  subst hci
  exact ⟨_, rfl, rfl⟩, fun R s args Z rm hts hK hR => cwV 1 hts (lw_V q2001 q2002 q2003 q118 q2004) rfl rfl rfl (by decide +kernel) hR⟩
theorem lk_X1_355 : zw_LV [2] "MultipoleLine$Line" "MultipoleLine" 355 yX4_isStill cX4_isStill 2 (Option.some Jvm.ClassFile.FieldType.boolean) 0 := ⟨by
  intro ci hci
  simp only [List.mem_cons, List.not_mem_nil, or_false] at hci
  subst hci
  exact ⟨_, rfl, rfl⟩, fun R s args Z rm hts hK hR => cwV 0 hts (lw_V q2024 q2025 q2026 q118 q2027) rfl rfl rfl (by decide +kernel) hR⟩
theorem lk_X1_362 : zw_LV [1] "MultipoleLine" "MultipoleLine" 362 yX1_costOf cX1_costOf 5 (Option.some Jvm.ClassFile.FieldType.int) 1 := ⟨by
  intro ci hci
  simp only [List.mem_cons, List.not_mem_nil, or_false] at hci
  subst hci
  exact ⟨_, rfl, rfl⟩, fun R s args Z rm hts hK hR => cwV 1 hts (lw_V q2044 q2046 qs32 q104 q2047) rfl rfl rfl (by decide +kernel) hR⟩
theorem lk_X1_365 : zw_LS "MultipoleLine" 365 yX1_absolute cX1_absolute 2 (Option.some Jvm.ClassFile.FieldType.double) 1 := fun R s args Z rm hts hK hR => va_cwS 1 hts (lw_S q2062 q1860 q104 q1861) rfl rfl rfl (by decide +kernel) hR
theorem lk_X1_369 : zw_LV [1] "MultipoleLine" "MultipoleLine" 369 yX1_bodyAt cX1_bodyAt 4 (Option.some Jvm.ClassFile.FieldType.int) 1 := ⟨by
  intro ci hci
  simp only [List.mem_cons, List.not_mem_nil, or_false] at hci
  subst hci
  exact ⟨_, rfl, rfl⟩, fun R s args Z rm hts hK hR => cwV 1 hts (lw_V q2063 q1263 q1264 q104 q1265) rfl rfl rfl (by decide +kernel) hR⟩
theorem lk_X1_376 : zw_LS "MultipoleLine" 376 yX1_isZero cX1_isZero 6 (Option.some Jvm.ClassFile.FieldType.boolean) 2 := fun R s args Z rm hts hK hR => va_cwS 2 hts (lw_S q2080 q2081 q104 q2082) rfl rfl rfl (by decide +kernel) hR
theorem lk_X1_380 : zw_LV [2] "MultipoleLine$Line" "MultipoleLine" 380 yX4_isNear cX4_isNear 3 (Option.some Jvm.ClassFile.FieldType.boolean) 2 := ⟨by
  intro ci hci
  simp only [List.mem_cons, List.not_mem_nil, or_false] at hci
  subst hci
  exact ⟨_, rfl, rfl⟩, fun R s args Z rm hts hK hR => cwV 2 hts (lw_V q2094 q1436 q1437 q118 q1438) rfl rfl rfl (by decide +kernel) hR⟩
theorem lk_X1_386 : zw_LS "MultipoleLine" 386 yX1_isPair cX1_isPair 4 (Option.some Jvm.ClassFile.FieldType.boolean) 4 := fun R s args Z rm hts hK hR => va_cwS 4 hts (lw_S q2091 q2092 q104 q2093) rfl rfl rfl (by decide +kernel) hR
theorem lk_X1_390 : zw_LV [1] "MultipoleLine" "MultipoleLine" 390 yX1_balance cX1_balance 2 (Option.some Jvm.ClassFile.FieldType.float) 0 := ⟨by
  intro ci hci
  simp only [List.mem_cons, List.not_mem_nil, or_false] at hci
  subst hci
  exact ⟨_, rfl, rfl⟩, fun R s args Z rm hts hK hR => cwV 0 hts (lw_V q2109 q2099 q2100 q104 q2101) rfl rfl rfl (by decide +kernel) hR⟩
theorem lk_X1_394 : zw_LS "MultipoleLine" 394 yJ35_floatToIntBits cJ35_floatToIntBits 1 (Option.some Jvm.ClassFile.FieldType.int) 1 := fun R s args Z rm hts hK hR => va_cwS 1 hts (lw_S q2110 q2111 q151 q2112) rfl rfl rfl (by decide +kernel) hR
theorem lk_J36_12 : zw_LI "java/lang/StringIndexOutOfBoundsException" 12 yJ3_init cJ3_init 1 (Option.none : Option Jvm.ClassFile.FieldType) 0 := fun R s args Z rm hts hK hR => cwI 0 hts (lw_meth q189) rfl rfl rfl (hts _ q108) (hts _ q2147) (hts _ q188) rfl (by decide +kernel) hR
theorem lk_J36_15 : zw_LV [10] "java/lang/StringBuilder" "java/lang/StringIndexOutOfBoundsException" 15 yJ3_append_3 cJ3_append_3 2 (Option.some (Jvm.ClassFile.FieldType.object "java/lang/StringBuilder")) 1 := ⟨by
  intro ci hci
  simp only [List.mem_cons, List.not_mem_nil, or_false] at hci
  subst hci
  exact ⟨_, rfl, rfl⟩, fun R s args Z rm hts hK hR => cwV 1 hts (lw_V q2149 q697 q698 q108 q699) rfl rfl rfl (by decide +kernel) hR⟩
theorem lk_J36_19 : zw_LV [10] "java/lang/StringBuilder" "java/lang/StringIndexOutOfBoundsException" 19 yJ3_append_2 cJ3_append_2 2 (Option.some (Jvm.ClassFile.FieldType.object "java/lang/StringBuilder")) 1 := ⟨by
  intro ci hci
  simp only [List.mem_cons, List.not_mem_nil, or_false] at hci
  subst hci
  exact ⟨_, rfl, rfl⟩, fun R s args Z rm hts hK hR => cwV 1 hts (lw_V q2150 q662 q663 q108 q664) rfl rfl rfl (by decide +kernel) hR⟩
theorem lk_J36_22 : zw_LV [10] "java/lang/StringBuilder" "java/lang/StringIndexOutOfBoundsException" 22 yJ3_toString cJ3_toString 1 (Option.some (Jvm.ClassFile.FieldType.object "java/lang/String")) 0 := ⟨by
  intro ci hci
  simp only [List.mem_cons, List.not_mem_nil, or_false] at hci
  subst hci
  exact ⟨_, rfl, rfl⟩, fun R s args Z rm hts hK hR => cwV 0 hts (lw_V q2151 q616 q617 q108 q618) rfl rfl rfl (by decide +kernel) hR⟩
theorem lk_J36_7 : zw_LI "java/lang/StringIndexOutOfBoundsException" 7 yJ9_init cJ9_init 2 (Option.none : Option Jvm.ClassFile.FieldType) 1 := fun R s args Z rm hts hK hR => cwI 1 hts (lw_meth q280) rfl rfl rfl (hts _ q115) (hts _ q2152) (hts _ q279) rfl (by decide +kernel) hR
theorem ln_J36_10 : zw_N "java/lang/StringIndexOutOfBoundsException" 10 "java/lang/StringBuilder" 10 4 [.null, .int 0, .int 0, .int 0] := ⟨by decide, ⟨_, rfl⟩, q2146, q186, q108, fun j hj => match j, hj with
  | 0, _ => rfl
  | 1, _ => rfl
  | 2, _ => rfl
  | 3, _ => rfl
  | j + 4, hj => absurd hj (by omega)⟩
theorem lk_J2_131 : zw_LI "java/lang/AbstractStringBuilder" 131 yJ36_init cJ36_init 2 (Option.none : Option Jvm.ClassFile.FieldType) 1 := fun R s args Z rm hts hK hR => cwI 1 hts (lw_meth q2145) rfl rfl rfl (hts _ q152) (hts _ q2143) (hts _ q2144) rfl (by decide +kernel) hR
theorem lk_J15_61 : zw_LV [10] "java/lang/StringBuilder" "java/util/Arrays" 61 yJ3_toString cJ3_toString 1 (Option.some (Jvm.ClassFile.FieldType.object "java/lang/String")) 0 := ⟨by
  intro ci hci
  simp only [List.mem_cons, List.not_mem_nil, or_false] at hci
  subst hci
  exact ⟨_, rfl, rfl⟩, fun R s args Z rm hts hK hR => cwV 0 hts (lw_V q734 q616 q617 q108 q618) rfl rfl rfl (by decide +kernel) hR⟩
theorem lk_J10_12 : zw_LI "java/lang/ArrayIndexOutOfBoundsException" 12 yJ3_init cJ3_init 1 (Option.none : Option Jvm.ClassFile.FieldType) 0 := fun R s args Z rm hts hK hR => cwI 0 hts (lw_meth q189) rfl rfl rfl (hts _ q108) (hts _ q2177) (hts _ q188) rfl (by decide +kernel) hR
theorem lk_J10_15 : zw_LV [10] "java/lang/StringBuilder" "java/lang/ArrayIndexOutOfBoundsException" 15 yJ3_append_3 cJ3_append_3 2 (Option.some (Jvm.ClassFile.FieldType.object "java/lang/StringBuilder")) 1 := ⟨by
  intro ci hci
  simp only [List.mem_cons, List.not_mem_nil, or_false] at hci
  subst hci
  exact ⟨_, rfl, rfl⟩, fun R s args Z rm hts hK hR => cwV 1 hts (lw_V q2179 q697 q698 q108 q699) rfl rfl rfl (by decide +kernel) hR⟩
theorem lk_J10_19 : zw_LV [10] "java/lang/StringBuilder" "java/lang/ArrayIndexOutOfBoundsException" 19 yJ3_append_2 cJ3_append_2 2 (Option.some (Jvm.ClassFile.FieldType.object "java/lang/StringBuilder")) 1 := ⟨by
  intro ci hci
  simp only [List.mem_cons, List.not_mem_nil, or_false] at hci
  subst hci
  exact ⟨_, rfl, rfl⟩, fun R s args Z rm hts hK hR => cwV 1 hts (lw_V q2180 q662 q663 q108 q664) rfl rfl rfl (by decide +kernel) hR⟩
theorem lk_J10_22 : zw_LV [10] "java/lang/StringBuilder" "java/lang/ArrayIndexOutOfBoundsException" 22 yJ3_toString cJ3_toString 1 (Option.some (Jvm.ClassFile.FieldType.object "java/lang/String")) 0 := ⟨by
  intro ci hci
  simp only [List.mem_cons, List.not_mem_nil, or_false] at hci
  subst hci
  exact ⟨_, rfl, rfl⟩, fun R s args Z rm hts hK hR => cwV 0 hts (lw_V q2181 q616 q617 q108 q618) rfl rfl rfl (by decide +kernel) hR⟩
theorem lk_J10_7 : zw_LI "java/lang/ArrayIndexOutOfBoundsException" 7 yJ9_init cJ9_init 2 (Option.none : Option Jvm.ClassFile.FieldType) 1 := fun R s args Z rm hts hK hR => cwI 1 hts (lw_meth q280) rfl rfl rfl (hts _ q115) (hts _ q278) (hts _ q279) rfl (by decide +kernel) hR
theorem ln_J10_10 : zw_N "java/lang/ArrayIndexOutOfBoundsException" 10 "java/lang/StringBuilder" 10 4 [.null, .int 0, .int 0, .int 0] := ⟨by decide, ⟨_, rfl⟩, q2176, q186, q108, fun j hj => match j, hj with
  | 0, _ => rfl
  | 1, _ => rfl
  | 2, _ => rfl
  | 3, _ => rfl
  | j + 4, hj => absurd hj (by omega)⟩
theorem lk_J15_70 : zw_LI "java/util/Arrays" 70 yJ10_init_2 cJ10_init_2 2 (Option.none : Option Jvm.ClassFile.FieldType) 1 := fun R s args Z rm hts hK hR => cwI 1 hts (lw_meth q2175) rfl rfl rfl (hts _ q116) (hts _ q2173) (hts _ q2174) rfl (by decide +kernel) hR
theorem lk_J15_13 : zw_LS "java/util/Arrays" 13 yJ15_rangeCheck cJ15_rangeCheck 3 (Option.none : Option Jvm.ClassFile.FieldType) 3 := fun R s args Z rm hts hK hR => va_cwS 3 hts (lw_S q2166 q2167 q124 q2168) rfl rfl rfl (by decide +kernel) hR
theorem lk_J16_236 : zw_LS "java/lang/StringLatin1" 236 yJ15_fill cJ15_fill 5 (Option.none : Option Jvm.ClassFile.FieldType) 4 := fun R s args Z rm hts hK hR => va_cwS 4 hts (lw_S q2163 q2164 q124 q2165) rfl rfl rfl (by decide +kernel) hR
theorem lk_J2_133 : zw_LS "java/lang/AbstractStringBuilder" 133 yJ16_fillNull cJ16_fillNull 3 (Option.none : Option Jvm.ClassFile.FieldType) 3 := fun R s args Z rm hts hK hR => va_cwS 3 hts (lw_S q2160 q2161 q126 q2162) rfl rfl rfl (by decide +kernel) hR
theorem lk_J5_380 : zw_LS "java/lang/StringUTF16" 380 yJ15_fill cJ15_fill 5 (Option.none : Option Jvm.ClassFile.FieldType) 4 := fun R s args Z rm hts hK hR => va_cwS 4 hts (lw_S q2185 q2164 q124 q2165) rfl rfl rfl (by decide +kernel) hR
theorem lk_J2_137 : zw_LS "java/lang/AbstractStringBuilder" 137 yJ5_fillNull cJ5_fillNull 3 (Option.none : Option Jvm.ClassFile.FieldType) 3 := fun R s args Z rm hts hK hR => va_cwS 3 hts (lw_S q2182 q2183 q110 q2184) rfl rfl rfl (by decide +kernel) hR
theorem lf_J2_73 : zw_F "java/lang/AbstractStringBuilder" 73 [10] 2 ("java/lang/AbstractStringBuilder", "maybeLatin1", "Z", false) := ⟨Or.inl ⟨"java/lang/AbstractStringBuilder", q205, Or.inl rfl⟩, by
  intro ci hci
  simp only [List.mem_cons, List.not_mem_nil, or_false] at hci
  subst hci
  exact ⟨_, rfl, by decide, rfl⟩⟩
theorem lk_J3_333 : zw_LSU [10] "java/lang/StringBuilder" "java/lang/StringBuilder" 333 yJ2_setLength cJ2_setLength 2 (Option.none : Option Jvm.ClassFile.FieldType) 1 := ⟨by
  intro ci hci
  simp only [List.mem_cons, List.not_mem_nil, or_false] at hci
  subst hci
  exact ⟨_, rfl, rfl⟩, fun R s args Z rm hts hK hR => va_cwSU 1 hts (lw_app (zw_m5 (q2138) (q3103) (q216) (q2139) (q107)) (lw_meth q2140)) rfl rfl rfl (by decide +kernel) hR⟩
theorem lk_X1_400 : zw_LV [10] "java/lang/StringBuilder" "MultipoleLine" 400 yJ3_setLength cJ3_setLength 2 (Option.none : Option Jvm.ClassFile.FieldType) 1 := ⟨by
  intro ci hci
  simp only [List.mem_cons, List.not_mem_nil, or_false] at hci
  subst hci
  exact ⟨_, rfl, rfl⟩, fun R s args Z rm hts hK hR => cwV 1 hts (lw_V q2134 q2135 q2136 q108 q2137) rfl rfl rfl (by decide +kernel) hR⟩
theorem lk_X1_407 : zw_LV [10] "java/lang/StringBuilder" "MultipoleLine" 407 yJ3_append cJ3_append 2 (Option.some (Jvm.ClassFile.FieldType.object "java/lang/StringBuilder")) 1 := ⟨by
  intro ci hci
  simp only [List.mem_cons, List.not_mem_nil, or_false] at hci
  subst hci
  exact ⟨_, rfl, rfl⟩, fun R s args Z rm hts hK hR => cwV 1 hts (lw_V q2186 q521 q522 q108 q523) rfl rfl rfl (by decide +kernel) hR⟩
theorem lk_X1_411 : zw_LV [10] "java/lang/StringBuilder" "MultipoleLine" 411 yJ3_length cJ3_length 1 (Option.some Jvm.ClassFile.FieldType.int) 0 := ⟨by
  intro ci hci
  simp only [List.mem_cons, List.not_mem_nil, or_false] at hci
  subst hci
  exact ⟨_, rfl, rfl⟩, fun R s args Z rm hts hK hR => cwV 0 hts (lw_V q2187 q636 q3104 q108 q637) rfl rfl rfl (by decide +kernel) hR⟩
theorem lf_X1_403 : zw_F "MultipoleLine" 403 [2] 1 ("MultipoleLine$Line", "boxes", "[[LMultipoleLine$Box;", true) := ⟨Or.inr ⟨"MultipoleLine$Line", "MultipoleLine", q463, Or.inl rfl⟩, by
  intro ci hci
  simp only [List.mem_cons, List.not_mem_nil, or_false] at hci
  subst hci
  exact ⟨_, rfl, by decide, rfl⟩⟩
theorem lk_X1_418 : zw_LV [10] "java/lang/StringBuilder" "MultipoleLine" 418 yJ3_append_3 cJ3_append_3 2 (Option.some (Jvm.ClassFile.FieldType.object "java/lang/StringBuilder")) 1 := ⟨by
  intro ci hci
  simp only [List.mem_cons, List.not_mem_nil, or_false] at hci
  subst hci
  exact ⟨_, rfl, rfl⟩, fun R s args Z rm hts hK hR => cwV 1 hts (lw_V q2197 q697 q698 q108 q699) rfl rfl rfl (by decide +kernel) hR⟩
theorem lk_X1_421 : zw_LV [10] "java/lang/StringBuilder" "MultipoleLine" 421 yJ3_append_2 cJ3_append_2 2 (Option.some (Jvm.ClassFile.FieldType.object "java/lang/StringBuilder")) 1 := ⟨by
  intro ci hci
  simp only [List.mem_cons, List.not_mem_nil, or_false] at hci
  subst hci
  exact ⟨_, rfl, rfl⟩, fun R s args Z rm hts hK hR => cwV 1 hts (lw_V q2198 q662 q663 q108 q664) rfl rfl rfl (by decide +kernel) hR⟩
theorem ls_X8_10 : ("MultipoleLine$Fixed", 10, "*", 28) ∈ zwSS := List.mem_of_getElem? (i := 18) rfl
theorem lk_X1_424_6 : zw_LU [6] "MultipoleLine$Fixed" "MultipoleLine" 424 "MultipoleLine$Body" ⟨"MultipoleLine$Body", "sign", "()Ljava/lang/String;"⟩ yX8_sign cX8_sign 1 (Option.some (Jvm.ClassFile.FieldType.object "java/lang/String")) 0 := ⟨by
  intro ci hci
  simp only [List.mem_cons, List.not_mem_nil, or_false] at hci
  subst hci
  exact ⟨_, rfl, rfl⟩, fun R s args Z rm hts hK hR => va_cwA 0 hts (lw_app (zw_m5 (q2199) (q2201) (q2202) (q2203) (q134)) (lw_meth q2204)) rfl rfl rfl (hK.2.1 _ q2200 rfl) (by decide +kernel) hR⟩
theorem ls_X9_10 : ("MultipoleLine$Free", 10, "", 29) ∈ zwSS := List.mem_of_getElem? (i := 19) rfl
theorem lk_X1_424_7 : zw_LU [7] "MultipoleLine$Free" "MultipoleLine" 424 "MultipoleLine$Body" ⟨"MultipoleLine$Body", "sign", "()Ljava/lang/String;"⟩ yX9_sign cX9_sign 1 (Option.some (Jvm.ClassFile.FieldType.object "java/lang/String")) 0 := ⟨by
  intro ci hci
  simp only [List.mem_cons, List.not_mem_nil, or_false] at hci
  subst hci
  exact ⟨_, rfl, rfl⟩, fun R s args Z rm hts hK hR => va_cwA 0 hts (lw_app (zw_m5 (q2199) (q2201) (q2206) (q2207) (q135)) (lw_meth q2208)) rfl rfl rfl (hK.2.1 _ q2200 rfl) (by decide +kernel) hR⟩
theorem ls_X1_416 : ("MultipoleLine", 416, "", 11) ∈ zwSS := List.mem_of_getElem? (i := 1) rfl
theorem ls_X1_414 : ("MultipoleLine", 414, " ", 10) ∈ zwSS := List.mem_of_getElem? (i := 0) rfl
theorem ls_X1_428 : ("MultipoleLine", 428, "line", 12) ∈ zwSS := List.mem_of_getElem? (i := 2) rfl
theorem ls_X1_432 : ("MultipoleLine", 432, ";fixed ", 14) ∈ zwSS := List.mem_of_getElem? (i := 4) rfl
theorem ls_X1_434 : ("MultipoleLine", 434, " minus ", 15) ∈ zwSS := List.mem_of_getElem? (i := 5) rfl
theorem ls_X1_430 : ("MultipoleLine", 430, ";free ", 13) ∈ zwSS := List.mem_of_getElem? (i := 3) rfl
theorem lk_J2_138 : zw_LS "java/lang/AbstractStringBuilder" 138 yJ14_min cJ14_min 2 (Option.some Jvm.ClassFile.FieldType.int) 2 := fun R s args Z rm hts hK hR => va_cwS 2 hts (lw_S q2242 q557 q123 q558) rfl rfl rfl (by decide +kernel) hR
theorem lk_J2_144 : zw_LS "java/lang/AbstractStringBuilder" 144 yJ4_checkIndex cJ4_checkIndex 2 (Option.none : Option Jvm.ClassFile.FieldType) 2 := fun R s args Z rm hts hK hR => va_cwS 2 hts (lw_S q2243 q610 q109 q611) rfl rfl rfl (by decide +kernel) hR
theorem lk_J2_148 : zw_LS "java/lang/AbstractStringBuilder" 148 yJ5_getChar cJ5_getChar 2 (Option.some Jvm.ClassFile.FieldType.char) 2 := fun R s args Z rm hts hK hR => va_cwS 2 hts (lw_S q2244 q748 q110 q749) rfl rfl rfl (by decide +kernel) hR
theorem lk_J3_329 : zw_LSU [10] "java/lang/StringBuilder" "java/lang/StringBuilder" 329 yJ2_charAt cJ2_charAt 5 (Option.some Jvm.ClassFile.FieldType.char) 1 := ⟨by
  intro ci hci
  simp only [List.mem_cons, List.not_mem_nil, or_false] at hci
  subst hci
  exact ⟨_, rfl, rfl⟩, fun R s args Z rm hts hK hR => va_cwSU 1 hts (lw_app (zw_m5 (q2239) (q3105) (q216) (q2240) (q107)) (lw_meth q2241)) rfl rfl rfl (by decide +kernel) hR⟩
theorem lk_X1_436 : zw_LV [10] "java/lang/StringBuilder" "MultipoleLine" 436 yJ3_charAt cJ3_charAt 2 (Option.some Jvm.ClassFile.FieldType.char) 1 := ⟨by
  intro ci hci
  simp only [List.mem_cons, List.not_mem_nil, or_false] at hci
  subst hci
  exact ⟨_, rfl, rfl⟩, fun R s args Z rm hts hK hR => cwV 1 hts (lw_V q2235 q2236 q2237 q108 q2238) rfl rfl rfl (by decide +kernel) hR⟩
theorem lk_X1_448 : zw_LS "MultipoleLine" 448 yX1_isCharge cX1_isCharge 1 (Option.some Jvm.ClassFile.FieldType.boolean) 1 := fun R s args Z rm hts hK hR => va_cwS 1 hts (lw_S q2252 q2253 q104 q2254) rfl rfl rfl (by decide +kernel) hR
theorem lk_X1_451 : zw_LV [2] "MultipoleLine$Line" "MultipoleLine" 451 yX4_hasFixed cX4_hasFixed 4 (Option.some Jvm.ClassFile.FieldType.boolean) 1 := ⟨by
  intro ci hci
  simp only [List.mem_cons, List.not_mem_nil, or_false] at hci
  subst hci
  exact ⟨_, rfl, rfl⟩, fun R s args Z rm hts hK hR => cwV 1 hts (lw_V q2257 q878 q879 q118 q880) rfl rfl rfl (by decide +kernel) hR⟩
theorem lk_J1_103 : zw_LS "java/util/ArrayDeque" 103 yJ1_elementAt cJ1_elementAt 2 (Option.some (Jvm.ClassFile.FieldType.object "java/lang/Object")) 2 := fun R s args Z rm hts hK hR => va_cwS 2 hts (lw_S q2270 q2271 q106 q2272) rfl rfl rfl (by decide +kernel) hR
theorem lk_J1_74 : zw_LS "java/util/ArrayDeque" 74 yJ1_inc cJ1_inc 2 (Option.some Jvm.ClassFile.FieldType.int) 2 := fun R s args Z rm hts hK hR => va_cwS 2 hts (lw_S q2273 q2274 q106 q2275) rfl rfl rfl (by decide +kernel) hR
theorem lk_J1_93 : zw_LV [8] "java/util/ArrayDeque" "java/util/ArrayDeque" 93 yJ1_pollFirst cJ1_pollFirst 4 (Option.some (Jvm.ClassFile.FieldType.object "java/lang/Object")) 0 := ⟨by
  intro ci hci
  simp only [List.mem_cons, List.not_mem_nil, or_false] at hci
  subst hci
  exact ⟨_, rfl, rfl⟩, fun R s args Z rm hts hK hR => cwV 0 hts (lw_V q2266 q2267 q2268 q106 q2269) rfl rfl rfl (by decide +kernel) hR⟩
theorem lk_X1_441 : zw_LV [8] "java/util/ArrayDeque" "MultipoleLine" 441 yJ1_removeFirst cJ1_removeFirst 2 (Option.some (Jvm.ClassFile.FieldType.object "java/lang/Object")) 0 := ⟨by
  intro ci hci
  simp only [List.mem_cons, List.not_mem_nil, or_false] at hci
  subst hci
  exact ⟨_, rfl, rfl⟩, fun R s args Z rm hts hK hR => cwV 0 hts (lw_V q2262 q2263 q2264 q106 q2265) rfl rfl rfl (by decide +kernel) hR⟩
theorem lk_J1_14 : zw_LS "java/util/ArrayDeque" 14 yJ15_copyOf_2 cJ15_copyOf_2 2 (Option.some (Jvm.ClassFile.FieldType.array (Jvm.ClassFile.FieldType.object "java/lang/Object"))) 2 := fun R s args Z rm hts hK hR => va_cwS 2 hts (lw_S q2296 q1027 q124 q1028) rfl rfl rfl (by decide +kernel) hR
theorem lk_J1_71 : zw_LV [8] "java/util/ArrayDeque" "java/util/ArrayDeque" 71 yJ1_grow cJ1_grow 9 (Option.none : Option Jvm.ClassFile.FieldType) 1 := ⟨by
  intro ci hci
  simp only [List.mem_cons, List.not_mem_nil, or_false] at hci
  subst hci
  exact ⟨_, rfl, rfl⟩, fun R s args Z rm hts hK hR => cwV 1 hts (lw_V q2280 q2282 qs34 q106 q2283) rfl rfl rfl (by decide +kernel) hR⟩
theorem lk_X1_444 : zw_LV [8] "java/util/ArrayDeque" "MultipoleLine" 444 yJ1_addLast cJ1_addLast 3 (Option.none : Option Jvm.ClassFile.FieldType) 1 := ⟨by
  intro ci hci
  simp only [List.mem_cons, List.not_mem_nil, or_false] at hci
  subst hci
  exact ⟨_, rfl, rfl⟩, fun R s args Z rm hts hK hR => cwV 1 hts (lw_V q2276 q2277 q2278 q106 q2279) rfl rfl rfl (by decide +kernel) hR⟩
theorem lk_X1_454 : zw_LV [1] "MultipoleLine" "MultipoleLine" 454 yX1_change cX1_change 1 (Option.some (Jvm.ClassFile.FieldType.object "MultipoleLine$Line")) 0 := ⟨by
  intro ci hci
  simp only [List.mem_cons, List.not_mem_nil, or_false] at hci
  subst hci
  exact ⟨_, rfl, rfl⟩, fun R s args Z rm hts hK hR => cwV 0 hts (lw_V q2258 q2260 qs33 q104 q2261) rfl rfl rfl (by decide +kernel) hR⟩
theorem lk_X1_461 : zw_LS "MultipoleLine" 461 yX1_body cX1_body 2 (Option.some (Jvm.ClassFile.FieldType.object "MultipoleLine$Body")) 1 := fun R s args Z rm hts hK hR => va_cwS 1 hts (lw_S q2298 q937 q104 q938) rfl rfl rfl (by decide +kernel) hR
theorem lk_X1_465_6 : zw_LU [6] "MultipoleLine$Fixed" "MultipoleLine" 465 "MultipoleLine$Body" ⟨"MultipoleLine$Body", "be", "(III)LMultipoleLine$Body;"⟩ yX7_be cX7_be 4 (Option.some (Jvm.ClassFile.FieldType.object "MultipoleLine$Body")) 3 := ⟨by
  intro ci hci
  simp only [List.mem_cons, List.not_mem_nil, or_false] at hci
  subst hci
  exact ⟨_, rfl, rfl⟩, fun R s args Z rm hts hK hR => va_cwU 3 hts (lw_app (zw_m5 (q2299) (q1000) (q1001) (q999) (q133)) (lw_meth q1003)) rfl rfl rfl rfl (by decide +kernel) hR⟩
theorem lk_X1_465_7 : zw_LU [7] "MultipoleLine$Free" "MultipoleLine" 465 "MultipoleLine$Body" ⟨"MultipoleLine$Body", "be", "(III)LMultipoleLine$Body;"⟩ yX7_be cX7_be 4 (Option.some (Jvm.ClassFile.FieldType.object "MultipoleLine$Body")) 3 := ⟨by
  intro ci hci
  simp only [List.mem_cons, List.not_mem_nil, or_false] at hci
  subst hci
  exact ⟨_, rfl, rfl⟩, fun R s args Z rm hts hK hR => va_cwU 3 hts (lw_app (zw_m5 (q2299) (q1000) (q1002) (q999) (q133)) (lw_meth q1003)) rfl rfl rfl rfl (by decide +kernel) hR⟩
theorem lk_X1_469 : zw_LF [9] "java/util/ArrayList" "MultipoleLine" 469 ⟨"java/util/List", "add", "(Ljava/lang/Object;)Z"⟩ yJ12_add cJ12_add 2 (Option.some Jvm.ClassFile.FieldType.boolean) 1 := ⟨by
  intro ci hci
  simp only [List.mem_cons, List.not_mem_nil, or_false] at hci
  subst hci
  exact ⟨_, rfl, rfl⟩, fun R s args Z rm hts hK hR => va_cwF 1 hts (lw_app (zw_m4 (q2301) (q1008) (q1010) (q120)) (lw_meth q1012)) rfl rfl rfl (hK.2.2.1 _ (List.mem_of_getElem? (i := 2) rfl)) (by decide +kernel) hR⟩
theorem lf_X1_457 : zw_F "MultipoleLine" 457 [2] 0 ("MultipoleLine$Line", "bodies", "Ljava/util/List;", true) := ⟨Or.inr ⟨"MultipoleLine$Line", "MultipoleLine", q461, Or.inl rfl⟩, by
  intro ci hci
  simp only [List.mem_cons, List.not_mem_nil, or_false] at hci
  subst hci
  exact ⟨_, rfl, by decide, rfl⟩⟩
theorem lk_J12_144 : zw_LV [9] "java/util/ArrayList" "java/util/ArrayList" 144 yJ12_fastRemove cJ12_fastRemove 4 (Option.none : Option Jvm.ClassFile.FieldType) 2 := ⟨by
  intro ci hci
  simp only [List.mem_cons, List.not_mem_nil, or_false] at hci
  subst hci
  exact ⟨_, rfl, rfl⟩, fun R s args Z rm hts hK hR => cwV 2 hts (lw_V q2332 q2334 qs36 q120 q2335) rfl rfl rfl (by decide +kernel) hR⟩
theorem lk_X1_475 : zw_LF [9] "java/util/ArrayList" "MultipoleLine" 475 ⟨"java/util/List", "remove", "(I)Ljava/lang/Object;"⟩ yJ12_remove cJ12_remove 4 (Option.some (Jvm.ClassFile.FieldType.object "java/lang/Object")) 1 := ⟨by
  intro ci hci
  simp only [List.mem_cons, List.not_mem_nil, or_false] at hci
  subst hci
  exact ⟨_, rfl, rfl⟩, fun R s args Z rm hts hK hR => va_cwF 1 hts (lw_app (zw_m4 (q2324) (q2327) (q2329) (q120)) (lw_meth q2331)) rfl rfl rfl (hK.2.2.1 _ (List.mem_of_getElem? (i := 3) rfl)) (by decide +kernel) hR⟩
theorem lc_X1_19 : zw_Cs "MultipoleLine" 19 [6, 7] := ⟨"MultipoleLine$Body", q2346, by
  intro ci hci
  simp only [List.mem_cons, List.not_mem_nil, or_false] at hci
  rcases hci with rfl | rfl
  · exact ⟨_, rfl, Or.inr q3109⟩
  · exact ⟨_, rfl, Or.inr q3110⟩⟩
theorem lk_X1_481 : zw_LS "MultipoleLine" 481 yX4_low cX4_low 1 (Option.some Jvm.ClassFile.FieldType.int) 1 := fun R s args Z rm hts hK hR => va_cwS 1 hts (lw_S q2362 q834 q118 q835) rfl rfl rfl (by decide +kernel) hR
theorem lk_X1_484 : zw_LS "MultipoleLine" 484 yX4_high cX4_high 1 (Option.some Jvm.ClassFile.FieldType.int) 1 := fun R s args Z rm hts hK hR => va_cwS 1 hts (lw_S q2363 q837 q118 q838) rfl rfl rfl (by decide +kernel) hR
theorem lk_X1_487 : zw_LV [2] "MultipoleLine$Line" "MultipoleLine" 487 yX4_sets cX4_sets 3 (Option.none : Option Jvm.ClassFile.FieldType) 2 := ⟨by
  intro ci hci
  simp only [List.mem_cons, List.not_mem_nil, or_false] at hci
  subst hci
  exact ⟨_, rfl, rfl⟩, fun R s args Z rm hts hK hR => cwV 2 hts (lw_V q2364 q848 q849 q118 q850) rfl rfl rfl (by decide +kernel) hR⟩
theorem lk_X1_490 : zw_LV [8] "java/util/ArrayDeque" "MultipoleLine" 490 yJ1_isEmpty cJ1_isEmpty 1 (Option.some Jvm.ClassFile.FieldType.boolean) 0 := ⟨by
  intro ci hci
  simp only [List.mem_cons, List.not_mem_nil, or_false] at hci
  subst hci
  exact ⟨_, rfl, rfl⟩, fun R s args Z rm hts hK hR => cwV 0 hts (lw_V q2372 q2373 q2374 q106 q2375) rfl rfl rfl (by decide +kernel) hR⟩
theorem lk_J1_68 : zw_LS "java/util/ArrayDeque" 68 yJ1_dec cJ1_dec 2 (Option.some Jvm.ClassFile.FieldType.int) 2 := fun R s args Z rm hts hK hR => va_cwS 2 hts (lw_S q2384 q2385 q106 q2386) rfl rfl rfl (by decide +kernel) hR
theorem lk_J1_100 : zw_LV [8] "java/util/ArrayDeque" "java/util/ArrayDeque" 100 yJ1_pollLast cJ1_pollLast 4 (Option.some (Jvm.ClassFile.FieldType.object "java/lang/Object")) 0 := ⟨by
  intro ci hci
  simp only [List.mem_cons, List.not_mem_nil, or_false] at hci
  subst hci
  exact ⟨_, rfl, rfl⟩, fun R s args Z rm hts hK hR => cwV 0 hts (lw_V q2380 q2381 q2382 q106 q2383) rfl rfl rfl (by decide +kernel) hR⟩
theorem lk_X1_493 : zw_LV [8] "java/util/ArrayDeque" "MultipoleLine" 493 yJ1_removeLast cJ1_removeLast 2 (Option.some (Jvm.ClassFile.FieldType.object "java/lang/Object")) 0 := ⟨by
  intro ci hci
  simp only [List.mem_cons, List.not_mem_nil, or_false] at hci
  subst hci
  exact ⟨_, rfl, rfl⟩, fun R s args Z rm hts hK hR => cwV 0 hts (lw_V q2376 q2377 q2378 q106 q2379) rfl rfl rfl (by decide +kernel) hR⟩
theorem lc_X1_42 : zw_Cs "MultipoleLine" 42 [2] := ⟨"MultipoleLine$Line", q183, by
  intro ci hci
  simp only [List.mem_cons, List.not_mem_nil, or_false] at hci
  subst hci
  exact ⟨_, rfl, Or.inl rfl⟩⟩
theorem lk_X0_7 : zw_LVX [1] "MultipoleLine" "MultipoleLineLaw" 7 [((25 : Nat), (75 : Nat), (76 : Nat), (131 : Nat))] yX1_load cX1_load 3 (Option.some Jvm.ClassFile.FieldType.int) 1 := ⟨by
  intro ci hci
  simp only [List.mem_cons, List.not_mem_nil, or_false] at hci
  subst hci
  exact ⟨_, rfl, rfl⟩, fun R s args Z rm hts hK hR => vx_cwVW 1 hts (lw_VW q355 q356 q357 q104 q358) rfl rfl rfl (by decide +kernel) hR⟩
theorem lk_X0_17 : zw_LV [1] "MultipoleLine" "MultipoleLineLaw" 17 yX1_count cX1_count 3 (Option.some Jvm.ClassFile.FieldType.int) 1 := ⟨by
  intro ci hci
  simp only [List.mem_cons, List.not_mem_nil, or_false] at hci
  subst hci
  exact ⟨_, rfl, rfl⟩, fun R s args Z rm hts hK hR => cwV 1 hts (lw_V q1113 q1114 q1115 q104 q1116) rfl rfl rfl (by decide +kernel) hR⟩
theorem lk_X0_22 : zw_LV [1] "MultipoleLine" "MultipoleLineLaw" 22 yX1_body_2 cX1_body_2 4 (Option.some Jvm.ClassFile.FieldType.int) 2 := ⟨by
  intro ci hci
  simp only [List.mem_cons, List.not_mem_nil, or_false] at hci
  subst hci
  exact ⟨_, rfl, rfl⟩, fun R s args Z rm hts hK hR => cwV 2 hts (lw_V q1249 q1250 q1251 q104 q1252) rfl rfl rfl (by decide +kernel) hR⟩
theorem lk_X0_26 : zw_LV [1] "MultipoleLine" "MultipoleLineLaw" 26 yX1_bodyAt cX1_bodyAt 4 (Option.some Jvm.ClassFile.FieldType.int) 1 := ⟨by
  intro ci hci
  simp only [List.mem_cons, List.not_mem_nil, or_false] at hci
  subst hci
  exact ⟨_, rfl, rfl⟩, fun R s args Z rm hts hK hR => cwV 1 hts (lw_V q1262 q1263 q1264 q104 q1265) rfl rfl rfl (by decide +kernel) hR⟩
theorem lk_X0_29 : zw_LV [1] "MultipoleLine" "MultipoleLineLaw" 29 yX1_box cX1_box 5 (Option.some Jvm.ClassFile.FieldType.int) 3 := ⟨by
  intro ci hci
  simp only [List.mem_cons, List.not_mem_nil, or_false] at hci
  subst hci
  exact ⟨_, rfl, rfl⟩, fun R s args Z rm hts hK hR => cwV 3 hts (lw_V q1280 q1281 q1282 q104 q1283) rfl rfl rfl (by decide +kernel) hR⟩
theorem lk_X0_33 : zw_LV [1] "MultipoleLine" "MultipoleLineLaw" 33 yX1_boxAt cX1_boxAt 4 (Option.some Jvm.ClassFile.FieldType.int) 2 := ⟨by
  intro ci hci
  simp only [List.mem_cons, List.not_mem_nil, or_false] at hci
  subst hci
  exact ⟨_, rfl, rfl⟩, fun R s args Z rm hts hK hR => cwV 2 hts (lw_V q1322 q1323 q1324 q104 q1325) rfl rfl rfl (by decide +kernel) hR⟩
theorem lk_X0_36 : zw_LV [1] "MultipoleLine" "MultipoleLineLaw" 36 yX1_firstEmpty cX1_firstEmpty 2 (Option.some Jvm.ClassFile.FieldType.int) 0 := ⟨by
  intro ci hci
  simp only [List.mem_cons, List.not_mem_nil, or_false] at hci
  subst hci
  exact ⟨_, rfl, rfl⟩, fun R s args Z rm hts hK hR => cwV 0 hts (lw_V q1330 q1331 q1332 q104 q1333) rfl rfl rfl (by decide +kernel) hR⟩
theorem lk_X0_40 : zw_LV [1] "MultipoleLine" "MultipoleLineLaw" 40 yX1_densest cX1_densest 6 (Option.some Jvm.ClassFile.FieldType.int) 0 := ⟨by
  intro ci hci
  simp only [List.mem_cons, List.not_mem_nil, or_false] at hci
  subst hci
  exact ⟨_, rfl, rfl⟩, fun R s args Z rm hts hK hR => cwV 0 hts (lw_V q1350 q1351 q1352 q104 q1353) rfl rfl rfl (by decide +kernel) hR⟩
theorem lk_X0_43 : zw_LV [1] "MultipoleLine" "MultipoleLineLaw" 43 yX1_moment cX1_moment 5 (Option.some Jvm.ClassFile.FieldType.long) 3 := ⟨by
  intro ci hci
  simp only [List.mem_cons, List.not_mem_nil, or_false] at hci
  subst hci
  exact ⟨_, rfl, rfl⟩, fun R s args Z rm hts hK hR => cwV 3 hts (lw_V q1361 q1362 q1363 q104 q1364) rfl rfl rfl (by decide +kernel) hR⟩
theorem lk_X0_47 : zw_LV [1] "MultipoleLine" "MultipoleLineLaw" 47 yX1_shifted cX1_shifted 5 (Option.some Jvm.ClassFile.FieldType.long) 3 := ⟨by
  intro ci hci
  simp only [List.mem_cons, List.not_mem_nil, or_false] at hci
  subst hci
  exact ⟨_, rfl, rfl⟩, fun R s args Z rm hts hK hR => cwV 3 hts (lw_V q1373 q1374 q1375 q104 q1376) rfl rfl rfl (by decide +kernel) hR⟩
theorem lk_X0_50 : zw_LV [1] "MultipoleLine" "MultipoleLineLaw" 50 yX1_momentGap cX1_momentGap 1 (Option.some Jvm.ClassFile.FieldType.long) 0 := ⟨by
  intro ci hci
  simp only [List.mem_cons, List.not_mem_nil, or_false] at hci
  subst hci
  exact ⟨_, rfl, rfl⟩, fun R s args Z rm hts hK hR => cwV 0 hts (lw_V q1393 q1394 q1395 q104 q1396) rfl rfl rfl (by decide +kernel) hR⟩
theorem lk_X0_54 : zw_LV [1] "MultipoleLine" "MultipoleLineLaw" 54 yX1_nearMany cX1_nearMany 2 (Option.some Jvm.ClassFile.FieldType.int) 1 := ⟨by
  intro ci hci
  simp only [List.mem_cons, List.not_mem_nil, or_false] at hci
  subst hci
  exact ⟨_, rfl, rfl⟩, fun R s args Z rm hts hK hR => cwV 1 hts (lw_V q1407 q1408 q1409 q104 q1410) rfl rfl rfl (by decide +kernel) hR⟩
theorem lk_X0_57 : zw_LV [1] "MultipoleLine" "MultipoleLineLaw" 57 yX1_nearBody cX1_nearBody 6 (Option.some Jvm.ClassFile.FieldType.int) 2 := ⟨by
  intro ci hci
  simp only [List.mem_cons, List.not_mem_nil, or_false] at hci
  subst hci
  exact ⟨_, rfl, rfl⟩, fun R s args Z rm hts hK hR => cwV 2 hts (lw_V q1469 q1470 q1471 q104 q1472) rfl rfl rfl (by decide +kernel) hR⟩
theorem lk_X0_60 : zw_LV [1] "MultipoleLine" "MultipoleLineLaw" 60 yX1_farMany cX1_farMany 2 (Option.some Jvm.ClassFile.FieldType.int) 1 := ⟨by
  intro ci hci
  simp only [List.mem_cons, List.not_mem_nil, or_false] at hci
  subst hci
  exact ⟨_, rfl, rfl⟩, fun R s args Z rm hts hK hR => cwV 1 hts (lw_V q1709 q1710 q1711 q104 q1712) rfl rfl rfl (by decide +kernel) hR⟩
theorem lk_X0_63 : zw_LV [1] "MultipoleLine" "MultipoleLineLaw" 63 yX1_farBox cX1_farBox 4 (Option.some Jvm.ClassFile.FieldType.int) 2 := ⟨by
  intro ci hci
  simp only [List.mem_cons, List.not_mem_nil, or_false] at hci
  subst hci
  exact ⟨_, rfl, rfl⟩, fun R s args Z rm hts hK hR => cwV 2 hts (lw_V q1733 q1734 q1735 q104 q1736) rfl rfl rfl (by decide +kernel) hR⟩
theorem lk_X0_66 : zw_LV [1] "MultipoleLine" "MultipoleLineLaw" 66 yX1_farBodies cX1_farBodies 2 (Option.some Jvm.ClassFile.FieldType.int) 1 := ⟨by
  intro ci hci
  simp only [List.mem_cons, List.not_mem_nil, or_false] at hci
  subst hci
  exact ⟨_, rfl, rfl⟩, fun R s args Z rm hts hK hR => cwV 1 hts (lw_V q1740 q1741 q1742 q104 q1743) rfl rfl rfl (by decide +kernel) hR⟩
theorem lk_X0_69 : zw_LV [1] "MultipoleLine" "MultipoleLineLaw" 69 yX1_cost cX1_cost 3 (Option.some Jvm.ClassFile.FieldType.int) 2 := ⟨by
  intro ci hci
  simp only [List.mem_cons, List.not_mem_nil, or_false] at hci
  subst hci
  exact ⟨_, rfl, rfl⟩, fun R s args Z rm hts hK hR => cwV 2 hts (lw_V q1752 q1753 q1754 q104 q1755) rfl rfl rfl (by decide +kernel) hR⟩
theorem lk_X0_73 : zw_LV [1] "MultipoleLine" "MultipoleLineLaw" 73 yX1_plain cX1_plain 2 (Option.some Jvm.ClassFile.FieldType.double) 1 := ⟨by
  intro ci hci
  simp only [List.mem_cons, List.not_mem_nil, or_false] at hci
  subst hci
  exact ⟨_, rfl, rfl⟩, fun R s args Z rm hts hK hR => cwV 1 hts (lw_V q1763 q1764 q1765 q104 q1766) rfl rfl rfl (by decide +kernel) hR⟩
theorem lk_X0_77 : zw_LV [1] "MultipoleLine" "MultipoleLineLaw" 77 yX1_nearSum cX1_nearSum 2 (Option.some Jvm.ClassFile.FieldType.double) 1 := ⟨by
  intro ci hci
  simp only [List.mem_cons, List.not_mem_nil, or_false] at hci
  subst hci
  exact ⟨_, rfl, rfl⟩, fun R s args Z rm hts hK hR => cwV 1 hts (lw_V q1792 q1793 q1794 q104 q1795) rfl rfl rfl (by decide +kernel) hR⟩
theorem lk_X0_80 : zw_LV [1] "MultipoleLine" "MultipoleLineLaw" 80 yX1_farSum cX1_farSum 2 (Option.some Jvm.ClassFile.FieldType.double) 1 := ⟨by
  intro ci hci
  simp only [List.mem_cons, List.not_mem_nil, or_false] at hci
  subst hci
  exact ⟨_, rfl, rfl⟩, fun R s args Z rm hts hK hR => cwV 1 hts (lw_V q1800 q1801 q1802 q104 q1803) rfl rfl rfl (by decide +kernel) hR⟩
theorem lk_X0_83 : zw_LV [1] "MultipoleLine" "MultipoleLineLaw" 83 yX1_farBits cX1_farBits 2 (Option.some Jvm.ClassFile.FieldType.long) 1 := ⟨by
  intro ci hci
  simp only [List.mem_cons, List.not_mem_nil, or_false] at hci
  subst hci
  exact ⟨_, rfl, rfl⟩, fun R s args Z rm hts hK hR => cwV 1 hts (lw_V q1808 q1809 q1810 q104 q1811) rfl rfl rfl (by decide +kernel) hR⟩
theorem lk_X0_87 : zw_LV [1] "MultipoleLine" "MultipoleLineLaw" 87 yX1_value cX1_value 5 (Option.some Jvm.ClassFile.FieldType.double) 3 := ⟨by
  intro ci hci
  simp only [List.mem_cons, List.not_mem_nil, or_false] at hci
  subst hci
  exact ⟨_, rfl, rfl⟩, fun R s args Z rm hts hK hR => cwV 3 hts (lw_V q1826 q1827 q1828 q104 q1829) rfl rfl rfl (by decide +kernel) hR⟩
theorem lk_X0_91 : zw_LV [1] "MultipoleLine" "MultipoleLineLaw" 91 yX1_bound cX1_bound 2 (Option.some Jvm.ClassFile.FieldType.double) 1 := ⟨by
  intro ci hci
  simp only [List.mem_cons, List.not_mem_nil, or_false] at hci
  subst hci
  exact ⟨_, rfl, rfl⟩, fun R s args Z rm hts hK hR => cwV 1 hts (lw_V q1835 q1836 q1837 q104 q1838) rfl rfl rfl (by decide +kernel) hR⟩
theorem lk_X0_94 : zw_LV [1] "MultipoleLine" "MultipoleLineLaw" 94 yX1_gapAt cX1_gapAt 2 (Option.some Jvm.ClassFile.FieldType.double) 1 := ⟨by
  intro ci hci
  simp only [List.mem_cons, List.not_mem_nil, or_false] at hci
  subst hci
  exact ⟨_, rfl, rfl⟩, fun R s args Z rm hts hK hR => cwV 1 hts (lw_V q1850 q1851 q1852 q104 q1853) rfl rfl rfl (by decide +kernel) hR⟩
theorem lk_X0_97 : zw_LV [1] "MultipoleLine" "MultipoleLineLaw" 97 yX1_isWithin cX1_isWithin 2 (Option.some Jvm.ClassFile.FieldType.boolean) 1 := ⟨by
  intro ci hci
  simp only [List.mem_cons, List.not_mem_nil, or_false] at hci
  subst hci
  exact ⟨_, rfl, rfl⟩, fun R s args Z rm hts hK hR => cwV 1 hts (lw_V q1865 q1866 q1867 q104 q1868) rfl rfl rfl (by decide +kernel) hR⟩
theorem lk_X0_101 : zw_LV [1] "MultipoleLine" "MultipoleLineLaw" 101 yX1_worst cX1_worst 8 (Option.some Jvm.ClassFile.FieldType.int) 0 := ⟨by
  intro ci hci
  simp only [List.mem_cons, List.not_mem_nil, or_false] at hci
  subst hci
  exact ⟨_, rfl, rfl⟩, fun R s args Z rm hts hK hR => cwV 0 hts (lw_V q1873 q1874 q1875 q104 q1876) rfl rfl rfl (by decide +kernel) hR⟩
theorem lk_X0_104 : zw_LV [1] "MultipoleLine" "MultipoleLineLaw" 104 yX1_localEntry cX1_localEntry 6 (Option.some Jvm.ClassFile.FieldType.double) 3 := ⟨by
  intro ci hci
  simp only [List.mem_cons, List.not_mem_nil, or_false] at hci
  subst hci
  exact ⟨_, rfl, rfl⟩, fun R s args Z rm hts hK hR => cwV 3 hts (lw_V q1880 q1881 q1882 q104 q1883) rfl rfl rfl (by decide +kernel) hR⟩
theorem lk_X0_107 : zw_LV [1] "MultipoleLine" "MultipoleLineLaw" 107 yX1_localSum cX1_localSum 2 (Option.some Jvm.ClassFile.FieldType.double) 1 := ⟨by
  intro ci hci
  simp only [List.mem_cons, List.not_mem_nil, or_false] at hci
  subst hci
  exact ⟨_, rfl, rfl⟩, fun R s args Z rm hts hK hR => cwV 1 hts (lw_V q1906 q1907 q1908 q104 q1909) rfl rfl rfl (by decide +kernel) hR⟩
theorem lk_X0_110 : zw_LV [1] "MultipoleLine" "MultipoleLineLaw" 110 yX1_pullPlain cX1_pullPlain 2 (Option.some Jvm.ClassFile.FieldType.double) 1 := ⟨by
  intro ci hci
  simp only [List.mem_cons, List.not_mem_nil, or_false] at hci
  subst hci
  exact ⟨_, rfl, rfl⟩, fun R s args Z rm hts hK hR => cwV 1 hts (lw_V q1917 q1918 q1919 q104 q1920) rfl rfl rfl (by decide +kernel) hR⟩
theorem lk_X0_113 : zw_LV [1] "MultipoleLine" "MultipoleLineLaw" 113 yX1_pullFar cX1_pullFar 2 (Option.some Jvm.ClassFile.FieldType.double) 1 := ⟨by
  intro ci hci
  simp only [List.mem_cons, List.not_mem_nil, or_false] at hci
  subst hci
  exact ⟨_, rfl, rfl⟩, fun R s args Z rm hts hK hR => cwV 1 hts (lw_V q1928 q1929 q1930 q104 q1931) rfl rfl rfl (by decide +kernel) hR⟩
theorem lk_X0_116 : zw_LV [1] "MultipoleLine" "MultipoleLineLaw" 116 yX1_pull cX1_pull 2 (Option.some Jvm.ClassFile.FieldType.double) 1 := ⟨by
  intro ci hci
  simp only [List.mem_cons, List.not_mem_nil, or_false] at hci
  subst hci
  exact ⟨_, rfl, rfl⟩, fun R s args Z rm hts hK hR => cwV 1 hts (lw_V q1939 q1940 q1941 q104 q1942) rfl rfl rfl (by decide +kernel) hR⟩
theorem lk_X0_119 : zw_LV [1] "MultipoleLine" "MultipoleLineLaw" 119 yX1_willMove cX1_willMove 3 (Option.some Jvm.ClassFile.FieldType.int) 1 := ⟨by
  intro ci hci
  simp only [List.mem_cons, List.not_mem_nil, or_false] at hci
  subst hci
  exact ⟨_, rfl, rfl⟩, fun R s args Z rm hts hK hR => cwV 1 hts (lw_V q1952 q1953 q1954 q104 q1955) rfl rfl rfl (by decide +kernel) hR⟩
theorem lk_X0_122 : zw_LV [1] "MultipoleLine" "MultipoleLineLaw" 122 yX1_placeIn cX1_placeIn 6 (Option.some Jvm.ClassFile.FieldType.int) 2 := ⟨by
  intro ci hci
  simp only [List.mem_cons, List.not_mem_nil, or_false] at hci
  subst hci
  exact ⟨_, rfl, rfl⟩, fun R s args Z rm hts hK hR => cwV 2 hts (lw_V q1965 q1966 q1967 q104 q1968) rfl rfl rfl (by decide +kernel) hR⟩
theorem lk_X0_125 : zw_LV [1] "MultipoleLine" "MultipoleLineLaw" 125 yX1_movesIn cX1_movesIn 3 (Option.some Jvm.ClassFile.FieldType.int) 1 := ⟨by
  intro ci hci
  simp only [List.mem_cons, List.not_mem_nil, or_false] at hci
  subst hci
  exact ⟨_, rfl, rfl⟩, fun R s args Z rm hts hK hR => cwV 1 hts (lw_V q2013 q2014 q2015 q104 q2016) rfl rfl rfl (by decide +kernel) hR⟩
theorem lk_X0_128 : zw_LV [1] "MultipoleLine" "MultipoleLineLaw" 128 yX1_stillIn cX1_stillIn 4 (Option.some Jvm.ClassFile.FieldType.int) 0 := ⟨by
  intro ci hci
  simp only [List.mem_cons, List.not_mem_nil, or_false] at hci
  subst hci
  exact ⟨_, rfl, rfl⟩, fun R s args Z rm hts hK hR => cwV 0 hts (lw_V q2020 q2021 q2022 q104 q2023) rfl rfl rfl (by decide +kernel) hR⟩
theorem lk_X0_131 : zw_LV [1] "MultipoleLine" "MultipoleLineLaw" 131 yX1_orderFor cX1_orderFor 7 (Option.some Jvm.ClassFile.FieldType.int) 2 := ⟨by
  intro ci hci
  simp only [List.mem_cons, List.not_mem_nil, or_false] at hci
  subst hci
  exact ⟨_, rfl, rfl⟩, fun R s args Z rm hts hK hR => cwV 2 hts (lw_V q2031 q2032 q2033 q104 q2034) rfl rfl rfl (by decide +kernel) hR⟩
theorem lk_X0_134 : zw_LV [1] "MultipoleLine" "MultipoleLineLaw" 134 yX1_bestLevels cX1_bestLevels 4 (Option.some Jvm.ClassFile.FieldType.int) 0 := ⟨by
  intro ci hci
  simp only [List.mem_cons, List.not_mem_nil, or_false] at hci
  subst hci
  exact ⟨_, rfl, rfl⟩, fun R s args Z rm hts hK hR => cwV 0 hts (lw_V q2040 q2041 q2042 q104 q2043) rfl rfl rfl (by decide +kernel) hR⟩
theorem lk_X0_137 : zw_LV [1] "MultipoleLine" "MultipoleLineLaw" 137 yX1_without cX1_without 4 (Option.some Jvm.ClassFile.FieldType.double) 2 := ⟨by
  intro ci hci
  simp only [List.mem_cons, List.not_mem_nil, or_false] at hci
  subst hci
  exact ⟨_, rfl, rfl⟩, fun R s args Z rm hts hK hR => cwV 2 hts (lw_V q2051 q2052 q2053 q104 q2054) rfl rfl rfl (by decide +kernel) hR⟩
theorem lk_X0_141 : zw_LV [1] "MultipoleLine" "MultipoleLineLaw" 141 yX1_quietest cX1_quietest 8 (Option.some Jvm.ClassFile.FieldType.int) 0 := ⟨by
  intro ci hci
  simp only [List.mem_cons, List.not_mem_nil, or_false] at hci
  subst hci
  exact ⟨_, rfl, rfl⟩, fun R s args Z rm hts hK hR => cwV 0 hts (lw_V q2058 q2059 q2060 q104 q2061) rfl rfl rfl (by decide +kernel) hR⟩
theorem lk_X0_144 : zw_LV [1] "MultipoleLine" "MultipoleLineLaw" 144 yX1_energy cX1_energy 7 (Option.some Jvm.ClassFile.FieldType.double) 1 := ⟨by
  intro ci hci
  simp only [List.mem_cons, List.not_mem_nil, or_false] at hci
  subst hci
  exact ⟨_, rfl, rfl⟩, fun R s args Z rm hts hK hR => cwV 1 hts (lw_V q2067 q2068 q2069 q104 q2070) rfl rfl rfl (by decide +kernel) hR⟩
theorem lk_X0_148 : zw_LV [1] "MultipoleLine" "MultipoleLineLaw" 148 yX1_nearestZero cX1_nearestZero 4 (Option.some Jvm.ClassFile.FieldType.int) 1 := ⟨by
  intro ci hci
  simp only [List.mem_cons, List.not_mem_nil, or_false] at hci
  subst hci
  exact ⟨_, rfl, rfl⟩, fun R s args Z rm hts hK hR => cwV 1 hts (lw_V q2075 q2076 q2077 q104 q2078) rfl rfl rfl (by decide +kernel) hR⟩
theorem lk_X0_151 : zw_LV [1] "MultipoleLine" "MultipoleLineLaw" 151 yX1_pairs cX1_pairs 8 (Option.some Jvm.ClassFile.FieldType.int) 1 := ⟨by
  intro ci hci
  simp only [List.mem_cons, List.not_mem_nil, or_false] at hci
  subst hci
  exact ⟨_, rfl, rfl⟩, fun R s args Z rm hts hK hR => cwV 1 hts (lw_V q2086 q2087 q2088 q104 q2089) rfl rfl rfl (by decide +kernel) hR⟩
theorem lk_X0_154 : zw_LV [1] "MultipoleLine" "MultipoleLineLaw" 154 yX1_balance cX1_balance 2 (Option.some Jvm.ClassFile.FieldType.float) 0 := ⟨by
  intro ci hci
  simp only [List.mem_cons, List.not_mem_nil, or_false] at hci
  subst hci
  exact ⟨_, rfl, rfl⟩, fun R s args Z rm hts hK hR => cwV 0 hts (lw_V q2098 q2099 q2100 q104 q2101) rfl rfl rfl (by decide +kernel) hR⟩
theorem lk_X0_158 : zw_LV [1] "MultipoleLine" "MultipoleLineLaw" 158 yX1_balanceBits cX1_balanceBits 1 (Option.some Jvm.ClassFile.FieldType.int) 0 := ⟨by
  intro ci hci
  simp only [List.mem_cons, List.not_mem_nil, or_false] at hci
  subst hci
  exact ⟨_, rfl, rfl⟩, fun R s args Z rm hts hK hR => cwV 0 hts (lw_V q2105 q2106 q2107 q104 q2108) rfl rfl rfl (by decide +kernel) hR⟩
theorem lk_X0_161 : zw_LV [1] "MultipoleLine" "MultipoleLineLaw" 161 yX1_meanX cX1_meanX 4 (Option.some Jvm.ClassFile.FieldType.double) 0 := ⟨by
  intro ci hci
  simp only [List.mem_cons, List.not_mem_nil, or_false] at hci
  subst hci
  exact ⟨_, rfl, rfl⟩, fun R s args Z rm hts hK hR => cwV 0 hts (lw_V q2123 q2124 q2125 q104 q2126) rfl rfl rfl (by decide +kernel) hR⟩
theorem lk_X0_165 : zw_LV [1] "MultipoleLine" "MultipoleLineLaw" 165 yX1_writeLeaves cX1_writeLeaves 7 (Option.some Jvm.ClassFile.FieldType.int) 0 := ⟨by
  intro ci hci
  simp only [List.mem_cons, List.not_mem_nil, or_false] at hci
  subst hci
  exact ⟨_, rfl, rfl⟩, fun R s args Z rm hts hK hR => cwV 0 hts (lw_V q2130 q2131 q2132 q104 q2133) rfl rfl rfl (by decide +kernel) hR⟩
theorem lk_X0_168 : zw_LV [1] "MultipoleLine" "MultipoleLineLaw" 168 yX1_writeBodies cX1_writeBodies 4 (Option.some Jvm.ClassFile.FieldType.int) 0 := ⟨by
  intro ci hci
  simp only [List.mem_cons, List.not_mem_nil, or_false] at hci
  subst hci
  exact ⟨_, rfl, rfl⟩, fun R s args Z rm hts hK hR => cwV 0 hts (lw_V q2191 q2192 q2193 q104 q2194) rfl rfl rfl (by decide +kernel) hR⟩
theorem lk_X0_171 : zw_LV [1] "MultipoleLine" "MultipoleLineLaw" 171 yX1_writeLine cX1_writeLine 4 (Option.some Jvm.ClassFile.FieldType.int) 0 := ⟨by
  intro ci hci
  simp only [List.mem_cons, List.not_mem_nil, or_false] at hci
  subst hci
  exact ⟨_, rfl, rfl⟩, fun R s args Z rm hts hK hR => cwV 0 hts (lw_V q2213 q2214 q2215 q104 q2216) rfl rfl rfl (by decide +kernel) hR⟩
theorem lk_X0_174 : zw_LV [1] "MultipoleLine" "MultipoleLineLaw" 174 yX1_writeFar cX1_writeFar 6 (Option.some Jvm.ClassFile.FieldType.int) 1 := ⟨by
  intro ci hci
  simp only [List.mem_cons, List.not_mem_nil, or_false] at hci
  subst hci
  exact ⟨_, rfl, rfl⟩, fun R s args Z rm hts hK hR => cwV 1 hts (lw_V q2224 q2225 q2226 q104 q2227) rfl rfl rfl (by decide +kernel) hR⟩
theorem lk_X0_177 : zw_LV [1] "MultipoleLine" "MultipoleLineLaw" 177 yX1_textByte cX1_textByte 2 (Option.some Jvm.ClassFile.FieldType.int) 1 := ⟨by
  intro ci hci
  simp only [List.mem_cons, List.not_mem_nil, or_false] at hci
  subst hci
  exact ⟨_, rfl, rfl⟩, fun R s args Z rm hts hK hR => cwV 1 hts (lw_V q2231 q2232 q2233 q104 q2234) rfl rfl rfl (by decide +kernel) hR⟩
theorem lk_X0_180 : zw_LV [1] "MultipoleLine" "MultipoleLineLaw" 180 yX1_add cX1_add 5 (Option.some Jvm.ClassFile.FieldType.int) 3 := ⟨by
  intro ci hci
  simp only [List.mem_cons, List.not_mem_nil, or_false] at hci
  subst hci
  exact ⟨_, rfl, rfl⟩, fun R s args Z rm hts hK hR => cwV 3 hts (lw_V q2248 q2249 q2250 q104 q2251) rfl rfl rfl (by decide +kernel) hR⟩
theorem lk_X0_184 : zw_LV [1] "MultipoleLine" "MultipoleLineLaw" 184 yX1_move cX1_move 4 (Option.some Jvm.ClassFile.FieldType.int) 2 := ⟨by
  intro ci hci
  simp only [List.mem_cons, List.not_mem_nil, or_false] at hci
  subst hci
  exact ⟨_, rfl, rfl⟩, fun R s args Z rm hts hK hR => cwV 2 hts (lw_V q2305 q2306 q2307 q104 q2308) rfl rfl rfl (by decide +kernel) hR⟩
theorem lk_X0_187 : zw_LV [1] "MultipoleLine" "MultipoleLineLaw" 187 yX1_setCharge cX1_setCharge 4 (Option.some Jvm.ClassFile.FieldType.int) 2 := ⟨by
  intro ci hci
  simp only [List.mem_cons, List.not_mem_nil, or_false] at hci
  subst hci
  exact ⟨_, rfl, rfl⟩, fun R s args Z rm hts hK hR => cwV 2 hts (lw_V q2312 q2313 q2314 q104 q2315) rfl rfl rfl (by decide +kernel) hR⟩
theorem lk_X0_190 : zw_LV [1] "MultipoleLine" "MultipoleLineLaw" 190 yX1_remove cX1_remove 4 (Option.some Jvm.ClassFile.FieldType.int) 1 := ⟨by
  intro ci hci
  simp only [List.mem_cons, List.not_mem_nil, or_false] at hci
  subst hci
  exact ⟨_, rfl, rfl⟩, fun R s args Z rm hts hK hR => cwV 1 hts (lw_V q2319 q2320 q2321 q104 q2322) rfl rfl rfl (by decide +kernel) hR⟩
theorem lk_X0_193 : zw_LV [1] "MultipoleLine" "MultipoleLineLaw" 193 yX1_step cX1_step 3 (Option.some Jvm.ClassFile.FieldType.int) 1 := ⟨by
  intro ci hci
  simp only [List.mem_cons, List.not_mem_nil, or_false] at hci
  subst hci
  exact ⟨_, rfl, rfl⟩, fun R s args Z rm hts hK hR => cwV 1 hts (lw_V q2350 q2351 q2352 q104 q2353) rfl rfl rfl (by decide +kernel) hR⟩
theorem lk_X0_196 : zw_LV [1] "MultipoleLine" "MultipoleLineLaw" 196 yX1_setNumber cX1_setNumber 5 (Option.some Jvm.ClassFile.FieldType.int) 2 := ⟨by
  intro ci hci
  simp only [List.mem_cons, List.not_mem_nil, or_false] at hci
  subst hci
  exact ⟨_, rfl, rfl⟩, fun R s args Z rm hts hK hR => cwV 2 hts (lw_V q2357 q2358 q2359 q104 q2360) rfl rfl rfl (by decide +kernel) hR⟩
theorem lk_X0_199 : zw_LV [1] "MultipoleLine" "MultipoleLineLaw" 199 yX1_undo cX1_undo 1 (Option.some Jvm.ClassFile.FieldType.int) 0 := ⟨by
  intro ci hci
  simp only [List.mem_cons, List.not_mem_nil, or_false] at hci
  subst hci
  exact ⟨_, rfl, rfl⟩, fun R s args Z rm hts hK hR => cwV 0 hts (lw_V q2368 q2369 q2370 q104 q2371) rfl rfl rfl (by decide +kernel) hR⟩
theorem lk_X0_202 : zw_LV [1] "MultipoleLine" "MultipoleLineLaw" 202 yX1_save cX1_save 3 (Option.some Jvm.ClassFile.FieldType.int) 1 := ⟨by
  intro ci hci
  simp only [List.mem_cons, List.not_mem_nil, or_false] at hci
  subst hci
  exact ⟨_, rfl, rfl⟩, fun R s args Z rm hts hK hR => cwV 1 hts (lw_V q2390 q2391 q2392 q104 q2393) rfl rfl rfl (by decide +kernel) hR⟩
theorem lk_X0_205 : zw_LV [1] "MultipoleLine" "MultipoleLineLaw" 205 yX1_restore cX1_restore 2 (Option.some Jvm.ClassFile.FieldType.int) 1 := ⟨by
  intro ci hci
  simp only [List.mem_cons, List.not_mem_nil, or_false] at hci
  subst hci
  exact ⟨_, rfl, rfl⟩, fun R s args Z rm hts hK hR => cwV 1 hts (lw_V q2397 q2398 q2399 q104 q2400) rfl rfl rfl (by decide +kernel) hR⟩
