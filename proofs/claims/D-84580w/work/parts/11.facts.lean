set_option maxRecDepth 100000
/-! facts by program: methods, links, fields, places -/
abbrev M_J0_charAt : MI := (⟨"java/lang/String", "charAt", "(I)C"⟩, cJ0_charAt, 2, (some .char))
theorem mf_J0_charAt : MF M_J0_charAt false 1 := ⟨q798, q230, ⟨by decide, by decide⟩, by decide +kernel, by decide, (fun h => by cases h), fun _ => q796⟩
abbrev M_J0_checkBoundsBeginEnd : MI := (⟨"java/lang/String", "checkBoundsBeginEnd", "(III)V"⟩, cJ0_checkBoundsBeginEnd, 3, none)
theorem mf_J0_checkBoundsBeginEnd : MF M_J0_checkBoundsBeginEnd true 3 := ⟨q882, q230, ⟨by decide, by decide⟩, by decide +kernel, by decide, fun _ => q881, (fun h => by cases h)⟩
abbrev M_J0_checkIndex : MI := (⟨"java/lang/String", "checkIndex", "(II)V"⟩, cJ0_checkIndex, 2, none)
theorem mf_J0_checkIndex : MF M_J0_checkIndex true 2 := ⟨q808, q230, ⟨by decide, by decide⟩, by decide +kernel, by decide, fun _ => q807, (fun h => by cases h)⟩
abbrev M_J0_coder : MI := (⟨"java/lang/String", "coder", "()B"⟩, cJ0_coder, 1, (some .byte))
theorem mf_J0_coder : MF M_J0_coder false 0 := ⟨q792, q230, ⟨by decide, by decide⟩, by decide +kernel, by decide, (fun h => by cases h), fun _ => q790⟩
abbrev M_J0_indexOf : MI := (⟨"java/lang/String", "indexOf", "(I)I"⟩, cJ0_indexOf, 2, (some .int))
theorem mf_J0_indexOf : MF M_J0_indexOf false 1 := ⟨q849, q230, ⟨by decide, by decide⟩, by decide +kernel, by decide, (fun h => by cases h), fun _ => q847⟩
abbrev M_J0_indexOf_2 : MI := (⟨"java/lang/String", "indexOf", "(II)I"⟩, cJ0_indexOf_2, 3, (some .int))
theorem mf_J0_indexOf_2 : MF M_J0_indexOf_2 false 2 := ⟨q853, q230, ⟨by decide, by decide⟩, by decide +kernel, by decide, (fun h => by cases h), fun _ => q851⟩
abbrev M_J0_isLatin1 : MI := (⟨"java/lang/String", "isLatin1", "()Z"⟩, cJ0_isLatin1, 1, (some .boolean))
theorem mf_J0_isLatin1 : MF M_J0_isLatin1 false 0 := ⟨q802, q230, ⟨by decide, by decide⟩, by decide +kernel, by decide, (fun h => by cases h), fun _ => q800⟩
abbrev M_J0_length : MI := (⟨"java/lang/String", "length", "()I"⟩, cJ0_length, 1, (some .int))
theorem mf_J0_length : MF M_J0_length false 0 := ⟨q788, q230, ⟨by decide, by decide⟩, by decide +kernel, by decide, (fun h => by cases h), fun _ => q786⟩
abbrev M_J1_canEncode : MI := (⟨"java/lang/StringLatin1", "canEncode", "(I)Z"⟩, cJ1_canEncode, 1, (some .boolean))
theorem mf_J1_canEncode : MF M_J1_canEncode true 1 := ⟨q860, q231, ⟨by decide, by decide⟩, by decide +kernel, by decide, fun _ => q859, (fun h => by cases h)⟩
abbrev M_J1_charAt : MI := (⟨"java/lang/StringLatin1", "charAt", "([BI)C"⟩, cJ1_charAt, 2, (some .char))
theorem mf_J1_charAt : MF M_J1_charAt true 2 := ⟨q805, q231, ⟨by decide, by decide⟩, by decide +kernel, by decide, fun _ => q804, (fun h => by cases h)⟩
abbrev M_J1_indexOf : MI := (⟨"java/lang/StringLatin1", "indexOf", "([BIII)I"⟩, cJ1_indexOf, 4, (some .int))
theorem mf_J1_indexOf : MF M_J1_indexOf true 4 := ⟨q857, q231, ⟨by decide, by decide⟩, by decide +kernel, by decide, fun _ => q856, (fun h => by cases h)⟩
abbrev M_J1_indexOfChar : MI := (⟨"java/lang/StringLatin1", "indexOfChar", "([BIII)I"⟩, cJ1_indexOfChar, 6, (some .int))
theorem mf_J1_indexOfChar : MF M_J1_indexOfChar true 4 := ⟨q867, q231, ⟨by decide, by decide⟩, by decide +kernel, by decide, fun _ => q866, (fun h => by cases h)⟩
abbrev M_J2_checkFromToIndex : MI := (⟨"jdk/internal/util/Preconditions", "checkFromToIndex", "(IIILjava/util/function/BiFunction;)I"⟩, cJ2_checkFromToIndex, 4, (some .int))
theorem mf_J2_checkFromToIndex : MF M_J2_checkFromToIndex true 4 := ⟨q885, q232, ⟨by decide, by decide⟩, by decide +kernel, by decide, fun _ => q884, (fun h => by cases h)⟩
abbrev M_J2_checkIndex : MI := (⟨"jdk/internal/util/Preconditions", "checkIndex", "(IILjava/util/function/BiFunction;)I"⟩, cJ2_checkIndex, 3, (some .int))
theorem mf_J2_checkIndex : MF M_J2_checkIndex true 3 := ⟨q813, q232, ⟨by decide, by decide⟩, by decide +kernel, by decide, fun _ => q812, (fun h => by cases h)⟩
abbrev M_J3_charAt : MI := (⟨"java/lang/StringUTF16", "charAt", "([BI)C"⟩, cJ3_charAt, 2, (some .char))
theorem mf_J3_charAt : MF M_J3_charAt true 2 := ⟨q816, q233, ⟨by decide, by decide⟩, by decide +kernel, by decide, fun _ => q815, (fun h => by cases h)⟩
abbrev M_J3_checkBoundsBeginEnd : MI := (⟨"java/lang/StringUTF16", "checkBoundsBeginEnd", "(II[B)V"⟩, cJ3_checkBoundsBeginEnd, 3, none)
theorem mf_J3_checkBoundsBeginEnd : MF M_J3_checkBoundsBeginEnd true 3 := ⟨q879, q233, ⟨by decide, by decide⟩, by decide +kernel, by decide, fun _ => q878, (fun h => by cases h)⟩
abbrev M_J3_checkIndex : MI := (⟨"java/lang/StringUTF16", "checkIndex", "(I[B)V"⟩, cJ3_checkIndex, 2, none)
theorem mf_J3_checkIndex : MF M_J3_checkIndex true 2 := ⟨q819, q233, ⟨by decide, by decide⟩, by decide +kernel, by decide, fun _ => q818, (fun h => by cases h)⟩
abbrev M_J3_getChar : MI := (⟨"java/lang/StringUTF16", "getChar", "([BI)C"⟩, cJ3_getChar, 2, (some .char))
theorem mf_J3_getChar : MF M_J3_getChar true 2 := ⟨q826, q233, ⟨by decide, by decide⟩, by decide +kernel, by decide, fun _ => q825, (fun h => by cases h)⟩
abbrev M_J3_indexOf : MI := (⟨"java/lang/StringUTF16", "indexOf", "([BIII)I"⟩, cJ3_indexOf, 4, (some .int))
theorem mf_J3_indexOf : MF M_J3_indexOf true 4 := ⟨q870, q233, ⟨by decide, by decide⟩, by decide +kernel, by decide, fun _ => q869, (fun h => by cases h)⟩
abbrev M_J3_indexOfChar : MI := (⟨"java/lang/StringUTF16", "indexOfChar", "([BIII)I"⟩, cJ3_indexOfChar, 4, (some .int))
theorem mf_J3_indexOfChar : MF M_J3_indexOfChar true 4 := ⟨q876, q233, ⟨by decide, by decide⟩, by decide +kernel, by decide, fun _ => q875, (fun h => by cases h)⟩
abbrev M_J3_indexOfCharUnsafe : MI := (⟨"java/lang/StringUTF16", "indexOfCharUnsafe", "([BIII)I"⟩, cJ3_indexOfCharUnsafe, 5, (some .int))
theorem mf_J3_indexOfCharUnsafe : MF M_J3_indexOfCharUnsafe true 4 := ⟨q888, q233, ⟨by decide, by decide⟩, by decide +kernel, by decide, fun _ => q887, (fun h => by cases h)⟩
abbrev M_J3_indexOfSupplementary : MI := (⟨"java/lang/StringUTF16", "indexOfSupplementary", "([BIII)I"⟩, cJ3_indexOfSupplementary, 7, (some .int))
theorem mf_J3_indexOfSupplementary : MF M_J3_indexOfSupplementary true 4 := ⟨q891, q233, ⟨by decide, by decide⟩, by decide +kernel, by decide, fun _ => q890, (fun h => by cases h)⟩
abbrev M_J3_length : MI := (⟨"java/lang/StringUTF16", "length", "([B)I"⟩, cJ3_length, 1, (some .int))
theorem mf_J3_length : MF M_J3_length true 1 := ⟨q822, q233, ⟨by decide, by decide⟩, by decide +kernel, by decide, fun _ => q821, (fun h => by cases h)⟩
abbrev M_J4_abs : MI := (⟨"java/lang/Math", "abs", "(J)J"⟩, cJ4_abs, 2, (some .long))
theorem mf_J4_abs : MF M_J4_abs true 1 := ⟨q1403, q234, ⟨by decide, by decide⟩, by decide +kernel, by decide, fun _ => q1402, (fun h => by cases h)⟩
abbrev M_J4_abs_2 : MI := (⟨"java/lang/Math", "abs", "(I)I"⟩, cJ4_abs_2, 1, (some .int))
theorem mf_J4_abs_2 : MF M_J4_abs_2 true 1 := ⟨q1560, q234, ⟨by decide, by decide⟩, by decide +kernel, by decide, fun _ => q1559, (fun h => by cases h)⟩
abbrev M_J4_floorDiv : MI := (⟨"java/lang/Math", "floorDiv", "(II)I"⟩, cJ4_floorDiv, 3, (some .int))
theorem mf_J4_floorDiv : MF M_J4_floorDiv true 2 := ⟨q1557, q234, ⟨by decide, by decide⟩, by decide +kernel, by decide, fun _ => q1556, (fun h => by cases h)⟩
abbrev M_J4_floorMod : MI := (⟨"java/lang/Math", "floorMod", "(II)I"⟩, cJ4_floorMod, 3, (some .int))
theorem mf_J4_floorMod : MF M_J4_floorMod true 2 := ⟨q1330, q234, ⟨by decide, by decide⟩, by decide +kernel, by decide, fun _ => q1329, (fun h => by cases h)⟩
abbrev M_J4_floorMod_2 : MI := (⟨"java/lang/Math", "floorMod", "(JJ)J"⟩, cJ4_floorMod_2, 6, (some .long))
theorem mf_J4_floorMod_2 : MF M_J4_floorMod_2 true 2 := ⟨q1417, q234, ⟨by decide, by decide⟩, by decide +kernel, by decide, fun _ => q1416, (fun h => by cases h)⟩
abbrev M_J4_max : MI := (⟨"java/lang/Math", "max", "(II)I"⟩, cJ4_max, 2, (some .int))
theorem mf_J4_max : MF M_J4_max true 2 := ⟨q836, q234, ⟨by decide, by decide⟩, by decide +kernel, by decide, fun _ => q835, (fun h => by cases h)⟩
abbrev M_J4_max_2 : MI := (⟨"java/lang/Math", "max", "(JJ)J"⟩, cJ4_max_2, 4, (some .long))
theorem mf_J4_max_2 : MF M_J4_max_2 true 2 := ⟨q2309, q234, ⟨by decide, by decide⟩, by decide +kernel, by decide, fun _ => q2308, (fun h => by cases h)⟩
abbrev M_J4_min : MI := (⟨"java/lang/Math", "min", "(II)I"⟩, cJ4_min, 2, (some .int))
theorem mf_J4_min : MF M_J4_min true 2 := ⟨q864, q234, ⟨by decide, by decide⟩, by decide +kernel, by decide, fun _ => q863, (fun h => by cases h)⟩
abbrev M_J5_highSurrogate : MI := (⟨"java/lang/Character", "highSurrogate", "(I)C"⟩, cJ5_highSurrogate, 1, (some .char))
theorem mf_J5_highSurrogate : MF M_J5_highSurrogate true 1 := ⟨q897, q235, ⟨by decide, by decide⟩, by decide +kernel, by decide, fun _ => q896, (fun h => by cases h)⟩
abbrev M_J5_isValidCodePoint : MI := (⟨"java/lang/Character", "isValidCodePoint", "(I)Z"⟩, cJ5_isValidCodePoint, 2, (some .boolean))
theorem mf_J5_isValidCodePoint : MF M_J5_isValidCodePoint true 1 := ⟨q894, q235, ⟨by decide, by decide⟩, by decide +kernel, by decide, fun _ => q893, (fun h => by cases h)⟩
abbrev M_J5_lowSurrogate : MI := (⟨"java/lang/Character", "lowSurrogate", "(I)C"⟩, cJ5_lowSurrogate, 1, (some .char))
theorem mf_J5_lowSurrogate : MF M_J5_lowSurrogate true 1 := ⟨q901, q235, ⟨by decide, by decide⟩, by decide +kernel, by decide, fun _ => q900, (fun h => by cases h)⟩
abbrev M_J6_numberOfTrailingZeros : MI := (⟨"java/lang/Integer", "numberOfTrailingZeros", "(I)I"⟩, cJ6_numberOfTrailingZeros, 2, (some .int))
theorem mf_J6_numberOfTrailingZeros : MF M_J6_numberOfTrailingZeros true 1 := ⟨q1489, q237, ⟨by decide, by decide⟩, by decide +kernel, by decide, fun _ => q1488, (fun h => by cases h)⟩
abbrev M_X0_count : MI := (⟨"AlgebraHouse", "count", "(I)I"⟩, cX0_count, 2, (some .int))
theorem mf_X0_count : MF M_X0_count false 1 := ⟨q1576, q218, ⟨by decide, by decide⟩, by decide +kernel, by decide, (fun h => by cases h), fun _ => q1574⟩
abbrev M_X0_entry : MI := (⟨"AlgebraHouse", "entry", "(IIIIII)I"⟩, cX0_entry, 12, (some .int))
theorem mf_X0_entry : MF M_X0_entry false 6 := ⟨q1598, q218, ⟨by decide, by decide⟩, by decide +kernel, by decide, (fun h => by cases h), fun _ => q1596⟩
abbrev M_X0_feed : MI := (⟨"AlgebraHouse", "feed", "(IIIII)I"⟩, cX0_feed, 8, (some .int))
theorem mf_X0_feed : MF M_X0_feed false 5 := ⟨q741, q218, ⟨by decide, by decide⟩, by decide +kernel, by decide, (fun h => by cases h), fun _ => q739⟩
abbrev M_X0_function : MI := (⟨"AlgebraHouse", "function", "(II)I"⟩, cX0_function, 7, (some .int))
theorem mf_X0_function : MF M_X0_function false 2 := ⟨q1604, q218, ⟨by decide, by decide⟩, by decide +kernel, by decide, (fun h => by cases h), fun _ => q1602⟩
abbrev M_X0_init : MI := (⟨"AlgebraHouse", "<init>", "()V"⟩, cX0_init, 1, none)
theorem mf_X0_init : MF M_X0_init false 0 := ⟨q242, q218, ⟨by decide, by decide⟩, by decide +kernel, by decide, (fun h => by cases h), fun _ => q241⟩
abbrev M_X0_isThere : MI := (⟨"AlgebraHouse", "isThere", "(I)Z"⟩, cX0_isThere, 2, (some .boolean))
theorem mf_X0_isThere : MF M_X0_isThere false 1 := ⟨q1584, q218, ⟨by decide, by decide⟩, by decide +kernel, by decide, (fun h => by cases h), fun _ => q1583⟩
abbrev M_X0_keep : MI := (⟨"AlgebraHouse", "keep", "(LAlgebraHouse$Text;I)V"⟩, cX0_keep, 5, none)
theorem mf_X0_keep : MF M_X0_keep false 2 := ⟨q1565, q218, ⟨by decide, by decide⟩, by decide +kernel, by decide, (fun h => by cases h), fun _ => q1564⟩
abbrev M_X0_line : MI := (⟨"AlgebraHouse", "line", "(I)I"⟩, cX0_line, 4, (some .int))
theorem mf_X0_line : MF M_X0_line false 1 := ⟨q745, q218, ⟨by decide, by decide⟩, by decide +kernel, by decide, (fun h => by cases h), fun _ => q743⟩
abbrev M_X0_meant : MI := (⟨"AlgebraHouse", "meant", "(JIIII)I"⟩, cX0_meant, 11, (some .int))
theorem mf_X0_meant : MF M_X0_meant false 5 := ⟨q1608, q218, ⟨by decide, by decide⟩, by decide +kernel, by decide, (fun h => by cases h), fun _ => q1606⟩
abbrev M_X0_ring : MI := (⟨"AlgebraHouse", "ring", "(II)I"⟩, cX0_ring, 3, (some .int))
theorem mf_X0_ring : MF M_X0_ring false 2 := ⟨q1580, q218, ⟨by decide, by decide⟩, by decide +kernel, by decide, (fun h => by cases h), fun _ => q1578⟩
abbrev M_X0_ringOf : MI := (⟨"AlgebraHouse", "ringOf", "(I)I"⟩, cX0_ringOf, 2, (some .int))
theorem mf_X0_ringOf : MF M_X0_ringOf false 1 := ⟨q1588, q218, ⟨by decide, by decide⟩, by decide +kernel, by decide, (fun h => by cases h), fun _ => q1587⟩
abbrev M_X0_shown : MI := (⟨"AlgebraHouse", "shown", "(II)I"⟩, cX0_shown, 2, (some .int))
theorem mf_X0_shown : MF M_X0_shown true 2 := ⟨q1591, q218, ⟨by decide, by decide⟩, by decide +kernel, by decide, fun _ => q1590, (fun h => by cases h)⟩
abbrev M_X0_told : MI := (⟨"AlgebraHouse", "told", "(I)I"⟩, cX0_told, 2, (some .int))
theorem mf_X0_told : MF M_X0_told false 1 := ⟨q1572, q218, ⟨by decide, by decide⟩, by decide +kernel, by decide, (fun h => by cases h), fun _ => q1570⟩
abbrev M_X10_accept : MI := (⟨"AlgebraHouseModel", "accept", "()V"⟩, cX10_accept, 1, none)
theorem mf_X10_accept : MF M_X10_accept false 0 := ⟨q2054, q228, ⟨by decide, by decide⟩, by decide +kernel, by decide, (fun h => by cases h), fun _ => q2053⟩
abbrev M_X10_addBlocks : MI := (⟨"AlgebraHouseModel", "addBlocks", "(IIIII)V"⟩, cX10_addBlocks, 7, none)
theorem mf_X10_addBlocks : MF M_X10_addBlocks false 5 := ⟨q2407, q228, ⟨by decide, by decide⟩, by decide +kernel, by decide, (fun h => by cases h), fun _ => q2406⟩
abbrev M_X10_addNumbers : MI := (⟨"AlgebraHouseModel", "addNumbers", "(III)V"⟩, cX10_addNumbers, 4, none)
theorem mf_X10_addNumbers : MF M_X10_addNumbers false 3 := ⟨q2401, q228, ⟨by decide, by decide⟩, by decide +kernel, by decide, (fun h => by cases h), fun _ => q2400⟩
abbrev M_X10_addValues : MI := (⟨"AlgebraHouseModel", "addValues", "(IIIIIIZ)V"⟩, cX10_addValues, 10, none)
theorem mf_X10_addValues : MF M_X10_addValues false 7 := ⟨q2442, q228, ⟨by decide, by decide⟩, by decide +kernel, by decide, (fun h => by cases h), fun _ => q2441⟩
abbrev M_X10_adjoin : MI := (⟨"AlgebraHouseModel", "adjoin", "(IIIII)V"⟩, cX10_adjoin, 13, none)
theorem mf_X10_adjoin : MF M_X10_adjoin false 5 := ⟨q2531, q228, ⟨by decide, by decide⟩, by decide +kernel, by decide, (fun h => by cases h), fun _ => q2530⟩
abbrev M_X10_arguments : MI := (⟨"AlgebraHouseModel", "arguments", "(III)V"⟩, cX10_arguments, 8, none)
theorem mf_X10_arguments : MF M_X10_arguments false 3 := ⟨q2334, q228, ⟨by decide, by decide⟩, by decide +kernel, by decide, (fun h => by cases h), fun _ => q2333⟩
abbrev M_X10_built : MI := (⟨"AlgebraHouseModel", "built", "(IIIII)V"⟩, cX10_built, 11, none)
theorem mf_X10_built : MF M_X10_built false 5 := ⟨q2486, q228, ⟨by decide, by decide⟩, by decide +kernel, by decide, (fun h => by cases h), fun _ => q2485⟩
abbrev M_X10_builtInOf : MI := (⟨"AlgebraHouseModel", "builtInOf", "(J)I"⟩, cX10_builtInOf, 4, (some .int))
theorem mf_X10_builtInOf : MF M_X10_builtInOf false 1 := ⟨q2036, q228, ⟨by decide, by decide⟩, by decide +kernel, by decide, (fun h => by cases h), fun _ => q2035⟩
abbrev M_X10_canBe : MI := (⟨"AlgebraHouseModel", "canBe", "(IIII)Z"⟩, cX10_canBe, 7, (some .boolean))
theorem mf_X10_canBe : MF M_X10_canBe false 4 := ⟨q2237, q228, ⟨by decide, by decide⟩, by decide +kernel, by decide, (fun h => by cases h), fun _ => q2236⟩
abbrev M_X10_characterize : MI := (⟨"AlgebraHouseModel", "characterize", "(III)V"⟩, cX10_characterize, 7, none)
theorem mf_X10_characterize : MF M_X10_characterize false 3 := ⟨q2539, q228, ⟨by decide, by decide⟩, by decide +kernel, by decide, (fun h => by cases h), fun _ => q2538⟩
abbrev M_X10_clear : MI := (⟨"AlgebraHouseModel", "clear", "(II)V"⟩, cX10_clear, 4, none)
theorem mf_X10_clear : MF M_X10_clear false 2 := ⟨q2322, q228, ⟨by decide, by decide⟩, by decide +kernel, by decide, (fun h => by cases h), fun _ => q2321⟩
abbrev M_X10_closeWith : MI := (⟨"AlgebraHouseModel", "closeWith", "(I)V"⟩, cX10_closeWith, 2, none)
theorem mf_X10_closeWith : MF M_X10_closeWith false 1 := ⟨q2090, q228, ⟨by decide, by decide⟩, by decide +kernel, by decide, (fun h => by cases h), fun _ => q2089⟩
abbrev M_X10_coefficient : MI := (⟨"AlgebraHouseModel", "coefficient", "(IJI)V"⟩, cX10_coefficient, 5, none)
theorem mf_X10_coefficient : MF M_X10_coefficient false 3 := ⟨q2503, q228, ⟨by decide, by decide⟩, by decide +kernel, by decide, (fun h => by cases h), fun _ => q2502⟩
abbrev M_X10_common : MI := (⟨"AlgebraHouseModel", "common", "(JJ)J"⟩, cX10_common, 10, (some .long))
theorem mf_X10_common : MF M_X10_common true 2 := ⟨q2383, q228, ⟨by decide, by decide⟩, by decide +kernel, by decide, fun _ => q2382, (fun h => by cases h)⟩
abbrev M_X10_copy : MI := (⟨"AlgebraHouseModel", "copy", "(III)V"⟩, cX10_copy, 5, none)
theorem mf_X10_copy : MF M_X10_copy false 3 := ⟨q2330, q228, ⟨by decide, by decide⟩, by decide +kernel, by decide, (fun h => by cases h), fun _ => q2329⟩
abbrev M_X10_count : MI := (⟨"AlgebraHouseModel", "count", "(I)I"⟩, cX10_count, 2, (some .int))
theorem mf_X10_count : MF M_X10_count false 1 := ⟨q2578, q228, ⟨by decide, by decide⟩, by decide +kernel, by decide, (fun h => by cases h), fun _ => q2576⟩
abbrev M_X10_degreeOf : MI := (⟨"AlgebraHouseModel", "degreeOf", "(I)I"⟩, cX10_degreeOf, 3, (some .int))
theorem mf_X10_degreeOf : MF M_X10_degreeOf false 1 := ⟨q2470, q228, ⟨by decide, by decide⟩, by decide +kernel, by decide, (fun h => by cases h), fun _ => q2469⟩
abbrev M_X10_derive : MI := (⟨"AlgebraHouseModel", "derive", "(III)V"⟩, cX10_derive, 6, none)
theorem mf_X10_derive : MF M_X10_derive false 3 := ⟨q2512, q228, ⟨by decide, by decide⟩, by decide +kernel, by decide, (fun h => by cases h), fun _ => q2511⟩
abbrev M_X10_det : MI := (⟨"AlgebraHouseModel", "det", "(IIIII)V"⟩, cX10_det, 9, none)
theorem mf_X10_det : MF M_X10_det false 5 := ⟨q2516, q228, ⟨by decide, by decide⟩, by decide +kernel, by decide, (fun h => by cases h), fun _ => q2515⟩
abbrev M_X10_divide : MI := (⟨"AlgebraHouseModel", "divide", "(IIII)V"⟩, cX10_divide, 11, none)
theorem mf_X10_divide : MF M_X10_divide false 4 := ⟨q2465, q228, ⟨by decide, by decide⟩, by decide +kernel, by decide, (fun h => by cases h), fun _ => q2464⟩
abbrev M_X10_divideBy : MI := (⟨"AlgebraHouseModel", "divideBy", "(IIIII)V"⟩, cX10_divideBy, 10, none)
theorem mf_X10_divideBy : MF M_X10_divideBy false 5 := ⟨q2454, q228, ⟨by decide, by decide⟩, by decide +kernel, by decide, (fun h => by cases h), fun _ => q2453⟩
abbrev M_X10_divideNumbers : MI := (⟨"AlgebraHouseModel", "divideNumbers", "(III)V"⟩, cX10_divideNumbers, 4, none)
theorem mf_X10_divideNumbers : MF M_X10_divideNumbers false 3 := ⟨q2458, q228, ⟨by decide, by decide⟩, by decide +kernel, by decide, (fun h => by cases h), fun _ => q2457⟩
abbrev M_X10_entry : MI := (⟨"AlgebraHouseModel", "entry", "(IIIIII)I"⟩, cX10_entry, 10, (some .int))
theorem mf_X10_entry : MF M_X10_entry false 6 := ⟨q2591, q228, ⟨by decide, by decide⟩, by decide +kernel, by decide, (fun h => by cases h), fun _ => q2589⟩
abbrev M_X10_entryAt : MI := (⟨"AlgebraHouseModel", "entryAt", "(III)I"⟩, cX10_entryAt, 3, (some .int))
theorem mf_X10_entryAt : MF M_X10_entryAt true 3 := ⟨q2357, q228, ⟨by decide, by decide⟩, by decide +kernel, by decide, fun _ => q2356, (fun h => by cases h)⟩
abbrev M_X10_eval : MI := (⟨"AlgebraHouseModel", "eval", "(I)V"⟩, cX10_eval, 2, none)
theorem mf_X10_eval : MF M_X10_eval false 1 := ⟨q2277, q228, ⟨by decide, by decide⟩, by decide +kernel, by decide, (fun h => by cases h), fun _ => q2276⟩
abbrev M_X10_evalAt : MI := (⟨"AlgebraHouseModel", "evalAt", "(IIII)V"⟩, cX10_evalAt, 6, none)
theorem mf_X10_evalAt : MF M_X10_evalAt false 4 := ⟨q2507, q228, ⟨by decide, by decide⟩, by decide +kernel, by decide, (fun h => by cases h), fun _ => q2506⟩
abbrev M_X10_evalEntry : MI := (⟨"AlgebraHouseModel", "evalEntry", "(IIII)V"⟩, cX10_evalEntry, 7, none)
theorem mf_X10_evalEntry : MF M_X10_evalEntry false 4 := ⟨q2474, q228, ⟨by decide, by decide⟩, by decide +kernel, by decide, (fun h => by cases h), fun _ => q2473⟩
abbrev M_X10_evalFirst : MI := (⟨"AlgebraHouseModel", "evalFirst", "(I)V"⟩, cX10_evalFirst, 4, none)
theorem mf_X10_evalFirst : MF M_X10_evalFirst false 1 := ⟨q2482, q228, ⟨by decide, by decide⟩, by decide +kernel, by decide, (fun h => by cases h), fun _ => q2481⟩
abbrev M_X10_evalLeft : MI := (⟨"AlgebraHouseModel", "evalLeft", "(II)V"⟩, cX10_evalLeft, 6, none)
theorem mf_X10_evalLeft : MF M_X10_evalLeft false 2 := ⟨q2342, q228, ⟨by decide, by decide⟩, by decide +kernel, by decide, (fun h => by cases h), fun _ => q2341⟩
abbrev M_X10_evalPart : MI := (⟨"AlgebraHouseModel", "evalPart", "(I)V"⟩, cX10_evalPart, 5, none)
theorem mf_X10_evalPart : MF M_X10_evalPart false 1 := ⟨q2296, q228, ⟨by decide, by decide⟩, by decide +kernel, by decide, (fun h => by cases h), fun _ => q2295⟩
abbrev M_X10_evalPower : MI := (⟨"AlgebraHouseModel", "evalPower", "(II)V"⟩, cX10_evalPower, 5, none)
theorem mf_X10_evalPower : MF M_X10_evalPower false 2 := ⟨q2346, q228, ⟨by decide, by decide⟩, by decide +kernel, by decide, (fun h => by cases h), fun _ => q2345⟩
abbrev M_X10_evalSecond : MI := (⟨"AlgebraHouseModel", "evalSecond", "(I)V"⟩, cX10_evalSecond, 4, none)
theorem mf_X10_evalSecond : MF M_X10_evalSecond false 1 := ⟨q2566, q228, ⟨by decide, by decide⟩, by decide +kernel, by decide, (fun h => by cases h), fun _ => q2565⟩
abbrev M_X10_evalTwo : MI := (⟨"AlgebraHouseModel", "evalTwo", "(III)V"⟩, cX10_evalTwo, 11, none)
theorem mf_X10_evalTwo : MF M_X10_evalTwo false 3 := ⟨q2430, q228, ⟨by decide, by decide⟩, by decide +kernel, by decide, (fun h => by cases h), fun _ => q2429⟩
abbrev M_X10_fail : MI := (⟨"AlgebraHouseModel", "fail", "(I)V"⟩, cX10_fail, 2, none)
theorem mf_X10_fail : MF M_X10_fail false 1 := ⟨q2058, q228, ⟨by decide, by decide⟩, by decide +kernel, by decide, (fun h => by cases h), fun _ => q2057⟩
abbrev M_X10_feed : MI := (⟨"AlgebraHouseModel", "feed", "(IIIII)I"⟩, cX10_feed, 6, (some .int))
theorem mf_X10_feed : MF M_X10_feed false 5 := ⟨q2006, q228, ⟨by decide, by decide⟩, by decide +kernel, by decide, (fun h => by cases h), fun _ => q2004⟩
abbrev M_X10_findR : MI := (⟨"AlgebraHouseModel", "findR", "(I)Z"⟩, cX10_findR, 7, (some .boolean))
theorem mf_X10_findR : MF M_X10_findR false 1 := ⟨q2228, q228, ⟨by decide, by decide⟩, by decide +kernel, by decide, (fun h => by cases h), fun _ => q2227⟩
abbrev M_X10_function : MI := (⟨"AlgebraHouseModel", "function", "(II)I"⟩, cX10_function, 7, (some .int))
theorem mf_X10_function : MF M_X10_function false 2 := ⟨q2596, q228, ⟨by decide, by decide⟩, by decide +kernel, by decide, (fun h => by cases h), fun _ => q2594⟩
abbrev M_X10_go : MI := (⟨"AlgebraHouseModel", "go", "(IIIIIII)V"⟩, cX10_go, 9, none)
theorem mf_X10_go : MF M_X10_go false 7 := ⟨q2422, q228, ⟨by decide, by decide⟩, by decide +kernel, by decide, (fun h => by cases h), fun _ => q2421⟩
abbrev M_X10_goBack : MI := (⟨"AlgebraHouseModel", "goBack", "(IIIIIII)V"⟩, cX10_goBack, 12, none)
theorem mf_X10_goBack : MF M_X10_goBack false 7 := ⟨q2426, q228, ⟨by decide, by decide⟩, by decide +kernel, by decide, (fun h => by cases h), fun _ => q2425⟩
abbrev M_X10_goLatest : MI := (⟨"AlgebraHouseModel", "goLatest", "(IIII)V"⟩, cX10_goLatest, 5, none)
theorem mf_X10_goLatest : MF M_X10_goLatest false 4 := ⟨q2418, q228, ⟨by decide, by decide⟩, by decide +kernel, by decide, (fun h => by cases h), fun _ => q2417⟩
abbrev M_X10_goes : MI := (⟨"AlgebraHouseModel", "goes", "(IIIIII)Z"⟩, cX10_goes, 7, (some .boolean))
theorem mf_X10_goes : MF M_X10_goes false 6 := ⟨q2244, q228, ⟨by decide, by decide⟩, by decide +kernel, by decide, (fun h => by cases h), fun _ => q2243⟩
abbrev M_X10_greatest : MI := (⟨"AlgebraHouseModel", "greatest", "(IIII)V"⟩, cX10_greatest, 7, none)
theorem mf_X10_greatest : MF M_X10_greatest false 4 := ⟨q2490, q228, ⟨by decide, by decide⟩, by decide +kernel, by decide, (fun h => by cases h), fun _ => q2489⟩
abbrev M_X10_hasR : MI := (⟨"AlgebraHouseModel", "hasR", "(I)Z"⟩, cX10_hasR, 2, (some .boolean))
theorem mf_X10_hasR : MF M_X10_hasR false 1 := ⟨q2181, q228, ⟨by decide, by decide⟩, by decide +kernel, by decide, (fun h => by cases h), fun _ => q2180⟩
abbrev M_X10_init : MI := (⟨"AlgebraHouseModel", "<init>", "()V"⟩, cX10_init, 1, none)
theorem mf_X10_init : MF M_X10_init false 0 := ⟨q1615, q228, ⟨by decide, by decide⟩, by decide +kernel, by decide, (fun h => by cases h), fun _ => q1614⟩
abbrev M_X10_instance : MI := (⟨"AlgebraHouseModel", "instance", "(IIIII)Z"⟩, cX10_instance, 9, (some .boolean))
theorem mf_X10_instance : MF M_X10_instance false 5 := ⟨q2208, q228, ⟨by decide, by decide⟩, by decide +kernel, by decide, (fun h => by cases h), fun _ => q2207⟩
abbrev M_X10_inverse : MI := (⟨"AlgebraHouseModel", "inverse", "(JJ)J"⟩, cX10_inverse, 10, (some .long))
theorem mf_X10_inverse : MF M_X10_inverse true 2 := ⟨q2461, q228, ⟨by decide, by decide⟩, by decide +kernel, by decide, fun _ => q2460, (fun h => by cases h)⟩
abbrev M_X10_invert : MI := (⟨"AlgebraHouseModel", "invert", "(III)V"⟩, cX10_invert, 4, none)
theorem mf_X10_invert : MF M_X10_invert false 3 := ⟨q2535, q228, ⟨by decide, by decide⟩, by decide +kernel, by decide, (fun h => by cases h), fun _ => q2534⟩
abbrev M_X10_isAlike : MI := (⟨"AlgebraHouseModel", "isAlike", "(II)Z"⟩, cX10_isAlike, 4, (some .boolean))
theorem mf_X10_isAlike : MF M_X10_isAlike false 2 := ⟨q2434, q228, ⟨by decide, by decide⟩, by decide +kernel, by decide, (fun h => by cases h), fun _ => q2433⟩
abbrev M_X10_isDigit : MI := (⟨"AlgebraHouseModel", "isDigit", "(I)Z"⟩, cX10_isDigit, 1, (some .boolean))
theorem mf_X10_isDigit : MF M_X10_isDigit true 1 := ⟨q2028, q228, ⟨by decide, by decide⟩, by decide +kernel, by decide, fun _ => q2027, (fun h => by cases h)⟩
abbrev M_X10_isDivided : MI := (⟨"AlgebraHouseModel", "isDivided", "()Z"⟩, cX10_isDivided, 1, (some .boolean))
theorem mf_X10_isDivided : MF M_X10_isDivided false 0 := ⟨q2260, q228, ⟨by decide, by decide⟩, by decide +kernel, by decide, (fun h => by cases h), fun _ => q2259⟩
abbrev M_X10_isField : MI := (⟨"AlgebraHouseModel", "isField", "(I)Z"⟩, cX10_isField, 2, (some .boolean))
theorem mf_X10_isField : MF M_X10_isField true 1 := ⟨q2240, q228, ⟨by decide, by decide⟩, by decide +kernel, by decide, fun _ => q2239, (fun h => by cases h)⟩
abbrev M_X10_isKey : MI := (⟨"AlgebraHouseModel", "isKey", "(J)Z"⟩, cX10_isKey, 3, (some .boolean))
theorem mf_X10_isKey : MF M_X10_isKey false 1 := ⟨q2086, q228, ⟨by decide, by decide⟩, by decide +kernel, by decide, (fun h => by cases h), fun _ => q2085⟩
abbrev M_X10_isLeft : MI := (⟨"AlgebraHouseModel", "isLeft", "(I)Z"⟩, cX10_isLeft, 1, (some .boolean))
theorem mf_X10_isLeft : MF M_X10_isLeft true 1 := ⟨q2196, q228, ⟨by decide, by decide⟩, by decide +kernel, by decide, fun _ => q2195, (fun h => by cases h)⟩
abbrev M_X10_isLetter : MI := (⟨"AlgebraHouseModel", "isLetter", "(I)Z"⟩, cX10_isLetter, 1, (some .boolean))
theorem mf_X10_isLetter : MF M_X10_isLetter true 1 := ⟨q2025, q228, ⟨by decide, by decide⟩, by decide +kernel, by decide, fun _ => q2024, (fun h => by cases h)⟩
abbrev M_X10_isMeant : MI := (⟨"AlgebraHouseModel", "isMeant", "(I)Z"⟩, cX10_isMeant, 3, (some .boolean))
theorem mf_X10_isMeant : MF M_X10_isMeant false 1 := ⟨q2224, q228, ⟨by decide, by decide⟩, by decide +kernel, by decide, (fun h => by cases h), fun _ => q2223⟩
abbrev M_X10_isNumber : MI := (⟨"AlgebraHouseModel", "isNumber", "(II)Z"⟩, cX10_isNumber, 3, (some .boolean))
theorem mf_X10_isNumber : MF M_X10_isNumber false 2 := ⟨q2264, q228, ⟨by decide, by decide⟩, by decide +kernel, by decide, (fun h => by cases h), fun _ => q2263⟩
abbrev M_X10_isSign : MI := (⟨"AlgebraHouseModel", "isSign", "(I)Z"⟩, cX10_isSign, 2, (some .boolean))
theorem mf_X10_isSign : MF M_X10_isSign false 1 := ⟨q2070, q228, ⟨by decide, by decide⟩, by decide +kernel, by decide, (fun h => by cases h), fun _ => q2069⟩
abbrev M_X10_isThere : MI := (⟨"AlgebraHouseModel", "isThere", "(I)Z"⟩, cX10_isThere, 2, (some .boolean))
theorem mf_X10_isThere : MF M_X10_isThere false 1 := ⟨q2586, q228, ⟨by decide, by decide⟩, by decide +kernel, by decide, (fun h => by cases h), fun _ => q2585⟩
abbrev M_X10_isTwin : MI := (⟨"AlgebraHouseModel", "isTwin", "(II)Z"⟩, cX10_isTwin, 7, (some .boolean))
theorem mf_X10_isTwin : MF M_X10_isTwin false 2 := ⟨q2185, q228, ⟨by decide, by decide⟩, by decide +kernel, by decide, (fun h => by cases h), fun _ => q2184⟩
abbrev M_X10_isZero : MI := (⟨"AlgebraHouseModel", "isZero", "(II)Z"⟩, cX10_isZero, 4, (some .boolean))
theorem mf_X10_isZero : MF M_X10_isZero false 2 := ⟨q2414, q228, ⟨by decide, by decide⟩, by decide +kernel, by decide, (fun h => by cases h), fun _ => q2413⟩
abbrev M_X10_joins : MI := (⟨"AlgebraHouseModel", "joins", "(IIIIII)Z"⟩, cX10_joins, 10, (some .boolean))
theorem mf_X10_joins : MF M_X10_joins false 6 := ⟨q2233, q228, ⟨by decide, by decide⟩, by decide +kernel, by decide, (fun h => by cases h), fun _ => q2232⟩
abbrev M_X10_joinsParts : MI := (⟨"AlgebraHouseModel", "joinsParts", "(II)Z"⟩, cX10_joinsParts, 3, (some .boolean))
theorem mf_X10_joinsParts : MF M_X10_joinsParts false 2 := ⟨q2256, q228, ⟨by decide, by decide⟩, by decide +kernel, by decide, (fun h => by cases h), fun _ => q2255⟩
abbrev M_X10_judge : MI := (⟨"AlgebraHouseModel", "judge", "(I)V"⟩, cX10_judge, 4, none)
theorem mf_X10_judge : MF M_X10_judge false 1 := ⟨q2193, q228, ⟨by decide, by decide⟩, by decide +kernel, by decide, (fun h => by cases h), fun _ => q2192⟩
abbrev M_X10_judgeBody : MI := (⟨"AlgebraHouseModel", "judgeBody", "(I)V"⟩, cX10_judgeBody, 3, none)
theorem mf_X10_judgeBody : MF M_X10_judgeBody false 1 := ⟨q2189, q228, ⟨by decide, by decide⟩, by decide +kernel, by decide, (fun h => by cases h), fun _ => q2188⟩
abbrev M_X10_judgeBuilt : MI := (⟨"AlgebraHouseModel", "judgeBuilt", "(I)V"⟩, cX10_judgeBuilt, 13, none)
theorem mf_X10_judgeBuilt : MF M_X10_judgeBuilt false 1 := ⟨q2252, q228, ⟨by decide, by decide⟩, by decide +kernel, by decide, (fun h => by cases h), fun _ => q2251⟩
abbrev M_X10_judgeCall : MI := (⟨"AlgebraHouseModel", "judgeCall", "(I)V"⟩, cX10_judgeCall, 8, none)
theorem mf_X10_judgeCall : MF M_X10_judgeCall false 1 := ⟨q2216, q228, ⟨by decide, by decide⟩, by decide +kernel, by decide, (fun h => by cases h), fun _ => q2215⟩
abbrev M_X10_judgeDefinition : MI := (⟨"AlgebraHouseModel", "judgeDefinition", "(I)V"⟩, cX10_judgeDefinition, 8, none)
theorem mf_X10_judgeDefinition : MF M_X10_judgeDefinition false 1 := ⟨q2154, q228, ⟨by decide, by decide⟩, by decide +kernel, by decide, (fun h => by cases h), fun _ => q2153⟩
abbrev M_X10_judgeHead : MI := (⟨"AlgebraHouseModel", "judgeHead", "(I)V"⟩, cX10_judgeHead, 2, none)
theorem mf_X10_judgeHead : MF M_X10_judgeHead false 1 := ⟨q2158, q228, ⟨by decide, by decide⟩, by decide +kernel, by decide, (fun h => by cases h), fun _ => q2157⟩
abbrev M_X10_judgeLeft : MI := (⟨"AlgebraHouseModel", "judgeLeft", "(I)V"⟩, cX10_judgeLeft, 5, none)
theorem mf_X10_judgeLeft : MF M_X10_judgeLeft false 1 := ⟨q2272, q228, ⟨by decide, by decide⟩, by decide +kernel, by decide, (fun h => by cases h), fun _ => q2271⟩
abbrev M_X10_judgeMatrix : MI := (⟨"AlgebraHouseModel", "judgeMatrix", "(I)V"⟩, cX10_judgeMatrix, 13, none)
theorem mf_X10_judgeMatrix : MF M_X10_judgeMatrix false 1 := ⟨q2268, q228, ⟨by decide, by decide⟩, by decide +kernel, by decide, (fun h => by cases h), fun _ => q2267⟩
abbrev M_X10_judgeName : MI := (⟨"AlgebraHouseModel", "judgeName", "(I)V"⟩, cX10_judgeName, 3, none)
theorem mf_X10_judgeName : MF M_X10_judgeName false 1 := ⟨q2204, q228, ⟨by decide, by decide⟩, by decide +kernel, by decide, (fun h => by cases h), fun _ => q2203⟩
abbrev M_X10_judgeOver : MI := (⟨"AlgebraHouseModel", "judgeOver", "(II)V"⟩, cX10_judgeOver, 6, none)
theorem mf_X10_judgeOver : MF M_X10_judgeOver false 2 := ⟨q2176, q228, ⟨by decide, by decide⟩, by decide +kernel, by decide, (fun h => by cases h), fun _ => q2175⟩
abbrev M_X10_judgePart : MI := (⟨"AlgebraHouseModel", "judgePart", "(I)V"⟩, cX10_judgePart, 2, none)
theorem mf_X10_judgePart : MF M_X10_judgePart false 1 := ⟨q2200, q228, ⟨by decide, by decide⟩, by decide +kernel, by decide, (fun h => by cases h), fun _ => q2199⟩
abbrev M_X10_judgeRing : MI := (⟨"AlgebraHouseModel", "judgeRing", "(I)V"⟩, cX10_judgeRing, 3, none)
theorem mf_X10_judgeRing : MF M_X10_judgeRing false 1 := ⟨q2162, q228, ⟨by decide, by decide⟩, by decide +kernel, by decide, (fun h => by cases h), fun _ => q2161⟩
abbrev M_X10_keep : MI := (⟨"AlgebraHouseModel", "keep", "(IZI)V"⟩, cX10_keep, 6, none)
theorem mf_X10_keep : MF M_X10_keep false 3 := ⟨q2570, q228, ⟨by decide, by decide⟩, by decide +kernel, by decide, (fun h => by cases h), fun _ => q2569⟩
abbrev M_X10_key : MI := (⟨"AlgebraHouseModel", "key", "(J)V"⟩, cX10_key, 3, none)
theorem mf_X10_key : MF M_X10_key false 1 := ⟨q2102, q228, ⟨by decide, by decide⟩, by decide +kernel, by decide, (fun h => by cases h), fun _ => q2101⟩
abbrev M_X10_later : MI := (⟨"AlgebraHouseModel", "later", "(I)V"⟩, cX10_later, 2, none)
theorem mf_X10_later : MF M_X10_later false 1 := ⟨q2281, q228, ⟨by decide, by decide⟩, by decide +kernel, by decide, (fun h => by cases h), fun _ => q2280⟩
abbrev M_X10_later_2 : MI := (⟨"AlgebraHouseModel", "later", "(IIIII)V"⟩, cX10_later_2, 6, none)
theorem mf_X10_later_2 : MF M_X10_later_2 false 5 := ⟨q2285, q228, ⟨by decide, by decide⟩, by decide +kernel, by decide, (fun h => by cases h), fun _ => q2284⟩
abbrev M_X10_lay : MI := (⟨"AlgebraHouseModel", "lay", "(I)V"⟩, cX10_lay, 3, none)
theorem mf_X10_lay : MF M_X10_lay false 1 := ⟨q2010, q228, ⟨by decide, by decide⟩, by decide +kernel, by decide, (fun h => by cases h), fun _ => q2009⟩
abbrev M_X10_leaveCall : MI := (⟨"AlgebraHouseModel", "leaveCall", "(I)V"⟩, cX10_leaveCall, 4, none)
theorem mf_X10_leaveCall : MF M_X10_leaveCall false 1 := ⟨q2478, q228, ⟨by decide, by decide⟩, by decide +kernel, by decide, (fun h => by cases h), fun _ => q2477⟩
abbrev M_X10_lessOrMore : MI := (⟨"AlgebraHouseModel", "lessOrMore", "(IIIIZ)V"⟩, cX10_lessOrMore, 6, none)
theorem mf_X10_lessOrMore : MF M_X10_lessOrMore false 5 := ⟨q2526, q228, ⟨by decide, by decide⟩, by decide +kernel, by decide, (fun h => by cases h), fun _ => q2525⟩
abbrev M_X10_line : MI := (⟨"AlgebraHouseModel", "line", "(I)I"⟩, cX10_line, 6, (some .int))
theorem mf_X10_line : MF M_X10_line false 1 := ⟨q2014, q228, ⟨by decide, by decide⟩, by decide +kernel, by decide, (fun h => by cases h), fun _ => q2012⟩
abbrev M_X10_makeReady : MI := (⟨"AlgebraHouseModel", "makeReady", "()V"⟩, cX10_makeReady, 1, none)
theorem mf_X10_makeReady : MF M_X10_makeReady false 0 := ⟨q2338, q228, ⟨by decide, by decide⟩, by decide +kernel, by decide, (fun h => by cases h), fun _ => q2337⟩
abbrev M_X10_meant : MI := (⟨"AlgebraHouseModel", "meant", "(JIIII)I"⟩, cX10_meant, 11, (some .int))
theorem mf_X10_meant : MF M_X10_meant false 5 := ⟨q2600, q228, ⟨by decide, by decide⟩, by decide +kernel, by decide, (fun h => by cases h), fun _ => q2598⟩
abbrev M_X10_meantOf : MI := (⟨"AlgebraHouseModel", "meantOf", "(JI)I"⟩, cX10_meantOf, 8, (some .int))
theorem mf_X10_meantOf : MF M_X10_meantOf false 2 := ⟨q2220, q228, ⟨by decide, by decide⟩, by decide +kernel, by decide, (fun h => by cases h), fun _ => q2219⟩
abbrev M_X10_modulo : MI := (⟨"AlgebraHouseModel", "modulo", "(I)J"⟩, cX10_modulo, 2, (some .long))
theorem mf_X10_modulo : MF M_X10_modulo false 1 := ⟨q2379, q228, ⟨by decide, by decide⟩, by decide +kernel, by decide, (fun h => by cases h), fun _ => q2378⟩
abbrev M_X10_multiplyBlocks : MI := (⟨"AlgebraHouseModel", "multiplyBlocks", "(IIIII)V"⟩, cX10_multiplyBlocks, 9, none)
theorem mf_X10_multiplyBlocks : MF M_X10_multiplyBlocks false 5 := ⟨q2367, q228, ⟨by decide, by decide⟩, by decide +kernel, by decide, (fun h => by cases h), fun _ => q2366⟩
abbrev M_X10_multiplyNumbers : MI := (⟨"AlgebraHouseModel", "multiplyNumbers", "(III)V"⟩, cX10_multiplyNumbers, 4, none)
theorem mf_X10_multiplyNumbers : MF M_X10_multiplyNumbers false 3 := ⟨q2371, q228, ⟨by decide, by decide⟩, by decide +kernel, by decide, (fun h => by cases h), fun _ => q2370⟩
abbrev M_X10_multiplyRows : MI := (⟨"AlgebraHouseModel", "multiplyRows", "(IIII)V"⟩, cX10_multiplyRows, 8, none)
theorem mf_X10_multiplyRows : MF M_X10_multiplyRows false 4 := ⟨q2394, q228, ⟨by decide, by decide⟩, by decide +kernel, by decide, (fun h => by cases h), fun _ => q2393⟩
abbrev M_X10_multiplyValues : MI := (⟨"AlgebraHouseModel", "multiplyValues", "(IIIIII)V"⟩, cX10_multiplyValues, 10, none)
theorem mf_X10_multiplyValues : MF M_X10_multiplyValues false 6 := ⟨q2361, q228, ⟨by decide, by decide⟩, by decide +kernel, by decide, (fun h => by cases h), fun _ => q2360⟩
abbrev M_X10_need : MI := (⟨"AlgebraHouseModel", "need", "(I)I"⟩, cX10_need, 3, (some .int))
theorem mf_X10_need : MF M_X10_need false 1 := ⟨q2050, q228, ⟨by decide, by decide⟩, by decide +kernel, by decide, (fun h => by cases h), fun _ => q2049⟩
abbrev M_X10_newValue : MI := (⟨"AlgebraHouseModel", "newValue", "()I"⟩, cX10_newValue, 2, (some .int))
theorem mf_X10_newValue : MF M_X10_newValue false 0 := ⟨q2318, q228, ⟨by decide, by decide⟩, by decide +kernel, by decide, (fun h => by cases h), fun _ => q2317⟩
abbrev M_X10_node : MI := (⟨"AlgebraHouseModel", "node", "(IIIII)I"⟩, cX10_node, 7, (some .int))
theorem mf_X10_node : MF M_X10_node false 5 := ⟨q2082, q228, ⟨by decide, by decide⟩, by decide +kernel, by decide, (fun h => by cases h), fun _ => q2081⟩
abbrev M_X10_note : MI := (⟨"AlgebraHouseModel", "note", "(II)V"⟩, cX10_note, 4, none)
theorem mf_X10_note : MF M_X10_note false 2 := ⟨q2172, q228, ⟨by decide, by decide⟩, by decide +kernel, by decide, (fun h => by cases h), fun _ => q2171⟩
abbrev M_X10_number : MI := (⟨"AlgebraHouseModel", "number", "(IJJ)V"⟩, cX10_number, 8, none)
theorem mf_X10_number : MF M_X10_number false 3 := ⟨q2375, q228, ⟨by decide, by decide⟩, by decide +kernel, by decide, (fun h => by cases h), fun _ => q2374⟩
abbrev M_X10_openWith : MI := (⟨"AlgebraHouseModel", "openWith", "(I)V"⟩, cX10_openWith, 3, none)
theorem mf_X10_openWith : MF M_X10_openWith false 1 := ⟨q2062, q228, ⟨by decide, by decide⟩, by decide +kernel, by decide, (fun h => by cases h), fun _ => q2061⟩
abbrev M_X10_opens : MI := (⟨"AlgebraHouseModel", "opens", "(I)V"⟩, cX10_opens, 2, none)
theorem mf_X10_opens : MF M_X10_opens false 1 := ⟨q2074, q228, ⟨by decide, by decide⟩, by decide +kernel, by decide, (fun h => by cases h), fun _ => q2073⟩
abbrev M_X10_outerDegree : MI := (⟨"AlgebraHouseModel", "outerDegree", "(I)I"⟩, cX10_outerDegree, 3, (some .int))
theorem mf_X10_outerDegree : MF M_X10_outerDegree false 1 := ⟨q2499, q228, ⟨by decide, by decide⟩, by decide +kernel, by decide, (fun h => by cases h), fun _ => q2498⟩
abbrev M_X10_put : MI := (⟨"AlgebraHouseModel", "put", "(I)V"⟩, cX10_put, 2, none)
theorem mf_X10_put : MF M_X10_put false 1 := ⟨q2389, q228, ⟨by decide, by decide⟩, by decide +kernel, by decide, (fun h => by cases h), fun _ => q2388⟩
abbrev M_X10_readAnd : MI := (⟨"AlgebraHouseModel", "readAnd", "()I"⟩, cX10_readAnd, 4, (some .int))
theorem mf_X10_readAnd : MF M_X10_readAnd false 0 := ⟨q2114, q228, ⟨by decide, by decide⟩, by decide +kernel, by decide, (fun h => by cases h), fun _ => q2113⟩
abbrev M_X10_readAtom : MI := (⟨"AlgebraHouseModel", "readAtom", "()I"⟩, cX10_readAtom, 9, (some .int))
theorem mf_X10_readAtom : MF M_X10_readAtom false 0 := ⟨q2142, q228, ⟨by decide, by decide⟩, by decide +kernel, by decide, (fun h => by cases h), fun _ => q2141⟩
abbrev M_X10_readBehind : MI := (⟨"AlgebraHouseModel", "readBehind", "()I"⟩, cX10_readBehind, 5, (some .int))
theorem mf_X10_readBehind : MF M_X10_readBehind false 0 := ⟨q2138, q228, ⟨by decide, by decide⟩, by decide +kernel, by decide, (fun h => by cases h), fun _ => q2137⟩
abbrev M_X10_readCompare : MI := (⟨"AlgebraHouseModel", "readCompare", "()I"⟩, cX10_readCompare, 5, (some .int))
theorem mf_X10_readCompare : MF M_X10_readCompare false 0 := ⟨q2122, q228, ⟨by decide, by decide⟩, by decide +kernel, by decide, (fun h => by cases h), fun _ => q2121⟩
abbrev M_X10_readDefinition : MI := (⟨"AlgebraHouseModel", "readDefinition", "()I"⟩, cX10_readDefinition, 6, (some .int))
theorem mf_X10_readDefinition : MF M_X10_readDefinition false 0 := ⟨q2046, q228, ⟨by decide, by decide⟩, by decide +kernel, by decide, (fun h => by cases h), fun _ => q2045⟩
abbrev M_X10_readE : MI := (⟨"AlgebraHouseModel", "readE", "()I"⟩, cX10_readE, 5, (some .int))
theorem mf_X10_readE : MF M_X10_readE false 0 := ⟨q2106, q228, ⟨by decide, by decide⟩, by decide +kernel, by decide, (fun h => by cases h), fun _ => q2105⟩
abbrev M_X10_readItems : MI := (⟨"AlgebraHouseModel", "readItems", "(I)I"⟩, cX10_readItems, 8, (some .int))
theorem mf_X10_readItems : MF M_X10_readItems false 1 := ⟨q2146, q228, ⟨by decide, by decide⟩, by decide +kernel, by decide, (fun h => by cases h), fun _ => q2145⟩
abbrev M_X10_readLine : MI := (⟨"AlgebraHouseModel", "readLine", "(Z)I"⟩, cX10_readLine, 2, (some .int))
theorem mf_X10_readLine : MF M_X10_readLine false 1 := ⟨q2150, q228, ⟨by decide, by decide⟩, by decide +kernel, by decide, (fun h => by cases h), fun _ => q2149⟩
abbrev M_X10_readNot : MI := (⟨"AlgebraHouseModel", "readNot", "()I"⟩, cX10_readNot, 3, (some .int))
theorem mf_X10_readNot : MF M_X10_readNot false 0 := ⟨q2118, q228, ⟨by decide, by decide⟩, by decide +kernel, by decide, (fun h => by cases h), fun _ => q2117⟩
abbrev M_X10_readOr : MI := (⟨"AlgebraHouseModel", "readOr", "()I"⟩, cX10_readOr, 4, (some .int))
theorem mf_X10_readOr : MF M_X10_readOr false 0 := ⟨q2110, q228, ⟨by decide, by decide⟩, by decide +kernel, by decide, (fun h => by cases h), fun _ => q2109⟩
abbrev M_X10_readProduct : MI := (⟨"AlgebraHouseModel", "readProduct", "()I"⟩, cX10_readProduct, 6, (some .int))
theorem mf_X10_readProduct : MF M_X10_readProduct false 0 := ⟨q2130, q228, ⟨by decide, by decide⟩, by decide +kernel, by decide, (fun h => by cases h), fun _ => q2129⟩
abbrev M_X10_readRing : MI := (⟨"AlgebraHouseModel", "readRing", "()I"⟩, cX10_readRing, 5, (some .int))
theorem mf_X10_readRing : MF M_X10_readRing false 0 := ⟨q2078, q228, ⟨by decide, by decide⟩, by decide +kernel, by decide, (fun h => by cases h), fun _ => q2077⟩
abbrev M_X10_readSum : MI := (⟨"AlgebraHouseModel", "readSum", "()I"⟩, cX10_readSum, 5, (some .int))
theorem mf_X10_readSum : MF M_X10_readSum false 0 := ⟨q2126, q228, ⟨by decide, by decide⟩, by decide +kernel, by decide, (fun h => by cases h), fun _ => q2125⟩
abbrev M_X10_readUnary : MI := (⟨"AlgebraHouseModel", "readUnary", "()I"⟩, cX10_readUnary, 3, (some .int))
theorem mf_X10_readUnary : MF M_X10_readUnary false 0 := ⟨q2134, q228, ⟨by decide, by decide⟩, by decide +kernel, by decide, (fun h => by cases h), fun _ => q2133⟩
abbrev M_X10_ring : MI := (⟨"AlgebraHouseModel", "ring", "(II)I"⟩, cX10_ring, 4, (some .int))
theorem mf_X10_ring : MF M_X10_ring false 2 := ⟨q2582, q228, ⟨by decide, by decide⟩, by decide +kernel, by decide, (fun h => by cases h), fun _ => q2580⟩
abbrev M_X10_rootCommon : MI := (⟨"AlgebraHouseModel", "rootCommon", "(IJ)I"⟩, cX10_rootCommon, 14, (some .int))
theorem mf_X10_rootCommon : MF M_X10_rootCommon false 2 := ⟨q2562, q228, ⟨by decide, by decide⟩, by decide +kernel, by decide, (fun h => by cases h), fun _ => q2561⟩
abbrev M_X10_rootInverse : MI := (⟨"AlgebraHouseModel", "rootInverse", "(JJ)J"⟩, cX10_rootInverse, 7, (some .long))
theorem mf_X10_rootInverse : MF M_X10_rootInverse true 2 := ⟨q2546, q228, ⟨by decide, by decide⟩, by decide +kernel, by decide, fun _ => q2545, (fun h => by cases h)⟩
abbrev M_X10_rootOne : MI := (⟨"AlgebraHouseModel", "rootOne", "()V"⟩, cX10_rootOne, 2, none)
theorem mf_X10_rootOne : MF M_X10_rootOne false 0 := ⟨q2550, q228, ⟨by decide, by decide⟩, by decide +kernel, by decide, (fun h => by cases h), fun _ => q2549⟩
abbrev M_X10_rootSquare : MI := (⟨"AlgebraHouseModel", "rootSquare", "(IJ)V"⟩, cX10_rootSquare, 8, none)
theorem mf_X10_rootSquare : MF M_X10_rootSquare false 2 := ⟨q2554, q228, ⟨by decide, by decide⟩, by decide +kernel, by decide, (fun h => by cases h), fun _ => q2553⟩
abbrev M_X10_rootUp : MI := (⟨"AlgebraHouseModel", "rootUp", "(IJ)V"⟩, cX10_rootUp, 7, none)
theorem mf_X10_rootUp : MF M_X10_rootUp false 2 := ⟨q2558, q228, ⟨by decide, by decide⟩, by decide +kernel, by decide, (fun h => by cases h), fun _ => q2557⟩
abbrev M_X10_rootsOf : MI := (⟨"AlgebraHouseModel", "rootsOf", "(IJ)I"⟩, cX10_rootsOf, 8, (some .int))
theorem mf_X10_rootsOf : MF M_X10_rootsOf false 2 := ⟨q2543, q228, ⟨by decide, by decide⟩, by decide +kernel, by decide, (fun h => by cases h), fun _ => q2542⟩
abbrev M_X10_rows : MI := (⟨"AlgebraHouseModel", "rows", "(I)I"⟩, cX10_rows, 1, (some .int))
theorem mf_X10_rows : MF M_X10_rows true 1 := ⟨q2354, q228, ⟨by decide, by decide⟩, by decide +kernel, by decide, fun _ => q2353, (fun h => by cases h)⟩
abbrev M_X10_scan : MI := (⟨"AlgebraHouseModel", "scan", "(I)V"⟩, cX10_scan, 5, none)
theorem mf_X10_scan : MF M_X10_scan false 1 := ⟨q2018, q228, ⟨by decide, by decide⟩, by decide +kernel, by decide, (fun h => by cases h), fun _ => q2017⟩
abbrev M_X10_set : MI := (⟨"AlgebraHouseModel", "set", "(IJ)V"⟩, cX10_set, 4, none)
theorem mf_X10_set : MF M_X10_set false 2 := ⟨q2326, q228, ⟨by decide, by decide⟩, by decide +kernel, by decide, (fun h => by cases h), fun _ => q2325⟩
abbrev M_X10_setOne : MI := (⟨"AlgebraHouseModel", "setOne", "(II)V"⟩, cX10_setOne, 4, none)
theorem mf_X10_setOne : MF M_X10_setOne false 2 := ⟨q2351, q228, ⟨by decide, by decide⟩, by decide +kernel, by decide, (fun h => by cases h), fun _ => q2350⟩
abbrev M_X10_setRing : MI := (⟨"AlgebraHouseModel", "setRing", "(IIII)V"⟩, cX10_setRing, 5, none)
theorem mf_X10_setRing : MF M_X10_setRing false 4 := ⟨q2166, q228, ⟨by decide, by decide⟩, by decide +kernel, by decide, (fun h => by cases h), fun _ => q2165⟩
abbrev M_X10_sign : MI := (⟨"AlgebraHouseModel", "sign", "(I)V"⟩, cX10_sign, 2, none)
theorem mf_X10_sign : MF M_X10_sign false 1 := ⟨q2066, q228, ⟨by decide, by decide⟩, by decide +kernel, by decide, (fun h => by cases h), fun _ => q2065⟩
abbrev M_X10_smallDet : MI := (⟨"AlgebraHouseModel", "smallDet", "(IIIIIII)V"⟩, cX10_smallDet, 8, none)
theorem mf_X10_smallDet : MF M_X10_smallDet false 7 := ⟨q2521, q228, ⟨by decide, by decide⟩, by decide +kernel, by decide, (fun h => by cases h), fun _ => q2520⟩
abbrev M_X10_step : MI := (⟨"AlgebraHouseModel", "step", "(J)Z"⟩, cX10_step, 3, (some .boolean))
theorem mf_X10_step : MF M_X10_step false 1 := ⟨q2313, q228, ⟨by decide, by decide⟩, by decide +kernel, by decide, (fun h => by cases h), fun _ => q2312⟩
abbrev M_X10_stepsOf : MI := (⟨"AlgebraHouseModel", "stepsOf", "(I)J"⟩, cX10_stepsOf, 4, (some .long))
theorem mf_X10_stepsOf : MF M_X10_stepsOf false 1 := ⟨q2300, q228, ⟨by decide, by decide⟩, by decide +kernel, by decide, (fun h => by cases h), fun _ => q2299⟩
abbrev M_X10_takeBlocks : MI := (⟨"AlgebraHouseModel", "takeBlocks", "(IIIII)V"⟩, cX10_takeBlocks, 7, none)
theorem mf_X10_takeBlocks : MF M_X10_takeBlocks false 5 := ⟨q2446, q228, ⟨by decide, by decide⟩, by decide +kernel, by decide, (fun h => by cases h), fun _ => q2445⟩
abbrev M_X10_takeNumbers : MI := (⟨"AlgebraHouseModel", "takeNumbers", "(III)V"⟩, cX10_takeNumbers, 4, none)
theorem mf_X10_takeNumbers : MF M_X10_takeNumbers false 3 := ⟨q2450, q228, ⟨by decide, by decide⟩, by decide +kernel, by decide, (fun h => by cases h), fun _ => q2449⟩
abbrev M_X10_takesKey : MI := (⟨"AlgebraHouseModel", "takesKey", "(J)Z"⟩, cX10_takesKey, 3, (some .boolean))
theorem mf_X10_takesKey : MF M_X10_takesKey false 1 := ⟨q2098, q228, ⟨by decide, by decide⟩, by decide +kernel, by decide, (fun h => by cases h), fun _ => q2097⟩
abbrev M_X10_takesSign : MI := (⟨"AlgebraHouseModel", "takesSign", "(I)Z"⟩, cX10_takesSign, 2, (some .boolean))
theorem mf_X10_takesSign : MF M_X10_takesSign false 1 := ⟨q2094, q228, ⟨by decide, by decide⟩, by decide +kernel, by decide, (fun h => by cases h), fun _ => q2093⟩
abbrev M_X10_task : MI := (⟨"AlgebraHouseModel", "task", "(IIIII)V"⟩, cX10_task, 8, none)
theorem mf_X10_task : MF M_X10_task false 5 := ⟨q2289, q228, ⟨by decide, by decide⟩, by decide +kernel, by decide, (fun h => by cases h), fun _ => q2288⟩
abbrev M_X10_tell : MI := (⟨"AlgebraHouseModel", "tell", "(IZ)V"⟩, cX10_tell, 3, none)
theorem mf_X10_tell : MF M_X10_tell false 2 := ⟨q2438, q228, ⟨by decide, by decide⟩, by decide +kernel, by decide, (fun h => by cases h), fun _ => q2437⟩
abbrev M_X10_tellNumber : MI := (⟨"AlgebraHouseModel", "tellNumber", "(IJ)V"⟩, cX10_tellNumber, 4, none)
theorem mf_X10_tellNumber : MF M_X10_tellNumber false 2 := ⟨q2494, q228, ⟨by decide, by decide⟩, by decide +kernel, by decide, (fun h => by cases h), fun _ => q2493⟩
abbrev M_X10_token : MI := (⟨"AlgebraHouseModel", "token", "(II)I"⟩, cX10_token, 10, (some .int))
theorem mf_X10_token : MF M_X10_token false 2 := ⟨q2022, q228, ⟨by decide, by decide⟩, by decide +kernel, by decide, (fun h => by cases h), fun _ => q2021⟩
abbrev M_X10_told : MI := (⟨"AlgebraHouseModel", "told", "(I)I"⟩, cX10_told, 2, (some .int))
theorem mf_X10_told : MF M_X10_told false 1 := ⟨q2574, q228, ⟨by decide, by decide⟩, by decide +kernel, by decide, (fun h => by cases h), fun _ => q2572⟩
abbrev M_X10_valueAt : MI := (⟨"AlgebraHouseModel", "valueAt", "(I)I"⟩, cX10_valueAt, 1, (some .int))
theorem mf_X10_valueAt : MF M_X10_valueAt true 1 := ⟨q2292, q228, ⟨by decide, by decide⟩, by decide +kernel, by decide, fun _ => q2291, (fun h => by cases h)⟩
abbrev M_X10_variableOf : MI := (⟨"AlgebraHouseModel", "variableOf", "(J)I"⟩, cX10_variableOf, 4, (some .int))
theorem mf_X10_variableOf : MF M_X10_variableOf false 1 := ⟨q2212, q228, ⟨by decide, by decide⟩, by decide +kernel, by decide, (fun h => by cases h), fun _ => q2211⟩
abbrev M_X10_weight : MI := (⟨"AlgebraHouseModel", "weight", "(I)J"⟩, cX10_weight, 4, (some .long))
theorem mf_X10_weight : MF M_X10_weight false 1 := ⟨q2304, q228, ⟨by decide, by decide⟩, by decide +kernel, by decide, (fun h => by cases h), fun _ => q2303⟩
abbrev M_X10_width : MI := (⟨"AlgebraHouseModel", "width", "(I)I"⟩, cX10_width, 1, (some .int))
theorem mf_X10_width : MF M_X10_width true 1 := ⟨q2410, q228, ⟨by decide, by decide⟩, by decide +kernel, by decide, fun _ => q2409, (fun h => by cases h)⟩
abbrev M_X10_wordKind : MI := (⟨"AlgebraHouseModel", "wordKind", "(J)I"⟩, cX10_wordKind, 4, (some .int))
theorem mf_X10_wordKind : MF M_X10_wordKind false 1 := ⟨q2032, q228, ⟨by decide, by decide⟩, by decide +kernel, by decide, (fun h => by cases h), fun _ => q2031⟩
abbrev M_X10_wrong : MI := (⟨"AlgebraHouseModel", "wrong", "(I)V"⟩, cX10_wrong, 2, none)
theorem mf_X10_wrong : MF M_X10_wrong false 1 := ⟨q2248, q228, ⟨by decide, by decide⟩, by decide +kernel, by decide, (fun h => by cases h), fun _ => q2247⟩
abbrev M_X11_base : MI := (⟨"AlgebraHouse$Rings", "base", "(I)I"⟩, cX11_base, 1, (some .int))
theorem mf_X11_base : MF M_X11_base true 1 := ⟨q1104, q236, ⟨by decide, by decide⟩, by decide +kernel, by decide, fun _ => q1103, (fun h => by cases h)⟩
abbrev M_X11_cells : MI := (⟨"AlgebraHouse$Rings", "cells", "(I)I"⟩, cX11_cells, 1, (some .int))
theorem mf_X11_cells : MF M_X11_cells true 1 := ⟨q1309, q236, ⟨by decide, by decide⟩, by decide +kernel, by decide, fun _ => q1308, (fun h => by cases h)⟩
abbrev M_X11_coefficients : MI := (⟨"AlgebraHouse$Rings", "coefficients", "(I)I"⟩, cX11_coefficients, 1, (some .int))
theorem mf_X11_coefficients : MF M_X11_coefficients true 1 := ⟨q1244, q236, ⟨by decide, by decide⟩, by decide +kernel, by decide, fun _ => q1243, (fun h => by cases h)⟩
abbrev M_X11_depth : MI := (⟨"AlgebraHouse$Rings", "depth", "(I)I"⟩, cX11_depth, 1, (some .int))
theorem mf_X11_depth : MF M_X11_depth true 1 := ⟨q1068, q236, ⟨by decide, by decide⟩, by decide +kernel, by decide, fun _ => q1067, (fun h => by cases h)⟩
abbrev M_X11_divides : MI := (⟨"AlgebraHouse$Rings", "divides", "(I)Z"⟩, cX11_divides, 1, (some .boolean))
theorem mf_X11_divides : MF M_X11_divides true 1 := ⟨q1180, q236, ⟨by decide, by decide⟩, by decide +kernel, by decide, fun _ => q1179, (fun h => by cases h)⟩
abbrev M_X11_entries : MI := (⟨"AlgebraHouse$Rings", "entries", "(I)I"⟩, cX11_entries, 1, (some .int))
theorem mf_X11_entries : MF M_X11_entries true 1 := ⟨q1247, q236, ⟨by decide, by decide⟩, by decide +kernel, by decide, fun _ => q1246, (fun h => by cases h)⟩
abbrev M_X11_fraction : MI := (⟨"AlgebraHouse$Rings", "fraction", "(I)I"⟩, cX11_fraction, 1, (some .int))
theorem mf_X11_fraction : MF M_X11_fraction true 1 := ⟨q1192, q236, ⟨by decide, by decide⟩, by decide +kernel, by decide, fun _ => q1191, (fun h => by cases h)⟩
abbrev M_X11_goes : MI := (⟨"AlgebraHouse$Rings", "goes", "(II)Z"⟩, cX11_goes, 2, (some .boolean))
theorem mf_X11_goes : MF M_X11_goes true 2 := ⟨q1161, q236, ⟨by decide, by decide⟩, by decide +kernel, by decide, fun _ => q1160, (fun h => by cases h)⟩
abbrev M_X11_isField : MI := (⟨"AlgebraHouse$Rings", "isField", "(I)Z"⟩, cX11_isField, 1, (some .boolean))
theorem mf_X11_isField : MF M_X11_isField true 1 := ⟨q1151, q236, ⟨by decide, by decide⟩, by decide +kernel, by decide, fun _ => q1150, (fun h => by cases h)⟩
abbrev M_X11_isPrime : MI := (⟨"AlgebraHouse$Rings", "isPrime", "(I)Z"⟩, cX11_isPrime, 2, (some .boolean))
theorem mf_X11_isPrime : MF M_X11_isPrime true 1 := ⟨q1154, q236, ⟨by decide, by decide⟩, by decide +kernel, by decide, fun _ => q1153, (fun h => by cases h)⟩
abbrev M_X11_join : MI := (⟨"AlgebraHouse$Rings", "join", "(II)I"⟩, cX11_join, 6, (some .int))
theorem mf_X11_join : MF M_X11_join true 2 := ⟨q1140, q236, ⟨by decide, by decide⟩, by decide +kernel, by decide, fun _ => q1139, (fun h => by cases h)⟩
abbrev M_X11_of : MI := (⟨"AlgebraHouse$Rings", "of", "(III)I"⟩, cX11_of, 3, (some .int))
theorem mf_X11_of : MF M_X11_of true 3 := ⟨q1046, q236, ⟨by decide, by decide⟩, by decide +kernel, by decide, fun _ => q1045, (fun h => by cases h)⟩
abbrev M_X11_plain : MI := (⟨"AlgebraHouse$Rings", "plain", "(I)I"⟩, cX11_plain, 1, (some .int))
theorem mf_X11_plain : MF M_X11_plain true 1 := ⟨q1188, q236, ⟨by decide, by decide⟩, by decide +kernel, by decide, fun _ => q1187, (fun h => by cases h)⟩
abbrev M_X11_price : MI := (⟨"AlgebraHouse$Rings", "price", "(II)I"⟩, cX11_price, 2, (some .int))
theorem mf_X11_price : MF M_X11_price true 2 := ⟨q1165, q236, ⟨by decide, by decide⟩, by decide +kernel, by decide, fun _ => q1164, (fun h => by cases h)⟩
abbrev M_X11_size : MI := (⟨"AlgebraHouse$Rings", "size", "(I)I"⟩, cX11_size, 1, (some .int))
theorem mf_X11_size : MF M_X11_size true 1 := ⟨q1065, q236, ⟨by decide, by decide⟩, by decide +kernel, by decide, fun _ => q1064, (fun h => by cases h)⟩
abbrev M_X11_weight : MI := (⟨"AlgebraHouse$Rings", "weight", "(I)I"⟩, cX11_weight, 1, (some .int))
theorem mf_X11_weight : MF M_X11_weight true 1 := ⟨q1241, q236, ⟨by decide, by decide⟩, by decide +kernel, by decide, fun _ => q1240, (fun h => by cases h)⟩
abbrev M_X11_withBase : MI := (⟨"AlgebraHouse$Rings", "withBase", "(II)I"⟩, cX11_withBase, 2, (some .int))
theorem mf_X11_withBase : MF M_X11_withBase true 2 := ⟨q1195, q236, ⟨by decide, by decide⟩, by decide +kernel, by decide, fun _ => q1194, (fun h => by cases h)⟩
abbrev M_X1_can : MI := (⟨"AlgebraHouse$Book", "can", "(LAlgebraHouse$Text;I)Z"⟩, cX1_can, 3, (some .boolean))
theorem mf_X1_can : MF M_X1_can true 2 := ⟨q1148, q219, ⟨by decide, by decide⟩, by decide +kernel, by decide, fun _ => q1147, (fun h => by cases h)⟩
abbrev M_X1_found : MI := (⟨"AlgebraHouse$Book", "found", "(LAlgebraHouse$Text;[I)I"⟩, cX1_found, 7, (some .int))
theorem mf_X1_found : MF M_X1_found true 2 := ⟨q1136, q219, ⟨by decide, by decide⟩, by decide +kernel, by decide, fun _ => q1135, (fun h => by cases h)⟩
abbrev M_X1_init : MI := (⟨"AlgebraHouse$Book", "<init>", "()V"⟩, cX1_init, 2, none)
theorem mf_X1_init : MF M_X1_init false 0 := ⟨q250, q219, ⟨by decide, by decide⟩, by decide +kernel, by decide, (fun h => by cases h), fun _ => q249⟩
abbrev M_X1_isCalled : MI := (⟨"AlgebraHouse$Book", "isCalled", "(JI)Z"⟩, cX1_isCalled, 5, (some .boolean))
theorem mf_X1_isCalled : MF M_X1_isCalled false 2 := ⟨q1121, q219, ⟨by decide, by decide⟩, by decide +kernel, by decide, (fun h => by cases h), fun _ => q1119⟩
abbrev M_X1_meant : MI := (⟨"AlgebraHouse$Book", "meant", "(J[III)I"⟩, cX1_meant, 12, (some .int))
theorem mf_X1_meant : MF M_X1_meant false 4 := ⟨q1133, q219, ⟨by decide, by decide⟩, by decide +kernel, by decide, (fun h => by cases h), fun _ => q1131⟩
abbrev M_X1_price : MI := (⟨"AlgebraHouse$Book", "price", "(LAlgebraHouse$Text;[II)I"⟩, cX1_price, 6, (some .int))
theorem mf_X1_price : MF M_X1_price true 3 := ⟨q1158, q219, ⟨by decide, by decide⟩, by decide +kernel, by decide, fun _ => q1157, (fun h => by cases h)⟩
abbrev M_X1_ring : MI := (⟨"AlgebraHouse$Book", "ring", "(LAlgebraHouse$Text;II)I"⟩, cX1_ring, 4, (some .int))
theorem mf_X1_ring : MF M_X1_ring true 3 := ⟨q1099, q219, ⟨by decide, by decide⟩, by decide +kernel, by decide, fun _ => q1098, (fun h => by cases h)⟩
abbrev M_X1_variable : MI := (⟨"AlgebraHouse$Book", "variable", "(J)I"⟩, cX1_variable, 4, (some .int))
theorem mf_X1_variable : MF M_X1_variable false 1 := ⟨q1113, q219, ⟨by decide, by decide⟩, by decide +kernel, by decide, (fun h => by cases h), fun _ => q1111⟩
abbrev M_X2_add : MI := (⟨"AlgebraHouse$Text", "add", "(II)I"⟩, cX2_add, 3, (some .int))
theorem mf_X2_add : MF M_X2_add false 2 := ⟨q952, q220, ⟨by decide, by decide⟩, by decide +kernel, by decide, (fun h => by cases h), fun _ => q950⟩
abbrev M_X2_add_2 : MI := (⟨"AlgebraHouse$Text", "add", "(IIII)I"⟩, cX2_add_2, 6, (some .int))
theorem mf_X2_add_2 : MF M_X2_add_2 false 4 := ⟨q1022, q220, ⟨by decide, by decide⟩, by decide +kernel, by decide, (fun h => by cases h), fun _ => q1020⟩
abbrev M_X2_clear : MI := (⟨"AlgebraHouse$Text", "clear", "()V"⟩, cX2_clear, 1, none)
theorem mf_X2_clear : MF M_X2_clear false 0 := ⟨q754, q220, ⟨by decide, by decide⟩, by decide +kernel, by decide, (fun h => by cases h), fun _ => q752⟩
abbrev M_X2_init : MI := (⟨"AlgebraHouse$Text", "<init>", "()V"⟩, cX2_init, 1, none)
theorem mf_X2_init : MF M_X2_init false 0 := ⟨q257, q220, ⟨by decide, by decide⟩, by decide +kernel, by decide, (fun h => by cases h), fun _ => q256⟩
abbrev M_X2_many : MI := (⟨"AlgebraHouse$Text", "many", "(I)I"⟩, cX2_many, 4, (some .int))
theorem mf_X2_many : MF M_X2_many false 1 := ⟨q1129, q220, ⟨by decide, by decide⟩, by decide +kernel, by decide, (fun h => by cases h), fun _ => q1127⟩
abbrev M_X2_second : MI := (⟨"AlgebraHouse$Text", "second", "(I)I"⟩, cX2_second, 2, (some .int))
theorem mf_X2_second : MF M_X2_second false 1 := ⟨q1173, q220, ⟨by decide, by decide⟩, by decide +kernel, by decide, (fun h => by cases h), fun _ => q1171⟩
abbrev M_X2_third : MI := (⟨"AlgebraHouse$Text", "third", "(I)I"⟩, cX2_third, 2, (some .int))
theorem mf_X2_third : MF M_X2_third false 1 := ⟨q1208, q220, ⟨by decide, by decide⟩, by decide +kernel, by decide, (fun h => by cases h), fun _ => q1206⟩
abbrev M_X3_arguments : MI := (⟨"AlgebraHouse$Parser", "arguments", "(II)V"⟩, cX3_arguments, 5, none)
theorem mf_X3_arguments : MF M_X3_arguments false 2 := ⟨q1008, q221, ⟨by decide, by decide⟩, by decide +kernel, by decide, (fun h => by cases h), fun _ => q1007⟩
abbrev M_X3_atom : MI := (⟨"AlgebraHouse$Parser", "atom", "()I"⟩, cX3_atom, 3, (some .int))
theorem mf_X3_atom : MF M_X3_atom false 0 := ⟨q1004, q221, ⟨by decide, by decide⟩, by decide +kernel, by decide, (fun h => by cases h), fun _ => q1003⟩
abbrev M_X3_behind : MI := (⟨"AlgebraHouse$Parser", "behind", "()I"⟩, cX3_behind, 6, (some .int))
theorem mf_X3_behind : MF M_X3_behind false 0 := ⟨q1000, q221, ⟨by decide, by decide⟩, by decide +kernel, by decide, (fun h => by cases h), fun _ => q999⟩
abbrev M_X3_both : MI := (⟨"AlgebraHouse$Parser", "both", "()I"⟩, cX3_both, 3, (some .int))
theorem mf_X3_both : MF M_X3_both false 0 := ⟨q976, q221, ⟨by decide, by decide⟩, by decide +kernel, by decide, (fun h => by cases h), fun _ => q975⟩
abbrev M_X3_closes : MI := (⟨"AlgebraHouse$Parser", "closes", "(I)V"⟩, cX3_closes, 2, none)
theorem mf_X3_closes : MF M_X3_closes false 1 := ⟨q960, q221, ⟨by decide, by decide⟩, by decide +kernel, by decide, (fun h => by cases h), fun _ => q959⟩
abbrev M_X3_either : MI := (⟨"AlgebraHouse$Parser", "either", "()I"⟩, cX3_either, 3, (some .int))
theorem mf_X3_either : MF M_X3_either false 0 := ⟨q972, q221, ⟨by decide, by decide⟩, by decide +kernel, by decide, (fun h => by cases h), fun _ => q971⟩
abbrev M_X3_expression : MI := (⟨"AlgebraHouse$Parser", "expression", "()I"⟩, cX3_expression, 5, (some .int))
theorem mf_X3_expression : MF M_X3_expression false 0 := ⟨q968, q221, ⟨by decide, by decide⟩, by decide +kernel, by decide, (fun h => by cases h), fun _ => q967⟩
abbrev M_X3_fail : MI := (⟨"AlgebraHouse$Parser", "fail", "(II)V"⟩, cX3_fail, 3, none)
theorem mf_X3_fail : MF M_X3_fail false 2 := ⟨q926, q221, ⟨by decide, by decide⟩, by decide +kernel, by decide, (fun h => by cases h), fun _ => q925⟩
abbrev M_X3_go : MI := (⟨"AlgebraHouse$Parser", "go", "()V"⟩, cX3_go, 1, none)
theorem mf_X3_go : MF M_X3_go false 0 := ⟨q922, q221, ⟨by decide, by decide⟩, by decide +kernel, by decide, (fun h => by cases h), fun _ => q921⟩
abbrev M_X3_here : MI := (⟨"AlgebraHouse$Parser", "here", "()I"⟩, cX3_here, 1, (some .int))
theorem mf_X3_here : MF M_X3_here false 0 := ⟨q918, q221, ⟨by decide, by decide⟩, by decide +kernel, by decide, (fun h => by cases h), fun _ => q917⟩
abbrev M_X3_init : MI := (⟨"AlgebraHouse$Parser", "<init>", "()V"⟩, cX3_init, 1, none)
theorem mf_X3_init : MF M_X3_init false 0 := ⟨q456, q221, ⟨by decide, by decide⟩, by decide +kernel, by decide, (fun h => by cases h), fun _ => q455⟩
abbrev M_X3_is : MI := (⟨"AlgebraHouse$Parser", "is", "(III)Z"⟩, cX3_is, 4, (some .boolean))
theorem mf_X3_is : MF M_X3_is false 3 := ⟨q910, q221, ⟨by decide, by decide⟩, by decide +kernel, by decide, (fun h => by cases h), fun _ => q909⟩
abbrev M_X3_isKey : MI := (⟨"AlgebraHouse$Parser", "isKey", "(I)Z"⟩, cX3_isKey, 2, (some .boolean))
theorem mf_X3_isKey : MF M_X3_isKey false 1 := ⟨q964, q221, ⟨by decide, by decide⟩, by decide +kernel, by decide, (fun h => by cases h), fun _ => q963⟩
abbrev M_X3_isSign : MI := (⟨"AlgebraHouse$Parser", "isSign", "(I)Z"⟩, cX3_isSign, 2, (some .boolean))
theorem mf_X3_isSign : MF M_X3_isSign false 1 := ⟨q944, q221, ⟨by decide, by decide⟩, by decide +kernel, by decide, (fun h => by cases h), fun _ => q943⟩
abbrev M_X3_line : MI := (⟨"AlgebraHouse$Parser", "line", "()V"⟩, cX3_line, 2, none)
theorem mf_X3_line : MF M_X3_line false 0 := ⟨q906, q221, ⟨by decide, by decide⟩, by decide +kernel, by decide, (fun h => by cases h), fun _ => q905⟩
abbrev M_X3_matrix : MI := (⟨"AlgebraHouse$Parser", "matrix", "(I)I"⟩, cX3_matrix, 9, (some .int))
theorem mf_X3_matrix : MF M_X3_matrix false 1 := ⟨q1016, q221, ⟨by decide, by decide⟩, by decide +kernel, by decide, (fun h => by cases h), fun _ => q1015⟩
abbrev M_X3_minus : MI := (⟨"AlgebraHouse$Parser", "minus", "()I"⟩, cX3_minus, 2, (some .int))
theorem mf_X3_minus : MF M_X3_minus false 0 := ⟨q996, q221, ⟨by decide, by decide⟩, by decide +kernel, by decide, (fun h => by cases h), fun _ => q995⟩
abbrev M_X3_need : MI := (⟨"AlgebraHouse$Parser", "need", "(I)V"⟩, cX3_need, 2, none)
theorem mf_X3_need : MF M_X3_need false 1 := ⟨q936, q221, ⟨by decide, by decide⟩, by decide +kernel, by decide, (fun h => by cases h), fun _ => q935⟩
abbrev M_X3_needKey : MI := (⟨"AlgebraHouse$Parser", "needKey", "(I)V"⟩, cX3_needKey, 2, none)
theorem mf_X3_needKey : MF M_X3_needKey false 1 := ⟨q1027, q221, ⟨by decide, by decide⟩, by decide +kernel, by decide, (fun h => by cases h), fun _ => q1026⟩
abbrev M_X3_needOpen : MI := (⟨"AlgebraHouse$Parser", "needOpen", "(I)V"⟩, cX3_needOpen, 2, none)
theorem mf_X3_needOpen : MF M_X3_needOpen false 1 := ⟨q956, q221, ⟨by decide, by decide⟩, by decide +kernel, by decide, (fun h => by cases h), fun _ => q955⟩
abbrev M_X3_negated : MI := (⟨"AlgebraHouse$Parser", "negated", "()I"⟩, cX3_negated, 2, (some .int))
theorem mf_X3_negated : MF M_X3_negated false 0 := ⟨q980, q221, ⟨by decide, by decide⟩, by decide +kernel, by decide, (fun h => by cases h), fun _ => q979⟩
abbrev M_X3_opens : MI := (⟨"AlgebraHouse$Parser", "opens", "()V"⟩, cX3_opens, 1, none)
theorem mf_X3_opens : MF M_X3_opens false 0 := ⟨q932, q221, ⟨by decide, by decide⟩, by decide +kernel, by decide, (fun h => by cases h), fun _ => q931⟩
abbrev M_X3_product : MI := (⟨"AlgebraHouse$Parser", "product", "()I"⟩, cX3_product, 4, (some .int))
theorem mf_X3_product : MF M_X3_product false 0 := ⟨q992, q221, ⟨by decide, by decide⟩, by decide +kernel, by decide, (fun h => by cases h), fun _ => q991⟩
abbrev M_X3_relation : MI := (⟨"AlgebraHouse$Parser", "relation", "()I"⟩, cX3_relation, 4, (some .int))
theorem mf_X3_relation : MF M_X3_relation false 0 := ⟨q984, q221, ⟨by decide, by decide⟩, by decide +kernel, by decide, (fun h => by cases h), fun _ => q983⟩
abbrev M_X3_signed : MI := (⟨"AlgebraHouse$Parser", "signed", "(I)I"⟩, cX3_signed, 3, (some .int))
theorem mf_X3_signed : MF M_X3_signed false 1 := ⟨q1012, q221, ⟨by decide, by decide⟩, by decide +kernel, by decide, (fun h => by cases h), fun _ => q1011⟩
abbrev M_X3_sum : MI := (⟨"AlgebraHouse$Parser", "sum", "()I"⟩, cX3_sum, 4, (some .int))
theorem mf_X3_sum : MF M_X3_sum false 0 := ⟨q988, q221, ⟨by decide, by decide⟩, by decide +kernel, by decide, (fun h => by cases h), fun _ => q987⟩
abbrev M_X3_takes : MI := (⟨"AlgebraHouse$Parser", "takes", "(I)Z"⟩, cX3_takes, 2, (some .boolean))
theorem mf_X3_takes : MF M_X3_takes false 1 := ⟨q940, q221, ⟨by decide, by decide⟩, by decide +kernel, by decide, (fun h => by cases h), fun _ => q939⟩
abbrev M_X3_takesKey : MI := (⟨"AlgebraHouse$Parser", "takesKey", "(I)Z"⟩, cX3_takesKey, 2, (some .boolean))
theorem mf_X3_takesKey : MF M_X3_takesKey false 1 := ⟨q1031, q221, ⟨by decide, by decide⟩, by decide +kernel, by decide, (fun h => by cases h), fun _ => q1030⟩
abbrev M_X3_told : MI := (⟨"AlgebraHouse$Parser", "told", "()V"⟩, cX3_told, 2, none)
theorem mf_X3_told : MF M_X3_told false 0 := ⟨q914, q221, ⟨by decide, by decide⟩, by decide +kernel, by decide, (fun h => by cases h), fun _ => q913⟩
abbrev M_X3_type : MI := (⟨"AlgebraHouse$Parser", "type", "()I"⟩, cX3_type, 4, (some .int))
theorem mf_X3_type : MF M_X3_type false 0 := ⟨q948, q221, ⟨by decide, by decide⟩, by decide +kernel, by decide, (fun h => by cases h), fun _ => q947⟩
abbrev M_X4_find : MI := (⟨"AlgebraHouse$Tokens", "find", "(Ljava/lang/String;II)I"⟩, cX4_find, 7, (some .int))
theorem mf_X4_find : MF M_X4_find false 3 := ⟨q784, q222, ⟨by decide, by decide⟩, by decide +kernel, by decide, (fun h => by cases h), fun _ => q783⟩
abbrev M_X4_init : MI := (⟨"AlgebraHouse$Tokens", "<init>", "()V"⟩, cX4_init, 1, none)
theorem mf_X4_init : MF M_X4_init false 0 := ⟨q462, q222, ⟨by decide, by decide⟩, by decide +kernel, by decide, (fun h => by cases h), fun _ => q461⟩
abbrev M_X4_isDigit : MI := (⟨"AlgebraHouse$Tokens", "isDigit", "(I)Z"⟩, cX4_isDigit, 1, (some .boolean))
theorem mf_X4_isDigit : MF M_X4_isDigit true 1 := ⟨q779, q222, ⟨by decide, by decide⟩, by decide +kernel, by decide, fun _ => q778, (fun h => by cases h)⟩
abbrev M_X4_isLetter : MI := (⟨"AlgebraHouse$Tokens", "isLetter", "(I)Z"⟩, cX4_isLetter, 1, (some .boolean))
theorem mf_X4_isLetter : MF M_X4_isLetter true 1 := ⟨q772, q222, ⟨by decide, by decide⟩, by decide +kernel, by decide, fun _ => q771, (fun h => by cases h)⟩
abbrev M_X4_number : MI := (⟨"AlgebraHouse$Tokens", "number", "(I)I"⟩, cX4_number, 4, (some .int))
theorem mf_X4_number : MF M_X4_number false 1 := ⟨q840, q222, ⟨by decide, by decide⟩, by decide +kernel, by decide, (fun h => by cases h), fun _ => q839⟩
abbrev M_X4_put : MI := (⟨"AlgebraHouse$Tokens", "put", "(III)V"⟩, cX4_put, 4, none)
theorem mf_X4_put : MF M_X4_put false 3 := ⟨q769, q222, ⟨by decide, by decide⟩, by decide +kernel, by decide, (fun h => by cases h), fun _ => q768⟩
abbrev M_X4_read : MI := (⟨"AlgebraHouse$Tokens", "read", "([BI)V"⟩, cX4_read, 5, none)
theorem mf_X4_read : MF M_X4_read false 2 := ⟨q758, q222, ⟨by decide, by decide⟩, by decide +kernel, by decide, (fun h => by cases h), fun _ => q756⟩
abbrev M_X4_see : MI := (⟨"AlgebraHouse$Tokens", "see", "(I)I"⟩, cX4_see, 2, (some .int))
theorem mf_X4_see : MF M_X4_see false 1 := ⟨q765, q222, ⟨by decide, by decide⟩, by decide +kernel, by decide, (fun h => by cases h), fun _ => q764⟩
abbrev M_X4_sign : MI := (⟨"AlgebraHouse$Tokens", "sign", "(II)I"⟩, cX4_sign, 5, (some .int))
theorem mf_X4_sign : MF M_X4_sign false 2 := ⟨q844, q222, ⟨by decide, by decide⟩, by decide +kernel, by decide, (fun h => by cases h), fun _ => q843⟩
abbrev M_X4_word : MI := (⟨"AlgebraHouse$Tokens", "word", "(I)I"⟩, cX4_word, 7, (some .int))
theorem mf_X4_word : MF M_X4_word false 1 := ⟨q776, q222, ⟨by decide, by decide⟩, by decide +kernel, by decide, (fun h => by cases h), fun _ => q775⟩
abbrev M_X5_begin : MI := (⟨"AlgebraHouse$Judge", "begin", "()V"⟩, cX5_begin, 1, none)
theorem mf_X5_begin : MF M_X5_begin false 0 := ⟨q1039, q223, ⟨by decide, by decide⟩, by decide +kernel, by decide, (fun h => by cases h), fun _ => q1037⟩
abbrev M_X5_body : MI := (⟨"AlgebraHouse$Judge", "body", "()V"⟩, cX5_body, 3, none)
theorem mf_X5_body : MF M_X5_body false 0 := ⟨q1076, q223, ⟨by decide, by decide⟩, by decide +kernel, by decide, (fun h => by cases h), fun _ => q1075⟩
abbrev M_X5_call : MI := (⟨"AlgebraHouse$Judge", "call", "(I)I"⟩, cX5_call, 6, (some .int))
theorem mf_X5_call : MF M_X5_call false 1 := ⟨q1117, q223, ⟨by decide, by decide⟩, by decide +kernel, by decide, (fun h => by cases h), fun _ => q1116⟩
abbrev M_X5_choice : MI := (⟨"AlgebraHouse$Judge", "choice", "(I)I"⟩, cX5_choice, 3, (some .int))
theorem mf_X5_choice : MF M_X5_choice false 1 := ⟨q1204, q223, ⟨by decide, by decide⟩, by decide +kernel, by decide, (fun h => by cases h), fun _ => q1203⟩
abbrev M_X5_fail : MI := (⟨"AlgebraHouse$Judge", "fail", "(II)I"⟩, cX5_fail, 3, (some .int))
theorem mf_X5_fail : MF M_X5_fail false 2 := ⟨q1058, q223, ⟨by decide, by decide⟩, by decide +kernel, by decide, (fun h => by cases h), fun _ => q1057⟩
abbrev M_X5_function : MI := (⟨"AlgebraHouse$Judge", "function", "(I)I"⟩, cX5_function, 7, (some .int))
theorem mf_X5_function : MF M_X5_function false 1 := ⟨q1169, q223, ⟨by decide, by decide⟩, by decide +kernel, by decide, (fun h => by cases h), fun _ => q1168⟩
abbrev M_X5_goal : MI := (⟨"AlgebraHouse$Judge", "goal", "(I)V"⟩, cX5_goal, 3, none)
theorem mf_X5_goal : MF M_X5_goal false 1 := ⟨q1080, q223, ⟨by decide, by decide⟩, by decide +kernel, by decide, (fun h => by cases h), fun _ => q1079⟩
abbrev M_X5_head : MI := (⟨"AlgebraHouse$Judge", "head", "()V"⟩, cX5_head, 6, none)
theorem mf_X5_head : MF M_X5_head false 0 := ⟨q1043, q223, ⟨by decide, by decide⟩, by decide +kernel, by decide, (fun h => by cases h), fun _ => q1042⟩
abbrev M_X5_init : MI := (⟨"AlgebraHouse$Judge", "<init>", "(LAlgebraHouse$Book;)V"⟩, cX5_init, 2, none)
theorem mf_X5_init : MF M_X5_init false 1 := ⟨q516, q223, ⟨by decide, by decide⟩, by decide +kernel, by decide, (fun h => by cases h), fun _ => q515⟩
abbrev M_X5_inner : MI := (⟨"AlgebraHouse$Judge", "inner", "(I)I"⟩, cX5_inner, 4, (some .int))
theorem mf_X5_inner : MF M_X5_inner false 1 := ⟨q1062, q223, ⟨by decide, by decide⟩, by decide +kernel, by decide, (fun h => by cases h), fun _ => q1061⟩
abbrev M_X5_isThere : MI := (⟨"AlgebraHouse$Judge", "isThere", "()Z"⟩, cX5_isThere, 5, (some .boolean))
theorem mf_X5_isThere : MF M_X5_isThere false 0 := ⟨q1072, q223, ⟨by decide, by decide⟩, by decide +kernel, by decide, (fun h => by cases h), fun _ => q1071⟩
abbrev M_X5_judge : MI := (⟨"AlgebraHouse$Judge", "judge", "(LAlgebraHouse$Text;II)I"⟩, cX5_judge, 4, (some .int))
theorem mf_X5_judge : MF M_X5_judge false 3 := ⟨q1084, q223, ⟨by decide, by decide⟩, by decide +kernel, by decide, (fun h => by cases h), fun _ => q1082⟩
abbrev M_X5_looks : MI := (⟨"AlgebraHouse$Judge", "looks", "(LAlgebraHouse$Text;)Z"⟩, cX5_looks, 3, (some .boolean))
theorem mf_X5_looks : MF M_X5_looks false 1 := ⟨q1035, q223, ⟨by decide, by decide⟩, by decide +kernel, by decide, (fun h => by cases h), fun _ => q1033⟩
abbrev M_X5_matrix : MI := (⟨"AlgebraHouse$Judge", "matrix", "(I)I"⟩, cX5_matrix, 4, (some .int))
theorem mf_X5_matrix : MF M_X5_matrix false 1 := ⟨q1200, q223, ⟨by decide, by decide⟩, by decide +kernel, by decide, (fun h => by cases h), fun _ => q1199⟩
abbrev M_X5_mean : MI := (⟨"AlgebraHouse$Judge", "mean", "(III)I"⟩, cX5_mean, 4, (some .int))
theorem mf_X5_mean : MF M_X5_mean false 3 := ⟨q1109, q223, ⟨by decide, by decide⟩, by decide +kernel, by decide, (fun h => by cases h), fun _ => q1108⟩
abbrev M_X5_named : MI := (⟨"AlgebraHouse$Judge", "named", "(I)I"⟩, cX5_named, 3, (some .int))
theorem mf_X5_named : MF M_X5_named false 1 := ⟨q1096, q223, ⟨by decide, by decide⟩, by decide +kernel, by decide, (fun h => by cases h), fun _ => q1095⟩
abbrev M_X5_ofOne : MI := (⟨"AlgebraHouse$Judge", "ofOne", "(II)I"⟩, cX5_ofOne, 5, (some .int))
theorem mf_X5_ofOne : MF M_X5_ofOne true 2 := ⟨q1184, q223, ⟨by decide, by decide⟩, by decide +kernel, by decide, fun _ => q1183, (fun h => by cases h)⟩
abbrev M_X5_ofTwo : MI := (⟨"AlgebraHouse$Judge", "ofTwo", "(III)I"⟩, cX5_ofTwo, 4, (some .int))
theorem mf_X5_ofTwo : MF M_X5_ofTwo true 3 := ⟨q1176, q223, ⟨by decide, by decide⟩, by decide +kernel, by decide, fun _ => q1175, (fun h => by cases h)⟩
abbrev M_X5_part : MI := (⟨"AlgebraHouse$Judge", "part", "(I)I"⟩, cX5_part, 3, (some .int))
theorem mf_X5_part : MF M_X5_part false 1 := ⟨q1088, q223, ⟨by decide, by decide⟩, by decide +kernel, by decide, (fun h => by cases h), fun _ => q1087⟩
abbrev M_X5_parts : MI := (⟨"AlgebraHouse$Judge", "parts", "(I)Z"⟩, cX5_parts, 4, (some .boolean))
theorem mf_X5_parts : MF M_X5_parts false 1 := ⟨q1125, q223, ⟨by decide, by decide⟩, by decide +kernel, by decide, (fun h => by cases h), fun _ => q1124⟩
abbrev M_X5_ringOf : MI := (⟨"AlgebraHouse$Judge", "ringOf", "(I)I"⟩, cX5_ringOf, 3, (some .int))
theorem mf_X5_ringOf : MF M_X5_ringOf false 1 := ⟨q1092, q223, ⟨by decide, by decide⟩, by decide +kernel, by decide, (fun h => by cases h), fun _ => q1091⟩
abbrev M_X5_shape : MI := (⟨"AlgebraHouse$Judge", "shape", "(II)Z"⟩, cX5_shape, 4, (some .boolean))
theorem mf_X5_shape : MF M_X5_shape false 2 := ⟨q1050, q223, ⟨by decide, by decide⟩, by decide +kernel, by decide, (fun h => by cases h), fun _ => q1049⟩
abbrev M_X5_turned : MI := (⟨"AlgebraHouse$Judge", "turned", "(I)I"⟩, cX5_turned, 5, (some .int))
theorem mf_X5_turned : MF M_X5_turned false 1 := ⟨q1212, q223, ⟨by decide, by decide⟩, by decide +kernel, by decide, (fun h => by cases h), fun _ => q1211⟩
abbrev M_X5_two : MI := (⟨"AlgebraHouse$Judge", "two", "(I)I"⟩, cX5_two, 8, (some .int))
theorem mf_X5_two : MF M_X5_two false 1 := ⟨q1217, q223, ⟨by decide, by decide⟩, by decide +kernel, by decide, (fun h => by cases h), fun _ => q1216⟩
abbrev M_X5_type : MI := (⟨"AlgebraHouse$Judge", "type", "(I)I"⟩, cX5_type, 5, (some .int))
theorem mf_X5_type : MF M_X5_type false 1 := ⟨q1054, q223, ⟨by decide, by decide⟩, by decide +kernel, by decide, (fun h => by cases h), fun _ => q1052⟩
abbrev M_X6_atValue : MI := (⟨"AlgebraHouse$Machine", "atValue", "(IIII)V"⟩, cX6_atValue, 10, none)
theorem mf_X6_atValue : MF M_X6_atValue false 4 := ⟨q1469, q224, ⟨by decide, by decide⟩, by decide +kernel, by decide, (fun h => by cases h), fun _ => q1468⟩
abbrev M_X6_call : MI := (⟨"AlgebraHouse$Machine", "call", "(II)V"⟩, cX6_call, 8, none)
theorem mf_X6_call : MF M_X6_call false 2 := ⟨q1344, q224, ⟨by decide, by decide⟩, by decide +kernel, by decide, (fun h => by cases h), fun _ => q1343⟩
abbrev M_X6_characteristic : MI := (⟨"AlgebraHouse$Machine", "characteristic", "(II)V"⟩, cX6_characteristic, 7, none)
theorem mf_X6_characteristic : MF M_X6_characteristic false 2 := ⟨q1518, q224, ⟨by decide, by decide⟩, by decide +kernel, by decide, (fun h => by cases h), fun _ => q1517⟩
abbrev M_X6_codeOf : MI := (⟨"AlgebraHouse$Machine", "codeOf", "(IILAlgebraHouse$Text;I)I"⟩, cX6_codeOf, 7, (some .int))
theorem mf_X6_codeOf : MF M_X6_codeOf false 4 := ⟨q1228, q224, ⟨by decide, by decide⟩, by decide +kernel, by decide, (fun h => by cases h), fun _ => q1227⟩
abbrev M_X6_common : MI := (⟨"AlgebraHouse$Machine", "common", "(III)V"⟩, cX6_common, 7, none)
theorem mf_X6_common : MF M_X6_common false 3 := ⟨q1437, q224, ⟨by decide, by decide⟩, by decide +kernel, by decide, (fun h => by cases h), fun _ => q1436⟩
abbrev M_X6_derived : MI := (⟨"AlgebraHouse$Machine", "derived", "(II)V"⟩, cX6_derived, 7, none)
theorem mf_X6_derived : MF M_X6_derived false 2 := ⟨q1474, q224, ⟨by decide, by decide⟩, by decide +kernel, by decide, (fun h => by cases h), fun _ => q1473⟩
abbrev M_X6_ends : MI := (⟨"AlgebraHouse$Machine", "ends", "(I)V"⟩, cX6_ends, 4, none)
theorem mf_X6_ends : MF M_X6_ends false 1 := ⟨q1353, q224, ⟨by decide, by decide⟩, by decide +kernel, by decide, (fun h => by cases h), fun _ => q1352⟩
abbrev M_X6_enter : MI := (⟨"AlgebraHouse$Machine", "enter", "(III)V"⟩, cX6_enter, 4, none)
theorem mf_X6_enter : MF M_X6_enter false 3 := ⟨q1294, q224, ⟨by decide, by decide⟩, by decide +kernel, by decide, (fun h => by cases h), fun _ => q1293⟩
abbrev M_X6_function : MI := (⟨"AlgebraHouse$Machine", "function", "(III)V"⟩, cX6_function, 9, none)
theorem mf_X6_function : MF M_X6_function false 3 := ⟨q1433, q224, ⟨by decide, by decide⟩, by decide +kernel, by decide, (fun h => by cases h), fun _ => q1432⟩
abbrev M_X6_high : MI := (⟨"AlgebraHouse$Machine", "high", "([I)I"⟩, cX6_high, 2, (some .int))
theorem mf_X6_high : MF M_X6_high true 1 := ⟨q1525, q224, ⟨by decide, by decide⟩, by decide +kernel, by decide, fun _ => q1524, (fun h => by cases h)⟩
abbrev M_X6_init : MI := (⟨"AlgebraHouse$Machine", "<init>", "(LAlgebraHouse$Book;LAlgebraHouse$Judge;[I[I)V"⟩, cX6_init, 6, none)
theorem mf_X6_init : MF M_X6_init false 4 := ⟨q550, q224, ⟨by decide, by decide⟩, by decide +kernel, by decide, (fun h => by cases h), fun _ => q549⟩
abbrev M_X6_integer : MI := (⟨"AlgebraHouse$Machine", "integer", "(I)V"⟩, cX6_integer, 2, none)
theorem mf_X6_integer : MF M_X6_integer false 1 := ⟨q1443, q224, ⟨by decide, by decide⟩, by decide +kernel, by decide, (fun h => by cases h), fun _ => q1442⟩
abbrev M_X6_inverse : MI := (⟨"AlgebraHouse$Machine", "inverse", "(II)V"⟩, cX6_inverse, 6, none)
theorem mf_X6_inverse : MF M_X6_inverse false 2 := ⟨q1513, q224, ⟨by decide, by decide⟩, by decide +kernel, by decide, (fun h => by cases h), fun _ => q1512⟩
abbrev M_X6_made : MI := (⟨"AlgebraHouse$Machine", "made", "(II)V"⟩, cX6_made, 4, none)
theorem mf_X6_made : MF M_X6_made false 2 := ⟨q1537, q224, ⟨by decide, by decide⟩, by decide +kernel, by decide, (fun h => by cases h), fun _ => q1536⟩
abbrev M_X6_number : MI := (⟨"AlgebraHouse$Machine", "number", "(I)I"⟩, cX6_number, 2, (some .int))
theorem mf_X6_number : MF M_X6_number false 1 := ⟨q1357, q224, ⟨by decide, by decide⟩, by decide +kernel, by decide, (fun h => by cases h), fun _ => q1356⟩
abbrev M_X6_perform : MI := (⟨"AlgebraHouse$Machine", "perform", "(III)V"⟩, cX6_perform, 7, none)
theorem mf_X6_perform : MF M_X6_perform false 3 := ⟨q1298, q224, ⟨by decide, by decide⟩, by decide +kernel, by decide, (fun h => by cases h), fun _ => q1297⟩
abbrev M_X6_power : MI := (⟨"AlgebraHouse$Machine", "power", "(II)V"⟩, cX6_power, 5, none)
theorem mf_X6_power : MF M_X6_power false 2 := ⟨q1367, q224, ⟨by decide, by decide⟩, by decide +kernel, by decide, (fun h => by cases h), fun _ => q1366⟩
abbrev M_X6_push : MI := (⟨"AlgebraHouse$Machine", "push", "(I)I"⟩, cX6_push, 3, (some .int))
theorem mf_X6_push : MF M_X6_push false 1 := ⟨q1302, q224, ⟨by decide, by decide⟩, by decide +kernel, by decide, (fun h => by cases h), fun _ => q1301⟩
abbrev M_X6_reduce : MI := (⟨"AlgebraHouse$Machine", "reduce", "([II[III)V"⟩, cX6_reduce, 9, none)
theorem mf_X6_reduce : MF M_X6_reduce true 5 := ⟨q1532, q224, ⟨by decide, by decide⟩, by decide +kernel, by decide, fun _ => q1531, (fun h => by cases h)⟩
abbrev M_X6_rest : MI := (⟨"AlgebraHouse$Machine", "rest", "(ZIII)V"⟩, cX6_rest, 8, none)
theorem mf_X6_rest : MF M_X6_rest false 4 := ⟨q1553, q224, ⟨by decide, by decide⟩, by decide +kernel, by decide, (fun h => by cases h), fun _ => q1552⟩
abbrev M_X6_roots : MI := (⟨"AlgebraHouse$Machine", "roots", "(II)I"⟩, cX6_roots, 6, (some .int))
theorem mf_X6_roots : MF M_X6_roots false 2 := ⟨q1522, q224, ⟨by decide, by decide⟩, by decide +kernel, by decide, (fun h => by cases h), fun _ => q1521⟩
abbrev M_X6_run : MI := (⟨"AlgebraHouse$Machine", "run", "(LAlgebraHouse$Text;)I"⟩, cX6_run, 5, (some .int))
theorem mf_X6_run : MF M_X6_run false 1 := ⟨q1224, q224, ⟨by decide, by decide⟩, by decide +kernel, by decide, (fun h => by cases h), fun _ => q1222⟩
abbrev M_X6_square : MI := (⟨"AlgebraHouse$Machine", "square", "(III)V"⟩, cX6_square, 6, none)
theorem mf_X6_square : MF M_X6_square false 3 := ⟨q1529, q224, ⟨by decide, by decide⟩, by decide +kernel, by decide, (fun h => by cases h), fun _ => q1528⟩
abbrev M_X6_trace : MI := (⟨"AlgebraHouse$Machine", "trace", "(II)V"⟩, cX6_trace, 5, none)
theorem mf_X6_trace : MF M_X6_trace false 2 := ⟨q1497, q224, ⟨by decide, by decide⟩, by decide +kernel, by decide, (fun h => by cases h), fun _ => q1496⟩
abbrev M_X6_truth : MI := (⟨"AlgebraHouse$Machine", "truth", "(ZI)V"⟩, cX6_truth, 3, none)
theorem mf_X6_truth : MF M_X6_truth false 2 := ⟨q1545, q224, ⟨by decide, by decide⟩, by decide +kernel, by decide, (fun h => by cases h), fun _ => q1544⟩
abbrev M_X6_turned : MI := (⟨"AlgebraHouse$Machine", "turned", "(II)V"⟩, cX6_turned, 6, none)
theorem mf_X6_turned : MF M_X6_turned false 2 := ⟨q1502, q224, ⟨by decide, by decide⟩, by decide +kernel, by decide, (fun h => by cases h), fun _ => q1501⟩
abbrev M_X6_two : MI := (⟨"AlgebraHouse$Machine", "two", "(II)V"⟩, cX6_two, 8, none)
theorem mf_X6_two : MF M_X6_two false 2 := ⟨q1541, q224, ⟨by decide, by decide⟩, by decide +kernel, by decide, (fun h => by cases h), fun _ => q1540⟩
abbrev M_X7_add : MI := (⟨"AlgebraHouse$Coder", "add", "(III)V"⟩, cX7_add, 5, none)
theorem mf_X7_add : MF M_X7_add false 3 := ⟨q1256, q225, ⟨by decide, by decide⟩, by decide +kernel, by decide, (fun h => by cases h), fun _ => q1255⟩
abbrev M_X7_call : MI := (⟨"AlgebraHouse$Coder", "call", "(I)V"⟩, cX7_call, 6, none)
theorem mf_X7_call : MF M_X7_call false 1 := ⟨q1264, q225, ⟨by decide, by decide⟩, by decide +kernel, by decide, (fun h => by cases h), fun _ => q1263⟩
abbrev M_X7_choice : MI := (⟨"AlgebraHouse$Coder", "choice", "(I)V"⟩, cX7_choice, 4, none)
theorem mf_X7_choice : MF M_X7_choice false 1 := ⟨q1283, q225, ⟨by decide, by decide⟩, by decide +kernel, by decide, (fun h => by cases h), fun _ => q1282⟩
abbrev M_X7_function : MI := (⟨"AlgebraHouse$Coder", "function", "(I)V"⟩, cX7_function, 6, none)
theorem mf_X7_function : MF M_X7_function false 1 := ⟨q1277, q225, ⟨by decide, by decide⟩, by decide +kernel, by decide, (fun h => by cases h), fun _ => q1276⟩
abbrev M_X7_heavy : MI := (⟨"AlgebraHouse$Coder", "heavy", "(I)I"⟩, cX7_heavy, 4, (some .int))
theorem mf_X7_heavy : MF M_X7_heavy false 1 := ⟨q1252, q225, ⟨by decide, by decide⟩, by decide +kernel, by decide, (fun h => by cases h), fun _ => q1251⟩
abbrev M_X7_init : MI := (⟨"AlgebraHouse$Coder", "<init>", "()V"⟩, cX7_init, 1, none)
theorem mf_X7_init : MF M_X7_init false 0 := ⟨q556, q225, ⟨by decide, by decide⟩, by decide +kernel, by decide, (fun h => by cases h), fun _ => q555⟩
abbrev M_X7_part : MI := (⟨"AlgebraHouse$Coder", "part", "(I)V"⟩, cX7_part, 6, none)
theorem mf_X7_part : MF M_X7_part false 1 := ⟨q1238, q225, ⟨by decide, by decide⟩, by decide +kernel, by decide, (fun h => by cases h), fun _ => q1237⟩
abbrev M_X7_part_2 : MI := (⟨"AlgebraHouse$Coder", "part", "(II)V"⟩, cX7_part_2, 3, none)
theorem mf_X7_part_2 : MF M_X7_part_2 false 2 := ⟨q1269, q225, ⟨by decide, by decide⟩, by decide +kernel, by decide, (fun h => by cases h), fun _ => q1268⟩
abbrev M_X7_turn : MI := (⟨"AlgebraHouse$Coder", "turn", "(II)V"⟩, cX7_turn, 3, none)
theorem mf_X7_turn : MF M_X7_turn false 2 := ⟨q1273, q225, ⟨by decide, by decide⟩, by decide +kernel, by decide, (fun h => by cases h), fun _ => q1272⟩
abbrev M_X7_two : MI := (⟨"AlgebraHouse$Coder", "two", "(II)V"⟩, cX7_two, 6, none)
theorem mf_X7_two : MF M_X7_two false 2 := ⟨q1289, q225, ⟨by decide, by decide⟩, by decide +kernel, by decide, (fun h => by cases h), fun _ => q1288⟩
abbrev M_X7_write : MI := (⟨"AlgebraHouse$Coder", "write", "(LAlgebraHouse$Book;LAlgebraHouse$Text;LAlgebraHouse$Code;I)V"⟩, cX7_write, 6, none)
theorem mf_X7_write : MF M_X7_write false 4 := ⟨q1234, q225, ⟨by decide, by decide⟩, by decide +kernel, by decide, (fun h => by cases h), fun _ => q1232⟩
abbrev M_X8_add : MI := (⟨"AlgebraHouse$Numbers", "add", "(IIIIZ)V"⟩, cX8_add, 11, none)
theorem mf_X8_add : MF M_X8_add false 5 := ⟨q1414, q226, ⟨by decide, by decide⟩, by decide +kernel, by decide, (fun h => by cases h), fun _ => q1412⟩
abbrev M_X8_addAll : MI := (⟨"AlgebraHouse$Numbers", "addAll", "(IIIIIZ)V"⟩, cX8_addAll, 8, none)
theorem mf_X8_addAll : MF M_X8_addAll false 6 := ⟨q1427, q226, ⟨by decide, by decide⟩, by decide +kernel, by decide, (fun h => by cases h), fun _ => q1425⟩
abbrev M_X8_adjugate : MI := (⟨"AlgebraHouse$Numbers", "adjugate", "(III)V"⟩, cX8_adjugate, 10, none)
theorem mf_X8_adjugate : MF M_X8_adjugate false 3 := ⟨q1506, q226, ⟨by decide, by decide⟩, by decide +kernel, by decide, (fun h => by cases h), fun _ => q1504⟩
abbrev M_X8_back : MI := (⟨"AlgebraHouse$Numbers", "back", "(III)V"⟩, cX8_back, 14, none)
theorem mf_X8_back : MF M_X8_back false 3 := ⟨q1336, q226, ⟨by decide, by decide⟩, by decide +kernel, by decide, (fun h => by cases h), fun _ => q1334⟩
abbrev M_X8_by : MI := (⟨"AlgebraHouse$Numbers", "by", "(IIII)V"⟩, cX8_by, 6, none)
theorem mf_X8_by : MF M_X8_by false 4 := ⟨q1459, q226, ⟨by decide, by decide⟩, by decide +kernel, by decide, (fun h => by cases h), fun _ => q1457⟩
abbrev M_X8_clear : MI := (⟨"AlgebraHouse$Numbers", "clear", "(II)V"⟩, cX8_clear, 4, none)
theorem mf_X8_clear : MF M_X8_clear false 2 := ⟨q1306, q226, ⟨by decide, by decide⟩, by decide +kernel, by decide, (fun h => by cases h), fun _ => q1304⟩
abbrev M_X8_common : MI := (⟨"AlgebraHouse$Numbers", "common", "(JJ)J"⟩, cX8_common, 10, (some .long))
theorem mf_X8_common : MF M_X8_common true 2 := ⟨q1400, q226, ⟨by decide, by decide⟩, by decide +kernel, by decide, fun _ => q1399, (fun h => by cases h)⟩
abbrev M_X8_copy : MI := (⟨"AlgebraHouse$Numbers", "copy", "(III)V"⟩, cX8_copy, 4, none)
theorem mf_X8_copy : MF M_X8_copy false 3 := ⟨q1321, q226, ⟨by decide, by decide⟩, by decide +kernel, by decide, (fun h => by cases h), fun _ => q1319⟩
abbrev M_X8_degree : MI := (⟨"AlgebraHouse$Numbers", "degree", "(I)I"⟩, cX8_degree, 3, (some .int))
theorem mf_X8_degree : MF M_X8_degree false 1 := ⟨q1448, q226, ⟨by decide, by decide⟩, by decide +kernel, by decide, (fun h => by cases h), fun _ => q1446⟩
abbrev M_X8_determinant : MI := (⟨"AlgebraHouse$Numbers", "determinant", "(III)V"⟩, cX8_determinant, 4, none)
theorem mf_X8_determinant : MF M_X8_determinant false 3 := ⟨q1482, q226, ⟨by decide, by decide⟩, by decide +kernel, by decide, (fun h => by cases h), fun _ => q1480⟩
abbrev M_X8_divide : MI := (⟨"AlgebraHouse$Numbers", "divide", "(III)V"⟩, cX8_divide, 7, none)
theorem mf_X8_divide : MF M_X8_divide false 3 := ⟨q1452, q226, ⟨by decide, by decide⟩, by decide +kernel, by decide, (fun h => by cases h), fun _ => q1450⟩
abbrev M_X8_init : MI := (⟨"AlgebraHouse$Numbers", "<init>", "()V"⟩, cX8_init, 1, none)
theorem mf_X8_init : MF M_X8_init false 0 := ⟨q572, q226, ⟨by decide, by decide⟩, by decide +kernel, by decide, (fun h => by cases h), fun _ => q571⟩
abbrev M_X8_inverse : MI := (⟨"AlgebraHouse$Numbers", "inverse", "(II)I"⟩, cX8_inverse, 9, (some .int))
theorem mf_X8_inverse : MF M_X8_inverse true 2 := ⟨q1462, q226, ⟨by decide, by decide⟩, by decide +kernel, by decide, fun _ => q1461, (fun h => by cases h)⟩
abbrev M_X8_isClear : MI := (⟨"AlgebraHouse$Numbers", "isClear", "(II)Z"⟩, cX8_isClear, 4, (some .boolean))
theorem mf_X8_isClear : MF M_X8_isClear false 2 := ⟨q1340, q226, ⟨by decide, by decide⟩, by decide +kernel, by decide, (fun h => by cases h), fun _ => q1338⟩
abbrev M_X8_isLess : MI := (⟨"AlgebraHouse$Numbers", "isLess", "(IIZ)Z"⟩, cX8_isLess, 6, (some .boolean))
theorem mf_X8_isLess : MF M_X8_isLess false 3 := ⟨q1549, q226, ⟨by decide, by decide⟩, by decide +kernel, by decide, (fun h => by cases h), fun _ => q1547⟩
abbrev M_X8_isZero : MI := (⟨"AlgebraHouse$Numbers", "isZero", "(I)Z"⟩, cX8_isZero, 2, (some .boolean))
theorem mf_X8_isZero : MF M_X8_isZero false 1 := ⟨q1421, q226, ⟨by decide, by decide⟩, by decide +kernel, by decide, (fun h => by cases h), fun _ => q1419⟩
abbrev M_X8_least : MI := (⟨"AlgebraHouse$Numbers", "least", "(IJJ)V"⟩, cX8_least, 8, none)
theorem mf_X8_least : MF M_X8_least false 3 := ⟨q1397, q226, ⟨by decide, by decide⟩, by decide +kernel, by decide, (fun h => by cases h), fun _ => q1396⟩
abbrev M_X8_less : MI := (⟨"AlgebraHouse$Numbers", "less", "(III)V"⟩, cX8_less, 6, none)
theorem mf_X8_less : MF M_X8_less false 3 := ⟨q1363, q226, ⟨by decide, by decide⟩, by decide +kernel, by decide, (fun h => by cases h), fun _ => q1361⟩
abbrev M_X8_minor : MI := (⟨"AlgebraHouse$Numbers", "minor", "(IIIII)V"⟩, cX8_minor, 15, none)
theorem mf_X8_minor : MF M_X8_minor false 5 := ⟨q1486, q226, ⟨by decide, by decide⟩, by decide +kernel, by decide, (fun h => by cases h), fun _ => q1485⟩
abbrev M_X8_modulus : MI := (⟨"AlgebraHouse$Numbers", "modulus", "(I)I"⟩, cX8_modulus, 2, (some .int))
theorem mf_X8_modulus : MF M_X8_modulus false 1 := ⟨q1327, q226, ⟨by decide, by decide⟩, by decide +kernel, by decide, (fun h => by cases h), fun _ => q1326⟩
abbrev M_X8_multiply : MI := (⟨"AlgebraHouse$Numbers", "multiply", "(IIII)V"⟩, cX8_multiply, 13, none)
theorem mf_X8_multiply : MF M_X8_multiply false 4 := ⟨q1378, q226, ⟨by decide, by decide⟩, by decide +kernel, by decide, (fun h => by cases h), fun _ => q1376⟩
abbrev M_X8_poly : MI := (⟨"AlgebraHouse$Numbers", "poly", "(IIII)V"⟩, cX8_poly, 8, none)
theorem mf_X8_poly : MF M_X8_poly false 4 := ⟨q1407, q226, ⟨by decide, by decide⟩, by decide +kernel, by decide, (fun h => by cases h), fun _ => q1406⟩
abbrev M_X8_product : MI := (⟨"AlgebraHouse$Numbers", "product", "(IIIII)V"⟩, cX8_product, 10, none)
theorem mf_X8_product : MF M_X8_product false 5 := ⟨q1383, q226, ⟨by decide, by decide⟩, by decide +kernel, by decide, (fun h => by cases h), fun _ => q1381⟩
abbrev M_X8_put : MI := (⟨"AlgebraHouse$Numbers", "put", "(IJJ)V"⟩, cX8_put, 6, none)
theorem mf_X8_put : MF M_X8_put false 3 := ⟨q1391, q226, ⟨by decide, by decide⟩, by decide +kernel, by decide, (fun h => by cases h), fun _ => q1390⟩
abbrev M_X8_times : MI := (⟨"AlgebraHouse$Numbers", "times", "(IIII)V"⟩, cX8_times, 8, none)
theorem mf_X8_times : MF M_X8_times false 4 := ⟨q1387, q226, ⟨by decide, by decide⟩, by decide +kernel, by decide, (fun h => by cases h), fun _ => q1385⟩
abbrev M_X8_turn : MI := (⟨"AlgebraHouse$Numbers", "turn", "(III)V"⟩, cX8_turn, 11, none)
theorem mf_X8_turn : MF M_X8_turn false 3 := ⟨q1314, q226, ⟨by decide, by decide⟩, by decide +kernel, by decide, (fun h => by cases h), fun _ => q1312⟩
abbrev M_X8_unit : MI := (⟨"AlgebraHouse$Numbers", "unit", "(II)V"⟩, cX8_unit, 5, none)
theorem mf_X8_unit : MF M_X8_unit false 2 := ⟨q1372, q226, ⟨by decide, by decide⟩, by decide +kernel, by decide, (fun h => by cases h), fun _ => q1370⟩
abbrev M_X9_add : MI := (⟨"AlgebraHouse$Code", "add", "(III)I"⟩, cX9_add, 4, (some .int))
theorem mf_X9_add : MF M_X9_add false 3 := ⟨q1260, q227, ⟨by decide, by decide⟩, by decide +kernel, by decide, (fun h => by cases h), fun _ => q1258⟩
abbrev M_X9_init : MI := (⟨"AlgebraHouse$Code", "<init>", "()V"⟩, cX9_init, 1, none)
theorem mf_X9_init : MF M_X9_init false 0 := ⟨q593, q227, ⟨by decide, by decide⟩, by decide +kernel, by decide, (fun h => by cases h), fun _ => q592⟩
theorem lk_X0_1 : LK "AlgebraHouse" 1 ⟨"java/lang/Object", "<init>", "()V"⟩ := Or.inl q243
theorem lk_X0_15 : LK "AlgebraHouse" 15 ⟨"AlgebraHouse$Book", "<init>", "()V"⟩ := Or.inl q248
theorem lk_X0_29 : LK "AlgebraHouse" 29 ⟨"AlgebraHouse$Judge", "<init>", "(LAlgebraHouse$Book;)V"⟩ := Or.inl q514
theorem lk_X0_48 : LK "AlgebraHouse" 48 ⟨"AlgebraHouse$Machine", "<init>", "(LAlgebraHouse$Book;LAlgebraHouse$Judge;[I[I)V"⟩ := Or.inl q548
theorem lk_X0_84 : LK "AlgebraHouse" 84 ⟨"AlgebraHouse$Parser", "reads", "(LAlgebraHouse$Text;[BI)Z"⟩ := Or.inl q746
theorem lk_X0_93 : LK "AlgebraHouse" 93 ⟨"AlgebraHouse$Judge", "looks", "(LAlgebraHouse$Text;)Z"⟩ := Or.inl q1032
theorem lk_X0_104 : LK "AlgebraHouse" 104 ⟨"AlgebraHouse$Machine", "run", "(LAlgebraHouse$Text;)I"⟩ := Or.inl q1221
theorem lk_X0_118 : LK "AlgebraHouse" 118 ⟨"AlgebraHouse", "keep", "(LAlgebraHouse$Text;I)V"⟩ := Or.inl q1562
theorem lk_X0_122 : LK "AlgebraHouse" 122 ⟨"AlgebraHouse$Rings", "cells", "(I)I"⟩ := Or.inl q1566
theorem lk_X0_134 : LK "AlgebraHouse" 134 ⟨"java/lang/System", "arraycopy", "(Ljava/lang/Object;ILjava/lang/Object;II)V"⟩ := Or.inl q1567
theorem lk_X0_147 : LK "AlgebraHouse" 147 ⟨"AlgebraHouse$Book", "variable", "(J)I"⟩ := Or.inl q1568
theorem lk_X0_160 : LK "AlgebraHouse" 160 ⟨"AlgebraHouse$Rings", "base", "(I)I"⟩ := Or.inl q1592
theorem lk_X0_163 : LK "AlgebraHouse" 163 ⟨"AlgebraHouse$Rings", "depth", "(I)I"⟩ := Or.inl q1593
theorem lk_X0_166 : LK "AlgebraHouse" 166 ⟨"AlgebraHouse$Rings", "size", "(I)I"⟩ := Or.inl q1594
theorem lk_X0_168 : LK "AlgebraHouse" 168 ⟨"AlgebraHouse", "isThere", "(I)Z"⟩ := Or.inl q1581
theorem lk_X0_172 : LK "AlgebraHouse" 172 ⟨"AlgebraHouse", "ringOf", "(I)I"⟩ := Or.inl q1585
theorem lk_X0_175 : LK "AlgebraHouse" 175 ⟨"AlgebraHouse", "shown", "(II)I"⟩ := Or.inl q1589
theorem lk_X0_179 : LK "AlgebraHouse" 179 ⟨"java/lang/Math", "max", "(II)I"⟩ := Or.inl q1599
theorem lk_X0_184 : LK "AlgebraHouse" 184 ⟨"AlgebraHouse$Rings", "coefficients", "(I)I"⟩ := Or.inl q1600
theorem lk_X0_207 : LK "AlgebraHouse" 207 ⟨"AlgebraHouse$Book", "meant", "(J[III)I"⟩ := Or.inl q1610
theorem lk_X1_3 : LK "AlgebraHouse$Book" 3 ⟨"java/lang/Object", "<init>", "()V"⟩ := Or.inl q251
theorem lk_X1_45 : LK "AlgebraHouse$Book" 45 ⟨"AlgebraHouse$Rings", "size", "(I)I"⟩ := Or.inl q1100
theorem lk_X1_51 : LK "AlgebraHouse$Book" 51 ⟨"AlgebraHouse$Rings", "depth", "(I)I"⟩ := Or.inl q1101
theorem lk_X1_54 : LK "AlgebraHouse$Book" 54 ⟨"AlgebraHouse$Rings", "base", "(I)I"⟩ := Or.inl q1102
theorem lk_X1_57 : LK "AlgebraHouse$Book" 57 ⟨"AlgebraHouse$Rings", "of", "(III)I"⟩ := Or.inl q1105
theorem lk_X1_64 : LK "AlgebraHouse$Book" 64 ⟨"AlgebraHouse$Rings", "isField", "(I)Z"⟩ := Or.inl q1149
theorem lk_X1_71 : LK "AlgebraHouse$Book" 71 ⟨"AlgebraHouse$Book", "ring", "(LAlgebraHouse$Text;II)I"⟩ := Or.inl q1155
theorem lk_X1_75 : LK "AlgebraHouse$Book" 75 ⟨"java/lang/Math", "max", "(II)I"⟩ := Or.inl q1137
theorem lk_X1_81 : LK "AlgebraHouse$Book" 81 ⟨"AlgebraHouse$Rings", "join", "(II)I"⟩ := Or.inl q1138
theorem lk_X1_84 : LK "AlgebraHouse$Book" 84 ⟨"AlgebraHouse$Book", "can", "(LAlgebraHouse$Text;I)Z"⟩ := Or.inl q1146
theorem lk_X1_92 : LK "AlgebraHouse$Book" 92 ⟨"AlgebraHouse$Book", "found", "(LAlgebraHouse$Text;[I)I"⟩ := Or.inl q1134
theorem lk_X1_96 : LK "AlgebraHouse$Book" 96 ⟨"AlgebraHouse$Book", "price", "(LAlgebraHouse$Text;[II)I"⟩ := Or.inl q1156
theorem lk_X1_103 : LK "AlgebraHouse$Book" 103 ⟨"AlgebraHouse$Rings", "goes", "(II)Z"⟩ := Or.inl q1159
theorem lk_X1_107 : LK "AlgebraHouse$Book" 107 ⟨"AlgebraHouse$Rings", "price", "(II)I"⟩ := Or.inl q1163
theorem lk_X9_1 : LK "AlgebraHouse$Code" 1 ⟨"java/lang/Object", "<init>", "()V"⟩ := Or.inl q594
theorem lk_X7_3 : LK "AlgebraHouse$Coder" 3 ⟨"java/lang/Object", "<init>", "()V"⟩ := Or.inl q557
theorem lk_X7_34 : LK "AlgebraHouse$Coder" 34 ⟨"AlgebraHouse$Coder", "part", "(I)V"⟩ := Or.inl q1235
theorem lk_X7_42 : LK "AlgebraHouse$Coder" 42 ⟨"AlgebraHouse$Coder", "turn", "(II)V"⟩ := Or.inl q1270
theorem lk_X7_46 : LK "AlgebraHouse$Coder" 46 ⟨"AlgebraHouse$Code", "add", "(III)I"⟩ := Or.inl q1257
theorem lk_X7_50 : LK "AlgebraHouse$Coder" 50 ⟨"AlgebraHouse$Coder", "add", "(III)V"⟩ := Or.inl q1253
theorem lk_X7_56 : LK "AlgebraHouse$Coder" 56 ⟨"AlgebraHouse$Rings", "weight", "(I)I"⟩ := Or.inl q1239
theorem lk_X7_65 : LK "AlgebraHouse$Coder" 65 ⟨"java/lang/Math", "max", "(II)I"⟩ := Or.inl q1248
theorem lk_X7_71 : LK "AlgebraHouse$Coder" 71 ⟨"AlgebraHouse$Coder", "heavy", "(I)I"⟩ := Or.inl q1249
theorem lk_X7_80 : LK "AlgebraHouse$Coder" 80 ⟨"AlgebraHouse$Coder", "call", "(I)V"⟩ := Or.inl q1261
theorem lk_X7_83 : LK "AlgebraHouse$Coder" 83 ⟨"AlgebraHouse$Coder", "function", "(I)V"⟩ := Or.inl q1274
theorem lk_X7_88 : LK "AlgebraHouse$Coder" 88 ⟨"AlgebraHouse$Rings", "plain", "(I)I"⟩ := Or.inl q1279
theorem lk_X7_91 : LK "AlgebraHouse$Coder" 91 ⟨"AlgebraHouse$Coder", "part", "(II)V"⟩ := Or.inl q1266
theorem lk_X7_96 : LK "AlgebraHouse$Coder" 96 ⟨"AlgebraHouse$Coder", "choice", "(I)V"⟩ := Or.inl q1280
theorem lk_X7_99 : LK "AlgebraHouse$Coder" 99 ⟨"AlgebraHouse$Text", "second", "(I)I"⟩ := Or.inl q1284
theorem lk_X7_105 : LK "AlgebraHouse$Coder" 105 ⟨"AlgebraHouse$Coder", "two", "(II)V"⟩ := Or.inl q1286
theorem lk_X7_108 : LK "AlgebraHouse$Coder" 108 ⟨"AlgebraHouse$Rings", "join", "(II)I"⟩ := Or.inl q1290
theorem lk_X7_111 : LK "AlgebraHouse$Coder" 111 ⟨"AlgebraHouse$Text", "third", "(I)I"⟩ := Or.inl q1285
theorem lk_X7_123 : LK "AlgebraHouse$Coder" 123 ⟨"AlgebraHouse$Book", "ring", "(LAlgebraHouse$Text;II)I"⟩ := Or.inl q1265
theorem lk_X7_126 : LK "AlgebraHouse$Coder" 126 ⟨"AlgebraHouse$Rings", "fraction", "(I)I"⟩ := Or.inl q1278
theorem lk_X5_3 : LK "AlgebraHouse$Judge" 3 ⟨"java/lang/Object", "<init>", "()V"⟩ := Or.inl q517
theorem lk_X5_50 : LK "AlgebraHouse$Judge" 50 ⟨"AlgebraHouse$Judge", "part", "(I)I"⟩ := Or.inl q1085
theorem lk_X5_54 : LK "AlgebraHouse$Judge" 54 ⟨"AlgebraHouse$Judge", "begin", "()V"⟩ := Or.inl q1036
theorem lk_X5_60 : LK "AlgebraHouse$Judge" 60 ⟨"AlgebraHouse$Judge", "head", "()V"⟩ := Or.inl q1040
theorem lk_X5_63 : LK "AlgebraHouse$Judge" 63 ⟨"AlgebraHouse$Judge", "body", "()V"⟩ := Or.inl q1073
theorem lk_X5_66 : LK "AlgebraHouse$Judge" 66 ⟨"AlgebraHouse$Judge", "judge", "(LAlgebraHouse$Text;II)I"⟩ := Or.inl q1081
theorem lk_X5_77 : LK "AlgebraHouse$Judge" 77 ⟨"AlgebraHouse$Book", "variable", "(J)I"⟩ := Or.inl q1110
theorem lk_X5_89 : LK "AlgebraHouse$Judge" 89 ⟨"AlgebraHouse$Rings", "of", "(III)I"⟩ := Or.inl q1044
theorem lk_X5_99 : LK "AlgebraHouse$Judge" 99 ⟨"AlgebraHouse$Judge", "shape", "(II)Z"⟩ := Or.inl q1047
theorem lk_X5_114 : LK "AlgebraHouse$Judge" 114 ⟨"AlgebraHouse$Judge", "fail", "(II)I"⟩ := Or.inl q1055
theorem lk_X5_124 : LK "AlgebraHouse$Judge" 124 ⟨"AlgebraHouse$Judge", "isThere", "()Z"⟩ := Or.inl q1069
theorem lk_X5_134 : LK "AlgebraHouse$Judge" 134 ⟨"AlgebraHouse$Judge", "type", "(I)I"⟩ := Or.inl q1051
theorem lk_X5_154 : LK "AlgebraHouse$Judge" 154 ⟨"AlgebraHouse$Judge", "goal", "(I)V"⟩ := Or.inl q1077
theorem lk_X5_161 : LK "AlgebraHouse$Judge" 161 ⟨"AlgebraHouse$Book", "can", "(LAlgebraHouse$Text;I)Z"⟩ := Or.inl q1220
theorem lk_X5_165 : LK "AlgebraHouse$Judge" 165 ⟨"AlgebraHouse$Book", "ring", "(LAlgebraHouse$Text;II)I"⟩ := Or.inl q1097
theorem lk_X5_168 : LK "AlgebraHouse$Judge" 168 ⟨"AlgebraHouse$Rings", "goes", "(II)Z"⟩ := Or.inl q1213
theorem lk_X5_179 : LK "AlgebraHouse$Judge" 179 ⟨"AlgebraHouse$Judge", "inner", "(I)I"⟩ := Or.inl q1059
theorem lk_X5_182 : LK "AlgebraHouse$Judge" 182 ⟨"AlgebraHouse$Rings", "depth", "(I)I"⟩ := Or.inl q1066
theorem lk_X5_185 : LK "AlgebraHouse$Judge" 185 ⟨"AlgebraHouse$Rings", "size", "(I)I"⟩ := Or.inl q1063
theorem lk_X5_188 : LK "AlgebraHouse$Judge" 188 ⟨"AlgebraHouse$Judge", "ringOf", "(I)I"⟩ := Or.inl q1089
theorem lk_X5_196 : LK "AlgebraHouse$Judge" 196 ⟨"AlgebraHouse$Judge", "named", "(I)I"⟩ := Or.inl q1093
theorem lk_X5_199 : LK "AlgebraHouse$Judge" 199 ⟨"AlgebraHouse$Judge", "call", "(I)I"⟩ := Or.inl q1114
theorem lk_X5_202 : LK "AlgebraHouse$Judge" 202 ⟨"AlgebraHouse$Judge", "function", "(I)I"⟩ := Or.inl q1166
theorem lk_X5_205 : LK "AlgebraHouse$Judge" 205 ⟨"AlgebraHouse$Judge", "matrix", "(I)I"⟩ := Or.inl q1197
theorem lk_X5_208 : LK "AlgebraHouse$Judge" 208 ⟨"AlgebraHouse$Judge", "choice", "(I)I"⟩ := Or.inl q1201
theorem lk_X5_211 : LK "AlgebraHouse$Judge" 211 ⟨"AlgebraHouse$Judge", "turned", "(I)I"⟩ := Or.inl q1209
theorem lk_X5_214 : LK "AlgebraHouse$Judge" 214 ⟨"AlgebraHouse$Judge", "two", "(I)I"⟩ := Or.inl q1214
theorem lk_X5_217 : LK "AlgebraHouse$Judge" 217 ⟨"AlgebraHouse$Judge", "mean", "(III)I"⟩ := Or.inl q1106
theorem lk_X5_229 : LK "AlgebraHouse$Judge" 229 ⟨"AlgebraHouse$Book", "isCalled", "(JI)Z"⟩ := Or.inl q1118
theorem lk_X5_233 : LK "AlgebraHouse$Judge" 233 ⟨"AlgebraHouse$Judge", "parts", "(I)Z"⟩ := Or.inl q1122
theorem lk_X5_237 : LK "AlgebraHouse$Judge" 237 ⟨"AlgebraHouse$Text", "many", "(I)I"⟩ := Or.inl q1126
theorem lk_X5_240 : LK "AlgebraHouse$Judge" 240 ⟨"AlgebraHouse$Book", "meant", "(J[III)I"⟩ := Or.inl q1130
theorem lk_X5_249 : LK "AlgebraHouse$Judge" 249 ⟨"AlgebraHouse$Text", "second", "(I)I"⟩ := Or.inl q1170
theorem lk_X5_252 : LK "AlgebraHouse$Judge" 252 ⟨"AlgebraHouse$Text", "third", "(I)I"⟩ := Or.inl q1205
theorem lk_X5_255 : LK "AlgebraHouse$Judge" 255 ⟨"AlgebraHouse$Rings", "join", "(II)I"⟩ := Or.inl q1177
theorem lk_X5_258 : LK "AlgebraHouse$Judge" 258 ⟨"AlgebraHouse$Rings", "base", "(I)I"⟩ := Or.inl q1185
theorem lk_X5_261 : LK "AlgebraHouse$Judge" 261 ⟨"AlgebraHouse$Rings", "isField", "(I)Z"⟩ := Or.inl q1189
theorem lk_X5_264 : LK "AlgebraHouse$Judge" 264 ⟨"AlgebraHouse$Rings", "fraction", "(I)I"⟩ := Or.inl q1190
theorem lk_X5_267 : LK "AlgebraHouse$Judge" 267 ⟨"AlgebraHouse$Rings", "divides", "(I)Z"⟩ := Or.inl q1178
theorem lk_X5_270 : LK "AlgebraHouse$Judge" 270 ⟨"AlgebraHouse$Judge", "ofTwo", "(III)I"⟩ := Or.inl q1174
theorem lk_X5_273 : LK "AlgebraHouse$Judge" 273 ⟨"AlgebraHouse$Judge", "ofOne", "(II)I"⟩ := Or.inl q1182
theorem lk_X5_276 : LK "AlgebraHouse$Judge" 276 ⟨"AlgebraHouse$Rings", "plain", "(I)I"⟩ := Or.inl q1186
theorem lk_X5_279 : LK "AlgebraHouse$Judge" 279 ⟨"AlgebraHouse$Rings", "isPrime", "(I)Z"⟩ := Or.inl q1196
theorem lk_X6_3 : LK "AlgebraHouse$Machine" 3 ⟨"java/lang/Object", "<init>", "()V"⟩ := Or.inl q551
theorem lk_X6_88 : LK "AlgebraHouse$Machine" 88 ⟨"AlgebraHouse$Judge", "begin", "()V"⟩ := Or.inl q1229
theorem lk_X6_93 : LK "AlgebraHouse$Machine" 93 ⟨"AlgebraHouse$Judge", "judge", "(LAlgebraHouse$Text;II)I"⟩ := Or.inl q1230
theorem lk_X6_96 : LK "AlgebraHouse$Machine" 96 ⟨"AlgebraHouse$Coder", "write", "(LAlgebraHouse$Book;LAlgebraHouse$Text;LAlgebraHouse$Code;I)V"⟩ := Or.inl q1231
theorem lk_X6_128 : LK "AlgebraHouse$Machine" 128 ⟨"AlgebraHouse$Machine", "codeOf", "(IILAlgebraHouse$Text;I)I"⟩ := Or.inl q1225
theorem lk_X6_132 : LK "AlgebraHouse$Machine" 132 ⟨"AlgebraHouse$Machine", "enter", "(III)V"⟩ := Or.inl q1291
theorem lk_X6_145 : LK "AlgebraHouse$Machine" 145 ⟨"AlgebraHouse$Machine", "perform", "(III)V"⟩ := Or.inl q1295
theorem lk_X6_148 : LK "AlgebraHouse$Machine" 148 ⟨"AlgebraHouse$Rings", "entries", "(I)I"⟩ := Or.inl q1358
theorem lk_X6_154 : LK "AlgebraHouse$Machine" 154 ⟨"AlgebraHouse$Rings", "coefficients", "(I)I"⟩ := Or.inl q1359
theorem lk_X6_158 : LK "AlgebraHouse$Machine" 158 ⟨"AlgebraHouse$Machine", "number", "(I)I"⟩ := Or.inl q1354
theorem lk_X6_161 : LK "AlgebraHouse$Machine" 161 ⟨"AlgebraHouse$Numbers", "copy", "(III)V"⟩ := Or.inl q1429
theorem lk_X6_164 : LK "AlgebraHouse$Machine" 164 ⟨"AlgebraHouse$Rings", "cells", "(I)I"⟩ := Or.inl q1307
theorem lk_X6_168 : LK "AlgebraHouse$Machine" 168 ⟨"AlgebraHouse$Machine", "made", "(II)V"⟩ := Or.inl q1534
theorem lk_X6_172 : LK "AlgebraHouse$Machine" 172 ⟨"AlgebraHouse$Machine", "push", "(I)I"⟩ := Or.inl q1299
theorem lk_X6_175 : LK "AlgebraHouse$Machine" 175 ⟨"AlgebraHouse$Numbers", "clear", "(II)V"⟩ := Or.inl q1303
theorem lk_X6_178 : LK "AlgebraHouse$Machine" 178 ⟨"java/lang/System", "arraycopy", "(Ljava/lang/Object;ILjava/lang/Object;II)V"⟩ := Or.inl q1310
theorem lk_X6_184 : LK "AlgebraHouse$Machine" 184 ⟨"AlgebraHouse$Numbers", "turn", "(III)V"⟩ := Or.inl q1311
theorem lk_X6_187 : LK "AlgebraHouse$Machine" 187 ⟨"AlgebraHouse$Numbers", "back", "(III)V"⟩ := Or.inl q1333
theorem lk_X6_190 : LK "AlgebraHouse$Machine" 190 ⟨"AlgebraHouse$Machine", "call", "(II)V"⟩ := Or.inl q1341
theorem lk_X6_193 : LK "AlgebraHouse$Machine" 193 ⟨"AlgebraHouse$Machine", "ends", "(I)V"⟩ := Or.inl q1350
theorem lk_X6_197 : LK "AlgebraHouse$Machine" 197 ⟨"AlgebraHouse$Rings", "base", "(I)I"⟩ := Or.inl q1345
theorem lk_X6_200 : LK "AlgebraHouse$Machine" 200 ⟨"AlgebraHouse$Numbers", "less", "(III)V"⟩ := Or.inl q1360
theorem lk_X6_203 : LK "AlgebraHouse$Machine" 203 ⟨"AlgebraHouse$Machine", "power", "(II)V"⟩ := Or.inl q1364
theorem lk_X6_206 : LK "AlgebraHouse$Machine" 206 ⟨"AlgebraHouse$Machine", "function", "(III)V"⟩ := Or.inl q1430
theorem lk_X6_209 : LK "AlgebraHouse$Machine" 209 ⟨"AlgebraHouse$Machine", "two", "(II)V"⟩ := Or.inl q1538
theorem lk_X6_221 : LK "AlgebraHouse$Machine" 221 ⟨"AlgebraHouse$Rings", "isPrime", "(I)Z"⟩ := Or.inl q1346
theorem lk_X6_225 : LK "AlgebraHouse$Machine" 225 ⟨"AlgebraHouse$Rings", "withBase", "(II)I"⟩ := Or.inl q1347
theorem lk_X6_229 : LK "AlgebraHouse$Machine" 229 ⟨"AlgebraHouse$Book", "ring", "(LAlgebraHouse$Text;II)I"⟩ := Or.inl q1348
theorem lk_X6_234 : LK "AlgebraHouse$Machine" 234 ⟨"java/lang/Math", "max", "(II)I"⟩ := Or.inl q1349
theorem lk_X6_240 : LK "AlgebraHouse$Machine" 240 ⟨"AlgebraHouse$Numbers", "unit", "(II)V"⟩ := Or.inl q1369
theorem lk_X6_243 : LK "AlgebraHouse$Machine" 243 ⟨"AlgebraHouse$Numbers", "multiply", "(IIII)V"⟩ := Or.inl q1375
theorem lk_X6_247 : LK "AlgebraHouse$Machine" 247 ⟨"AlgebraHouse$Machine", "truth", "(ZI)V"⟩ := Or.inl q1542
theorem lk_X6_251 : LK "AlgebraHouse$Machine" 251 ⟨"AlgebraHouse$Numbers", "isLess", "(IIZ)Z"⟩ := Or.inl q1546
theorem lk_X6_255 : LK "AlgebraHouse$Machine" 255 ⟨"AlgebraHouse$Numbers", "addAll", "(IIIIIZ)V"⟩ := Or.inl q1470
theorem lk_X6_259 : LK "AlgebraHouse$Machine" 259 ⟨"AlgebraHouse$Numbers", "isZero", "(I)Z"⟩ := Or.inl q1514
theorem lk_X6_262 : LK "AlgebraHouse$Machine" 262 ⟨"AlgebraHouse$Numbers", "by", "(IIII)V"⟩ := Or.inl q1464
theorem lk_X6_265 : LK "AlgebraHouse$Machine" 265 ⟨"AlgebraHouse$Machine", "rest", "(ZIII)V"⟩ := Or.inl q1550
theorem lk_X6_268 : LK "AlgebraHouse$Machine" 268 ⟨"AlgebraHouse$Rings", "depth", "(I)I"⟩ := Or.inl q1438
theorem lk_X6_271 : LK "AlgebraHouse$Machine" 271 ⟨"AlgebraHouse$Numbers", "divide", "(III)V"⟩ := Or.inl q1449
theorem lk_X6_276 : LK "AlgebraHouse$Machine" 276 ⟨"java/lang/Math", "floorDiv", "(II)I"⟩ := Or.inl q1555
theorem lk_X6_279 : LK "AlgebraHouse$Machine" 279 ⟨"java/lang/Math", "abs", "(I)I"⟩ := Or.inl q1558
theorem lk_X6_282 : LK "AlgebraHouse$Machine" 282 ⟨"java/lang/Math", "floorMod", "(II)I"⟩ := Or.inl q1561
theorem lk_X6_285 : LK "AlgebraHouse$Machine" 285 ⟨"AlgebraHouse$Machine", "common", "(III)V"⟩ := Or.inl q1434
theorem lk_X6_288 : LK "AlgebraHouse$Machine" 288 ⟨"AlgebraHouse$Numbers", "isClear", "(II)Z"⟩ := Or.inl q1465
theorem lk_X6_292 : LK "AlgebraHouse$Machine" 292 ⟨"AlgebraHouse$Machine", "integer", "(I)V"⟩ := Or.inl q1440
theorem lk_X6_295 : LK "AlgebraHouse$Machine" 295 ⟨"AlgebraHouse$Machine", "atValue", "(IIII)V"⟩ := Or.inl q1466
theorem lk_X6_298 : LK "AlgebraHouse$Machine" 298 ⟨"AlgebraHouse$Machine", "derived", "(II)V"⟩ := Or.inl q1471
theorem lk_X6_301 : LK "AlgebraHouse$Machine" 301 ⟨"AlgebraHouse$Numbers", "determinant", "(III)V"⟩ := Or.inl q1479
theorem lk_X6_304 : LK "AlgebraHouse$Machine" 304 ⟨"AlgebraHouse$Machine", "trace", "(II)V"⟩ := Or.inl q1494
theorem lk_X6_307 : LK "AlgebraHouse$Machine" 307 ⟨"AlgebraHouse$Machine", "turned", "(II)V"⟩ := Or.inl q1499
theorem lk_X6_310 : LK "AlgebraHouse$Machine" 310 ⟨"AlgebraHouse$Numbers", "adjugate", "(III)V"⟩ := Or.inl q1503
theorem lk_X6_313 : LK "AlgebraHouse$Machine" 313 ⟨"AlgebraHouse$Machine", "inverse", "(II)V"⟩ := Or.inl q1510
theorem lk_X6_316 : LK "AlgebraHouse$Machine" 316 ⟨"AlgebraHouse$Machine", "characteristic", "(II)V"⟩ := Or.inl q1515
theorem lk_X6_322 : LK "AlgebraHouse$Machine" 322 ⟨"AlgebraHouse$Machine", "roots", "(II)I"⟩ := Or.inl q1519
theorem lk_X6_328 : LK "AlgebraHouse$Machine" 328 ⟨"AlgebraHouse$Numbers", "degree", "(I)I"⟩ := Or.inl q1445
theorem lk_X6_333 : LK "AlgebraHouse$Machine" 333 ⟨"AlgebraHouse$Numbers", "times", "(IIII)V"⟩ := Or.inl q1478
theorem lk_X6_336 : LK "AlgebraHouse$Machine" 336 ⟨"AlgebraHouse$Rings", "size", "(I)I"⟩ := Or.inl q1498
theorem lk_X6_339 : LK "AlgebraHouse$Machine" 339 ⟨"AlgebraHouse$Machine", "high", "([I)I"⟩ := Or.inl q1523
theorem lk_X6_343 : LK "AlgebraHouse$Machine" 343 ⟨"AlgebraHouse$Machine", "square", "(III)V"⟩ := Or.inl q1526
theorem lk_X6_346 : LK "AlgebraHouse$Machine" 346 ⟨"AlgebraHouse$Machine", "reduce", "([II[III)V"⟩ := Or.inl q1530
theorem lk_X8_5 : LK "AlgebraHouse$Numbers" 5 ⟨"java/lang/Object", "<init>", "()V"⟩ := Or.inl q573
theorem lk_X8_29 : LK "AlgebraHouse$Numbers" 29 ⟨"java/lang/Math", "abs", "(J)J"⟩ := Or.inl q1401
theorem lk_X8_35 : LK "AlgebraHouse$Numbers" 35 ⟨"AlgebraHouse$Numbers", "common", "(JJ)J"⟩ := Or.inl q1398
theorem lk_X8_39 : LK "AlgebraHouse$Numbers" 39 ⟨"AlgebraHouse$Numbers", "put", "(IJJ)V"⟩ := Or.inl q1388
theorem lk_X8_43 : LK "AlgebraHouse$Numbers" 43 ⟨"java/lang/System", "arraycopy", "(Ljava/lang/Object;ILjava/lang/Object;II)V"⟩ := Or.inl q1322
theorem lk_X8_49 : LK "AlgebraHouse$Numbers" 49 ⟨"AlgebraHouse$Numbers", "modulus", "(I)I"⟩ := Or.inl q1324
theorem lk_X8_53 : LK "AlgebraHouse$Numbers" 53 ⟨"AlgebraHouse$Numbers", "least", "(IJJ)V"⟩ := Or.inl q1394
theorem lk_X8_56 : LK "AlgebraHouse$Numbers" 56 ⟨"java/lang/Math", "floorMod", "(JJ)J"⟩ := Or.inl q1415
theorem lk_X8_59 : LK "AlgebraHouse$Numbers" 59 ⟨"AlgebraHouse$Numbers", "inverse", "(II)I"⟩ := Or.inl q1460
theorem lk_X8_63 : LK "AlgebraHouse$Numbers" 63 ⟨"java/lang/Math", "floorMod", "(II)I"⟩ := Or.inl q1328
theorem lk_X8_65 : LK "AlgebraHouse$Numbers" 65 ⟨"AlgebraHouse$Numbers", "add", "(IIIIZ)V"⟩ := Or.inl q1411
theorem lk_X8_69 : LK "AlgebraHouse$Numbers" 69 ⟨"java/lang/Math", "max", "(II)I"⟩ := Or.inl q1373
theorem lk_X8_72 : LK "AlgebraHouse$Numbers" 72 ⟨"java/lang/Math", "min", "(II)I"⟩ := Or.inl q1408
theorem lk_X8_77 : LK "AlgebraHouse$Numbers" 77 ⟨"AlgebraHouse$Numbers", "times", "(IIII)V"⟩ := Or.inl q1384
theorem lk_X8_81 : LK "AlgebraHouse$Numbers" 81 ⟨"AlgebraHouse$Numbers", "copy", "(III)V"⟩ := Or.inl q1318
theorem lk_X8_85 : LK "AlgebraHouse$Numbers" 85 ⟨"AlgebraHouse$Numbers", "isZero", "(I)Z"⟩ := Or.inl q1418
theorem lk_X8_89 : LK "AlgebraHouse$Numbers" 89 ⟨"AlgebraHouse$Numbers", "poly", "(IIII)V"⟩ := Or.inl q1404
theorem lk_X8_94 : LK "AlgebraHouse$Numbers" 94 ⟨"AlgebraHouse$Numbers", "addAll", "(IIIIIZ)V"⟩ := Or.inl q1424
theorem lk_X8_98 : LK "AlgebraHouse$Numbers" 98 ⟨"AlgebraHouse$Numbers", "isClear", "(II)Z"⟩ := Or.inl q1337
theorem lk_X8_102 : LK "AlgebraHouse$Numbers" 102 ⟨"AlgebraHouse$Rings", "size", "(I)I"⟩ := Or.inl q1331
theorem lk_X8_105 : LK "AlgebraHouse$Numbers" 105 ⟨"AlgebraHouse$Rings", "depth", "(I)I"⟩ := Or.inl q1379
theorem lk_X8_108 : LK "AlgebraHouse$Numbers" 108 ⟨"AlgebraHouse$Rings", "base", "(I)I"⟩ := Or.inl q1323
theorem lk_X8_111 : LK "AlgebraHouse$Numbers" 111 ⟨"AlgebraHouse$Rings", "coefficients", "(I)I"⟩ := Or.inl q1315
theorem lk_X8_114 : LK "AlgebraHouse$Numbers" 114 ⟨"AlgebraHouse$Numbers", "product", "(IIIII)V"⟩ := Or.inl q1380
theorem lk_X8_119 : LK "AlgebraHouse$Numbers" 119 ⟨"AlgebraHouse$Rings", "entries", "(I)I"⟩ := Or.inl q1316
theorem lk_X8_122 : LK "AlgebraHouse$Numbers" 122 ⟨"AlgebraHouse$Numbers", "clear", "(II)V"⟩ := Or.inl q1332
theorem lk_X8_126 : LK "AlgebraHouse$Numbers" 126 ⟨"java/lang/Integer", "numberOfTrailingZeros", "(I)I"⟩ := Or.inl q1487
theorem lk_X8_133 : LK "AlgebraHouse$Numbers" 133 ⟨"AlgebraHouse$Numbers", "minor", "(IIIII)V"⟩ := Or.inl q1483
theorem lk_X8_137 : LK "AlgebraHouse$Numbers" 137 ⟨"AlgebraHouse$Rings", "plain", "(I)I"⟩ := Or.inl q1507
theorem lk_X8_140 : LK "AlgebraHouse$Numbers" 140 ⟨"AlgebraHouse$Numbers", "unit", "(II)V"⟩ := Or.inl q1508
theorem lk_X8_143 : LK "AlgebraHouse$Numbers" 143 ⟨"AlgebraHouse$Numbers", "less", "(III)V"⟩ := Or.inl q1509
theorem lk_X8_148 : LK "AlgebraHouse$Numbers" 148 ⟨"AlgebraHouse$Numbers", "degree", "(I)I"⟩ := Or.inl q1455
theorem lk_X8_151 : LK "AlgebraHouse$Numbers" 151 ⟨"AlgebraHouse$Numbers", "by", "(IIII)V"⟩ := Or.inl q1456
theorem lk_X3_3 : LK "AlgebraHouse$Parser" 3 ⟨"java/lang/Object", "<init>", "()V"⟩ := Or.inl q457
theorem lk_X3_41 : LK "AlgebraHouse$Parser" 41 ⟨"AlgebraHouse$Parser", "here", "()I"⟩ := Or.inl q915
theorem lk_X3_45 : LK "AlgebraHouse$Parser" 45 ⟨"AlgebraHouse$Parser", "fail", "(II)V"⟩ := Or.inl q923
theorem lk_X3_49 : LK "AlgebraHouse$Parser" 49 ⟨"AlgebraHouse$Parser", "isSign", "(I)Z"⟩ := Or.inl q941
theorem lk_X3_53 : LK "AlgebraHouse$Parser" 53 ⟨"AlgebraHouse$Parser", "go", "()V"⟩ := Or.inl q919
theorem lk_X3_56 : LK "AlgebraHouse$Parser" 56 ⟨"AlgebraHouse$Parser", "takes", "(I)Z"⟩ := Or.inl q937
theorem lk_X3_59 : LK "AlgebraHouse$Parser" 59 ⟨"AlgebraHouse$Parser", "isKey", "(I)Z"⟩ := Or.inl q961
theorem lk_X3_62 : LK "AlgebraHouse$Parser" 62 ⟨"AlgebraHouse$Parser", "takesKey", "(I)Z"⟩ := Or.inl q1028
theorem lk_X3_68 : LK "AlgebraHouse$Parser" 68 ⟨"AlgebraHouse$Parser", "opens", "()V"⟩ := Or.inl q929
theorem lk_X3_71 : LK "AlgebraHouse$Parser" 71 ⟨"AlgebraHouse$Parser", "need", "(I)V"⟩ := Or.inl q933
theorem lk_X3_82 : LK "AlgebraHouse$Parser" 82 ⟨"AlgebraHouse$Text", "clear", "()V"⟩ := Or.inl q751
theorem lk_X3_87 : LK "AlgebraHouse$Parser" 87 ⟨"AlgebraHouse$Tokens", "read", "([BI)V"⟩ := Or.inl q755
theorem lk_X3_91 : LK "AlgebraHouse$Parser" 91 ⟨"AlgebraHouse$Parser", "line", "()V"⟩ := Or.inl q903
theorem lk_X3_96 : LK "AlgebraHouse$Parser" 96 ⟨"AlgebraHouse$Parser", "is", "(III)Z"⟩ := Or.inl q907
theorem lk_X3_100 : LK "AlgebraHouse$Parser" 100 ⟨"AlgebraHouse$Parser", "told", "()V"⟩ := Or.inl q911
theorem lk_X3_114 : LK "AlgebraHouse$Parser" 114 ⟨"AlgebraHouse$Parser", "expression", "()I"⟩ := Or.inl q965
theorem lk_X3_135 : LK "AlgebraHouse$Parser" 135 ⟨"AlgebraHouse$Parser", "type", "()I"⟩ := Or.inl q945
theorem lk_X3_138 : LK "AlgebraHouse$Parser" 138 ⟨"AlgebraHouse$Parser", "closes", "(I)V"⟩ := Or.inl q957
theorem lk_X3_153 : LK "AlgebraHouse$Parser" 153 ⟨"AlgebraHouse$Text", "add", "(II)I"⟩ := Or.inl q949
theorem lk_X3_162 : LK "AlgebraHouse$Parser" 162 ⟨"AlgebraHouse$Parser", "needOpen", "(I)V"⟩ := Or.inl q953
theorem lk_X3_169 : LK "AlgebraHouse$Parser" 169 ⟨"AlgebraHouse$Parser", "either", "()I"⟩ := Or.inl q969
theorem lk_X3_172 : LK "AlgebraHouse$Parser" 172 ⟨"AlgebraHouse$Parser", "needKey", "(I)V"⟩ := Or.inl q1024
theorem lk_X3_178 : LK "AlgebraHouse$Parser" 178 ⟨"AlgebraHouse$Parser", "both", "()I"⟩ := Or.inl q973
theorem lk_X3_181 : LK "AlgebraHouse$Parser" 181 ⟨"AlgebraHouse$Text", "add", "(IIII)I"⟩ := Or.inl q1019
theorem lk_X3_184 : LK "AlgebraHouse$Parser" 184 ⟨"AlgebraHouse$Parser", "negated", "()I"⟩ := Or.inl q977
theorem lk_X3_187 : LK "AlgebraHouse$Parser" 187 ⟨"AlgebraHouse$Parser", "relation", "()I"⟩ := Or.inl q981
theorem lk_X3_190 : LK "AlgebraHouse$Parser" 190 ⟨"AlgebraHouse$Parser", "sum", "()I"⟩ := Or.inl q985
theorem lk_X3_193 : LK "AlgebraHouse$Parser" 193 ⟨"AlgebraHouse$Parser", "product", "()I"⟩ := Or.inl q989
theorem lk_X3_196 : LK "AlgebraHouse$Parser" 196 ⟨"AlgebraHouse$Parser", "minus", "()I"⟩ := Or.inl q993
theorem lk_X3_199 : LK "AlgebraHouse$Parser" 199 ⟨"AlgebraHouse$Parser", "behind", "()I"⟩ := Or.inl q997
theorem lk_X3_202 : LK "AlgebraHouse$Parser" 202 ⟨"AlgebraHouse$Parser", "atom", "()I"⟩ := Or.inl q1001
theorem lk_X3_205 : LK "AlgebraHouse$Parser" 205 ⟨"AlgebraHouse$Parser", "arguments", "(II)V"⟩ := Or.inl q1005
theorem lk_X3_208 : LK "AlgebraHouse$Parser" 208 ⟨"AlgebraHouse$Parser", "signed", "(I)I"⟩ := Or.inl q1009
theorem lk_X3_213 : LK "AlgebraHouse$Parser" 213 ⟨"AlgebraHouse$Parser", "matrix", "(I)I"⟩ := Or.inl q1013
theorem lk_X3_216 : LK "AlgebraHouse$Parser" 216 ⟨"java/lang/Math", "min", "(II)I"⟩ := Or.inl q1017
theorem lk_X3_221 : LK "AlgebraHouse$Parser" 221 ⟨"java/lang/Math", "max", "(II)I"⟩ := Or.inl q1018
theorem lk_X11_9 : LK "AlgebraHouse$Rings" 9 ⟨"AlgebraHouse$Rings", "base", "(I)I"⟩ := Or.inl q1141
theorem lk_X11_15 : LK "AlgebraHouse$Rings" 15 ⟨"AlgebraHouse$Rings", "size", "(I)I"⟩ := Or.inl q1142
theorem lk_X11_18 : LK "AlgebraHouse$Rings" 18 ⟨"AlgebraHouse$Rings", "depth", "(I)I"⟩ := Or.inl q1143
theorem lk_X11_21 : LK "AlgebraHouse$Rings" 21 ⟨"java/lang/Math", "max", "(II)I"⟩ := Or.inl q1144
theorem lk_X11_27 : LK "AlgebraHouse$Rings" 27 ⟨"AlgebraHouse$Rings", "of", "(III)I"⟩ := Or.inl q1145
theorem lk_X11_31 : LK "AlgebraHouse$Rings" 31 ⟨"AlgebraHouse$Rings", "join", "(II)I"⟩ := Or.inl q1162
theorem lk_X11_34 : LK "AlgebraHouse$Rings" 34 ⟨"AlgebraHouse$Rings", "isPrime", "(I)Z"⟩ := Or.inl q1152
theorem lk_X11_38 : LK "AlgebraHouse$Rings" 38 ⟨"AlgebraHouse$Rings", "isField", "(I)Z"⟩ := Or.inl q1181
theorem lk_X11_41 : LK "AlgebraHouse$Rings" 41 ⟨"AlgebraHouse$Rings", "withBase", "(II)I"⟩ := Or.inl q1193
theorem lk_X11_44 : LK "AlgebraHouse$Rings" 44 ⟨"AlgebraHouse$Rings", "entries", "(I)I"⟩ := Or.inl q1245
theorem lk_X11_47 : LK "AlgebraHouse$Rings" 47 ⟨"AlgebraHouse$Rings", "coefficients", "(I)I"⟩ := Or.inl q1242
theorem lk_X2_3 : LK "AlgebraHouse$Text" 3 ⟨"java/lang/Object", "<init>", "()V"⟩ := Or.inl q258
theorem lk_X2_81 : LK "AlgebraHouse$Text" 81 ⟨"AlgebraHouse$Text", "add", "(II)I"⟩ := Or.inl q1023
theorem lk_X4_3 : LK "AlgebraHouse$Tokens" 3 ⟨"java/lang/Object", "<init>", "()V"⟩ := Or.inl q463
theorem lk_X4_36 : LK "AlgebraHouse$Tokens" 36 ⟨"java/lang/System", "arraycopy", "(Ljava/lang/Object;ILjava/lang/Object;II)V"⟩ := Or.inl q759
theorem lk_X4_42 : LK "AlgebraHouse$Tokens" 42 ⟨"AlgebraHouse$Tokens", "see", "(I)I"⟩ := Or.inl q762
theorem lk_X4_46 : LK "AlgebraHouse$Tokens" 46 ⟨"AlgebraHouse$Tokens", "put", "(III)V"⟩ := Or.inl q766
theorem lk_X4_50 : LK "AlgebraHouse$Tokens" 50 ⟨"AlgebraHouse$Tokens", "isLetter", "(I)Z"⟩ := Or.inl q770
theorem lk_X4_54 : LK "AlgebraHouse$Tokens" 54 ⟨"AlgebraHouse$Tokens", "word", "(I)I"⟩ := Or.inl q773
theorem lk_X4_57 : LK "AlgebraHouse$Tokens" 57 ⟨"AlgebraHouse$Tokens", "isDigit", "(I)Z"⟩ := Or.inl q777
theorem lk_X4_60 : LK "AlgebraHouse$Tokens" 60 ⟨"AlgebraHouse$Tokens", "number", "(I)I"⟩ := Or.inl q837
theorem lk_X4_63 : LK "AlgebraHouse$Tokens" 63 ⟨"AlgebraHouse$Tokens", "sign", "(II)I"⟩ := Or.inl q841
theorem lk_X4_69 : LK "AlgebraHouse$Tokens" 69 ⟨"AlgebraHouse$Tokens", "find", "(Ljava/lang/String;II)I"⟩ := Or.inl q781
theorem lk_X4_75 : LK "AlgebraHouse$Tokens" 75 ⟨"java/lang/Math", "max", "(II)I"⟩ := Or.inl q834
theorem lk_X4_80 : LK "AlgebraHouse$Tokens" 80 ⟨"java/lang/String", "length", "()I"⟩ := Or.inl q785
theorem lk_X4_86 : LK "AlgebraHouse$Tokens" 86 ⟨"java/lang/String", "charAt", "(I)C"⟩ := Or.inl q795
theorem lk_X4_92 : LK "AlgebraHouse$Tokens" 92 ⟨"java/lang/String", "indexOf", "(I)I"⟩ := Or.inl q846
theorem lk_L_9 : LK "AlgebraHouseLaw" 9 ⟨"AlgebraHouse", "<init>", "()V"⟩ := Or.inl q240
theorem lk_L_12 : LK "AlgebraHouseLaw" 12 ⟨"AlgebraHouseModel", "<init>", "()V"⟩ := Or.inl q1613
theorem lk_L_13 : LK "AlgebraHouseLaw" 13 ⟨"AlgebraHouse", "feed", "(IIIII)I"⟩ := Or.inl q738
theorem lk_L_17 : LK "AlgebraHouseLaw" 17 ⟨"AlgebraHouseModel", "feed", "(IIIII)I"⟩ := Or.inl q2003
theorem lk_L_18 : LK "AlgebraHouseLaw" 18 ⟨"AlgebraHouse", "line", "(I)I"⟩ := Or.inl q742
theorem lk_L_22 : LK "AlgebraHouseLaw" 22 ⟨"AlgebraHouseModel", "line", "(I)I"⟩ := Or.inl q2011
theorem lk_L_23 : LK "AlgebraHouseLaw" 23 ⟨"AlgebraHouse", "told", "(I)I"⟩ := Or.inl q1569
theorem lk_L_26 : LK "AlgebraHouseLaw" 26 ⟨"AlgebraHouseModel", "told", "(I)I"⟩ := Or.inl q2571
theorem lk_L_27 : LK "AlgebraHouseLaw" 27 ⟨"AlgebraHouse", "count", "(I)I"⟩ := Or.inl q1573
theorem lk_L_30 : LK "AlgebraHouseLaw" 30 ⟨"AlgebraHouseModel", "count", "(I)I"⟩ := Or.inl q2575
theorem lk_L_31 : LK "AlgebraHouseLaw" 31 ⟨"AlgebraHouse", "ring", "(II)I"⟩ := Or.inl q1577
theorem lk_L_35 : LK "AlgebraHouseLaw" 35 ⟨"AlgebraHouseModel", "ring", "(II)I"⟩ := Or.inl q2579
theorem lk_L_36 : LK "AlgebraHouseLaw" 36 ⟨"AlgebraHouse", "entry", "(IIIIII)I"⟩ := Or.inl q1595
theorem lk_L_40 : LK "AlgebraHouseLaw" 40 ⟨"AlgebraHouseModel", "entry", "(IIIIII)I"⟩ := Or.inl q2588
theorem lk_L_41 : LK "AlgebraHouseLaw" 41 ⟨"AlgebraHouse", "function", "(II)I"⟩ := Or.inl q1601
theorem lk_L_44 : LK "AlgebraHouseLaw" 44 ⟨"AlgebraHouseModel", "function", "(II)I"⟩ := Or.inl q2593
theorem lk_L_47 : LK "AlgebraHouseLaw" 47 ⟨"AlgebraHouse", "meant", "(JIIII)I"⟩ := Or.inl q1605
theorem lk_L_51 : LK "AlgebraHouseLaw" 51 ⟨"AlgebraHouseModel", "meant", "(JIIII)I"⟩ := Or.inl q2597
theorem lk_X10_1 : LK "AlgebraHouseModel" 1 ⟨"java/lang/Object", "<init>", "()V"⟩ := Or.inl q1616
theorem lk_X10_313 : LK "AlgebraHouseModel" 313 ⟨"AlgebraHouseModel", "lay", "(I)V"⟩ := Or.inl q2007
theorem lk_X10_320 : LK "AlgebraHouseModel" 320 ⟨"AlgebraHouseModel", "token", "(II)I"⟩ := Or.inl q2019
theorem lk_X10_327 : LK "AlgebraHouseModel" 327 ⟨"AlgebraHouseModel", "isLetter", "(I)Z"⟩ := Or.inl q2023
theorem lk_X10_331 : LK "AlgebraHouseModel" 331 ⟨"AlgebraHouseModel", "isDigit", "(I)Z"⟩ := Or.inl q2026
theorem lk_X10_334 : LK "AlgebraHouseModel" 334 ⟨"AlgebraHouseModel", "wordKind", "(J)I"⟩ := Or.inl q2029
theorem lk_X10_344 : LK "AlgebraHouseModel" 344 ⟨"AlgebraHouseModel", "builtInOf", "(J)I"⟩ := Or.inl q2033
theorem lk_X10_356 : LK "AlgebraHouseModel" 356 ⟨"AlgebraHouseModel", "fail", "(I)V"⟩ := Or.inl q2055
theorem lk_X10_359 : LK "AlgebraHouseModel" 359 ⟨"AlgebraHouseModel", "isSign", "(I)Z"⟩ := Or.inl q2067
theorem lk_X10_362 : LK "AlgebraHouseModel" 362 ⟨"AlgebraHouseModel", "accept", "()V"⟩ := Or.inl q2051
theorem lk_X10_365 : LK "AlgebraHouseModel" 365 ⟨"AlgebraHouseModel", "isKey", "(J)Z"⟩ := Or.inl q2083
theorem lk_X10_372 : LK "AlgebraHouseModel" 372 ⟨"AlgebraHouseModel", "sign", "(I)V"⟩ := Or.inl q2063
theorem lk_X10_375 : LK "AlgebraHouseModel" 375 ⟨"AlgebraHouseModel", "opens", "(I)V"⟩ := Or.inl q2071
theorem lk_X10_381 : LK "AlgebraHouseModel" 381 ⟨"AlgebraHouseModel", "node", "(IIIII)I"⟩ := Or.inl q2079
theorem lk_X10_385 : LK "AlgebraHouseModel" 385 ⟨"AlgebraHouseModel", "openWith", "(I)V"⟩ := Or.inl q2059
theorem lk_X10_388 : LK "AlgebraHouseModel" 388 ⟨"AlgebraHouseModel", "need", "(I)I"⟩ := Or.inl q2047
theorem lk_X10_392 : LK "AlgebraHouseModel" 392 ⟨"AlgebraHouseModel", "readRing", "()I"⟩ := Or.inl q2075
theorem lk_X10_396 : LK "AlgebraHouseModel" 396 ⟨"AlgebraHouseModel", "closeWith", "(I)V"⟩ := Or.inl q2087
theorem lk_X10_399 : LK "AlgebraHouseModel" 399 ⟨"AlgebraHouseModel", "takesKey", "(J)Z"⟩ := Or.inl q2095
theorem lk_X10_402 : LK "AlgebraHouseModel" 402 ⟨"AlgebraHouseModel", "readOr", "()I"⟩ := Or.inl q2107
theorem lk_X10_405 : LK "AlgebraHouseModel" 405 ⟨"AlgebraHouseModel", "readE", "()I"⟩ := Or.inl q2103
theorem lk_X10_408 : LK "AlgebraHouseModel" 408 ⟨"AlgebraHouseModel", "key", "(J)V"⟩ := Or.inl q2099
theorem lk_X10_412 : LK "AlgebraHouseModel" 412 ⟨"AlgebraHouseModel", "readAnd", "()I"⟩ := Or.inl q2111
theorem lk_X10_415 : LK "AlgebraHouseModel" 415 ⟨"AlgebraHouseModel", "readNot", "()I"⟩ := Or.inl q2115
theorem lk_X10_418 : LK "AlgebraHouseModel" 418 ⟨"AlgebraHouseModel", "readCompare", "()I"⟩ := Or.inl q2119
theorem lk_X10_421 : LK "AlgebraHouseModel" 421 ⟨"AlgebraHouseModel", "readSum", "()I"⟩ := Or.inl q2123
theorem lk_X10_424 : LK "AlgebraHouseModel" 424 ⟨"AlgebraHouseModel", "readProduct", "()I"⟩ := Or.inl q2127
theorem lk_X10_427 : LK "AlgebraHouseModel" 427 ⟨"AlgebraHouseModel", "readUnary", "()I"⟩ := Or.inl q2131
theorem lk_X10_430 : LK "AlgebraHouseModel" 430 ⟨"AlgebraHouseModel", "takesSign", "(I)Z"⟩ := Or.inl q2091
theorem lk_X10_433 : LK "AlgebraHouseModel" 433 ⟨"AlgebraHouseModel", "readBehind", "()I"⟩ := Or.inl q2135
theorem lk_X10_436 : LK "AlgebraHouseModel" 436 ⟨"AlgebraHouseModel", "readAtom", "()I"⟩ := Or.inl q2139
theorem lk_X10_439 : LK "AlgebraHouseModel" 439 ⟨"AlgebraHouseModel", "readItems", "(I)I"⟩ := Or.inl q2143
theorem lk_X10_445 : LK "AlgebraHouseModel" 445 ⟨"java/lang/Math", "max", "(II)I"⟩ := Or.inl q2229
theorem lk_X10_456 : LK "AlgebraHouseModel" 456 ⟨"AlgebraHouseModel", "joins", "(IIIIII)Z"⟩ := Or.inl q2230
theorem lk_X10_463 : LK "AlgebraHouseModel" 463 ⟨"AlgebraHouseModel", "isLeft", "(I)Z"⟩ := Or.inl q2194
theorem lk_X10_466 : LK "AlgebraHouseModel" 466 ⟨"AlgebraHouseModel", "judgePart", "(I)V"⟩ := Or.inl q2197
theorem lk_X10_469 : LK "AlgebraHouseModel" 469 ⟨"AlgebraHouseModel", "judgeLeft", "(I)V"⟩ := Or.inl q2269
theorem lk_X10_472 : LK "AlgebraHouseModel" 472 ⟨"AlgebraHouseModel", "note", "(II)V"⟩ := Or.inl q2169
theorem lk_X10_476 : LK "AlgebraHouseModel" 476 ⟨"AlgebraHouseModel", "judge", "(I)V"⟩ := Or.inl q2190
theorem lk_X10_479 : LK "AlgebraHouseModel" 479 ⟨"AlgebraHouseModel", "judgeRing", "(I)V"⟩ := Or.inl q2159
theorem lk_X10_482 : LK "AlgebraHouseModel" 482 ⟨"AlgebraHouseModel", "setRing", "(IIII)V"⟩ := Or.inl q2163
theorem lk_X10_486 : LK "AlgebraHouseModel" 486 ⟨"AlgebraHouseModel", "wrong", "(I)V"⟩ := Or.inl q2245
theorem lk_X10_489 : LK "AlgebraHouseModel" 489 ⟨"AlgebraHouseModel", "joinsParts", "(II)Z"⟩ := Or.inl q2253
theorem lk_X10_493 : LK "AlgebraHouseModel" 493 ⟨"AlgebraHouseModel", "isField", "(I)Z"⟩ := Or.inl q2238
theorem lk_X10_496 : LK "AlgebraHouseModel" 496 ⟨"AlgebraHouseModel", "isDivided", "()Z"⟩ := Or.inl q2257
theorem lk_X10_502 : LK "AlgebraHouseModel" 502 ⟨"AlgebraHouseModel", "goes", "(IIIIII)Z"⟩ := Or.inl q2241
theorem lk_X10_515 : LK "AlgebraHouseModel" 515 ⟨"AlgebraHouseModel", "judgeOver", "(II)V"⟩ := Or.inl q2173
theorem lk_X10_520 : LK "AlgebraHouseModel" 520 ⟨"AlgebraHouseModel", "hasR", "(I)Z"⟩ := Or.inl q2178
theorem lk_X10_526 : LK "AlgebraHouseModel" 526 ⟨"AlgebraHouseModel", "judgeName", "(I)V"⟩ := Or.inl q2201
theorem lk_X10_529 : LK "AlgebraHouseModel" 529 ⟨"AlgebraHouseModel", "judgeCall", "(I)V"⟩ := Or.inl q2213
theorem lk_X10_532 : LK "AlgebraHouseModel" 532 ⟨"AlgebraHouseModel", "judgeBuilt", "(I)V"⟩ := Or.inl q2249
theorem lk_X10_535 : LK "AlgebraHouseModel" 535 ⟨"AlgebraHouseModel", "judgeMatrix", "(I)V"⟩ := Or.inl q2265
theorem lk_X10_538 : LK "AlgebraHouseModel" 538 ⟨"AlgebraHouseModel", "instance", "(IIIII)Z"⟩ := Or.inl q2205
theorem lk_X10_551 : LK "AlgebraHouseModel" 551 ⟨"AlgebraHouseModel", "variableOf", "(J)I"⟩ := Or.inl q2209
theorem lk_X10_569 : LK "AlgebraHouseModel" 569 ⟨"AlgebraHouseModel", "findR", "(I)Z"⟩ := Or.inl q2225
theorem lk_X10_575 : LK "AlgebraHouseModel" 575 ⟨"AlgebraHouseModel", "canBe", "(IIII)Z"⟩ := Or.inl q2234
theorem lk_X10_579 : LK "AlgebraHouseModel" 579 ⟨"AlgebraHouseModel", "isMeant", "(I)Z"⟩ := Or.inl q2221
theorem lk_X10_594 : LK "AlgebraHouseModel" 594 ⟨"AlgebraHouseModel", "meantOf", "(JI)I"⟩ := Or.inl q2217
theorem lk_X10_598 : LK "AlgebraHouseModel" 598 ⟨"AlgebraHouseModel", "isNumber", "(II)Z"⟩ := Or.inl q2261
theorem lk_X10_611 : LK "AlgebraHouseModel" 611 ⟨"AlgebraHouseModel", "modulo", "(I)J"⟩ := Or.inl q2376
theorem lk_X10_615 : LK "AlgebraHouseModel" 615 ⟨"java/lang/Math", "floorMod", "(JJ)J"⟩ := Or.inl q2380
theorem lk_X10_619 : LK "AlgebraHouseModel" 619 ⟨"AlgebraHouseModel", "common", "(JJ)J"⟩ := Or.inl q2381
theorem lk_X10_626 : LK "AlgebraHouseModel" 626 ⟨"AlgebraHouseModel", "number", "(IJJ)V"⟩ := Or.inl q2372
theorem lk_X10_630 : LK "AlgebraHouseModel" 630 ⟨"AlgebraHouseModel", "inverse", "(JJ)J"⟩ := Or.inl q2459
theorem lk_X10_633 : LK "AlgebraHouseModel" 633 ⟨"AlgebraHouseModel", "set", "(IJ)V"⟩ := Or.inl q2323
theorem lk_X10_637 : LK "AlgebraHouseModel" 637 ⟨"AlgebraHouseModel", "width", "(I)I"⟩ := Or.inl q2408
theorem lk_X10_640 : LK "AlgebraHouseModel" 640 ⟨"AlgebraHouseModel", "addNumbers", "(III)V"⟩ := Or.inl q2398
theorem lk_X10_644 : LK "AlgebraHouseModel" 644 ⟨"AlgebraHouseModel", "put", "(I)V"⟩ := Or.inl q2386
theorem lk_X10_647 : LK "AlgebraHouseModel" 647 ⟨"AlgebraHouseModel", "takeNumbers", "(III)V"⟩ := Or.inl q2447
theorem lk_X10_650 : LK "AlgebraHouseModel" 650 ⟨"java/lang/Math", "min", "(II)I"⟩ := Or.inl q2395
theorem lk_X10_653 : LK "AlgebraHouseModel" 653 ⟨"AlgebraHouseModel", "multiplyNumbers", "(III)V"⟩ := Or.inl q2368
theorem lk_X10_658 : LK "AlgebraHouseModel" 658 ⟨"AlgebraHouseModel", "copy", "(III)V"⟩ := Or.inl q2327
theorem lk_X10_662 : LK "AlgebraHouseModel" 662 ⟨"AlgebraHouseModel", "multiplyRows", "(IIII)V"⟩ := Or.inl q2391
theorem lk_X10_667 : LK "AlgebraHouseModel" 667 ⟨"AlgebraHouseModel", "addBlocks", "(IIIII)V"⟩ := Or.inl q2404
theorem lk_X10_671 : LK "AlgebraHouseModel" 671 ⟨"AlgebraHouseModel", "isZero", "(II)Z"⟩ := Or.inl q2411
theorem lk_X10_674 : LK "AlgebraHouseModel" 674 ⟨"AlgebraHouseModel", "rows", "(I)I"⟩ := Or.inl q2352
theorem lk_X10_677 : LK "AlgebraHouseModel" 677 ⟨"AlgebraHouseModel", "entryAt", "(III)I"⟩ := Or.inl q2355
theorem lk_X10_681 : LK "AlgebraHouseModel" 681 ⟨"AlgebraHouseModel", "takeBlocks", "(IIIII)V"⟩ := Or.inl q2443
theorem lk_X10_685 : LK "AlgebraHouseModel" 685 ⟨"AlgebraHouseModel", "clear", "(II)V"⟩ := Or.inl q2319
theorem lk_X10_689 : LK "AlgebraHouseModel" 689 ⟨"AlgebraHouseModel", "multiplyBlocks", "(IIIII)V"⟩ := Or.inl q2364
theorem lk_X10_693 : LK "AlgebraHouseModel" 693 ⟨"AlgebraHouseModel", "lessOrMore", "(IIIIZ)V"⟩ := Or.inl q2523
theorem lk_X10_698 : LK "AlgebraHouseModel" 698 ⟨"AlgebraHouseModel", "smallDet", "(IIIIIII)V"⟩ := Or.inl q2518
theorem lk_X10_713 : LK "AlgebraHouseModel" 713 ⟨"AlgebraHouseModel", "weight", "(I)J"⟩ := Or.inl q2301
theorem lk_X10_716 : LK "AlgebraHouseModel" 716 ⟨"java/lang/Math", "max", "(JJ)J"⟩ := Or.inl q2307
theorem lk_X10_721 : LK "AlgebraHouseModel" 721 ⟨"AlgebraHouseModel", "valueAt", "(I)I"⟩ := Or.inl q2290
theorem lk_X10_724 : LK "AlgebraHouseModel" 724 ⟨"AlgebraHouseModel", "go", "(IIIIIII)V"⟩ := Or.inl q2419
theorem lk_X10_730 : LK "AlgebraHouseModel" 730 ⟨"AlgebraHouseModel", "later", "(IIIII)V"⟩ := Or.inl q2282
theorem lk_X10_733 : LK "AlgebraHouseModel" 733 ⟨"AlgebraHouseModel", "later", "(I)V"⟩ := Or.inl q2278
theorem lk_X10_735 : LK "AlgebraHouseModel" 735 ⟨"AlgebraHouseModel", "task", "(IIIII)V"⟩ := Or.inl q2286
theorem lk_X10_738 : LK "AlgebraHouseModel" 738 ⟨"AlgebraHouseModel", "evalPart", "(I)V"⟩ := Or.inl q2293
theorem lk_X10_741 : LK "AlgebraHouseModel" 741 ⟨"AlgebraHouseModel", "evalLeft", "(II)V"⟩ := Or.inl q2339
theorem lk_X10_744 : LK "AlgebraHouseModel" 744 ⟨"AlgebraHouseModel", "evalTwo", "(III)V"⟩ := Or.inl q2427
theorem lk_X10_747 : LK "AlgebraHouseModel" 747 ⟨"AlgebraHouseModel", "goLatest", "(IIII)V"⟩ := Or.inl q2415
theorem lk_X10_751 : LK "AlgebraHouseModel" 751 ⟨"AlgebraHouseModel", "addValues", "(IIIIIIZ)V"⟩ := Or.inl q2439
theorem lk_X10_755 : LK "AlgebraHouseModel" 755 ⟨"AlgebraHouseModel", "evalEntry", "(IIII)V"⟩ := Or.inl q2471
theorem lk_X10_758 : LK "AlgebraHouseModel" 758 ⟨"AlgebraHouseModel", "arguments", "(III)V"⟩ := Or.inl q2331
theorem lk_X10_761 : LK "AlgebraHouseModel" 761 ⟨"AlgebraHouseModel", "leaveCall", "(I)V"⟩ := Or.inl q2475
theorem lk_X10_764 : LK "AlgebraHouseModel" 764 ⟨"AlgebraHouseModel", "evalFirst", "(I)V"⟩ := Or.inl q2479
theorem lk_X10_767 : LK "AlgebraHouseModel" 767 ⟨"AlgebraHouseModel", "evalSecond", "(I)V"⟩ := Or.inl q2563
theorem lk_X10_770 : LK "AlgebraHouseModel" 770 ⟨"AlgebraHouseModel", "evalPower", "(II)V"⟩ := Or.inl q2343
theorem lk_X10_773 : LK "AlgebraHouseModel" 773 ⟨"AlgebraHouseModel", "goBack", "(IIIIIII)V"⟩ := Or.inl q2423
theorem lk_X10_776 : LK "AlgebraHouseModel" 776 ⟨"AlgebraHouseModel", "setOne", "(II)V"⟩ := Or.inl q2348
theorem lk_X10_779 : LK "AlgebraHouseModel" 779 ⟨"AlgebraHouseModel", "multiplyValues", "(IIIIII)V"⟩ := Or.inl q2358
theorem lk_X10_783 : LK "AlgebraHouseModel" 783 ⟨"AlgebraHouseModel", "isAlike", "(II)Z"⟩ := Or.inl q2431
theorem lk_X10_786 : LK "AlgebraHouseModel" 786 ⟨"AlgebraHouseModel", "tell", "(IZ)V"⟩ := Or.inl q2435
theorem lk_X10_790 : LK "AlgebraHouseModel" 790 ⟨"AlgebraHouseModel", "divideBy", "(IIIII)V"⟩ := Or.inl q2451
theorem lk_X10_793 : LK "AlgebraHouseModel" 793 ⟨"AlgebraHouseModel", "divide", "(IIII)V"⟩ := Or.inl q2462
theorem lk_X10_796 : LK "AlgebraHouseModel" 796 ⟨"AlgebraHouseModel", "divideNumbers", "(III)V"⟩ := Or.inl q2455
theorem lk_X10_799 : LK "AlgebraHouseModel" 799 ⟨"AlgebraHouseModel", "degreeOf", "(I)I"⟩ := Or.inl q2467
theorem lk_X10_802 : LK "AlgebraHouseModel" 802 ⟨"AlgebraHouseModel", "stepsOf", "(I)J"⟩ := Or.inl q2297
theorem lk_X10_805 : LK "AlgebraHouseModel" 805 ⟨"AlgebraHouseModel", "step", "(J)Z"⟩ := Or.inl q2310
theorem lk_X10_808 : LK "AlgebraHouseModel" 808 ⟨"AlgebraHouseModel", "newValue", "()I"⟩ := Or.inl q2315
theorem lk_X10_820 : LK "AlgebraHouseModel" 820 ⟨"AlgebraHouseModel", "makeReady", "()V"⟩ := Or.inl q2335
theorem lk_X10_823 : LK "AlgebraHouseModel" 823 ⟨"AlgebraHouseModel", "built", "(IIIII)V"⟩ := Or.inl q2483
theorem lk_X10_826 : LK "AlgebraHouseModel" 826 ⟨"AlgebraHouseModel", "greatest", "(IIII)V"⟩ := Or.inl q2487
theorem lk_X10_829 : LK "AlgebraHouseModel" 829 ⟨"AlgebraHouseModel", "outerDegree", "(I)I"⟩ := Or.inl q2496
theorem lk_X10_832 : LK "AlgebraHouseModel" 832 ⟨"AlgebraHouseModel", "tellNumber", "(IJ)V"⟩ := Or.inl q2491
theorem lk_X10_835 : LK "AlgebraHouseModel" 835 ⟨"AlgebraHouseModel", "coefficient", "(IJI)V"⟩ := Or.inl q2500
theorem lk_X10_839 : LK "AlgebraHouseModel" 839 ⟨"AlgebraHouseModel", "evalAt", "(IIII)V"⟩ := Or.inl q2504
theorem lk_X10_842 : LK "AlgebraHouseModel" 842 ⟨"AlgebraHouseModel", "derive", "(III)V"⟩ := Or.inl q2509
theorem lk_X10_845 : LK "AlgebraHouseModel" 845 ⟨"AlgebraHouseModel", "det", "(IIIII)V"⟩ := Or.inl q2513
theorem lk_X10_848 : LK "AlgebraHouseModel" 848 ⟨"AlgebraHouseModel", "adjoin", "(IIIII)V"⟩ := Or.inl q2528
theorem lk_X10_851 : LK "AlgebraHouseModel" 851 ⟨"AlgebraHouseModel", "invert", "(III)V"⟩ := Or.inl q2532
theorem lk_X10_854 : LK "AlgebraHouseModel" 854 ⟨"AlgebraHouseModel", "characterize", "(III)V"⟩ := Or.inl q2536
theorem lk_X10_857 : LK "AlgebraHouseModel" 857 ⟨"AlgebraHouseModel", "rootsOf", "(IJ)I"⟩ := Or.inl q2540
theorem lk_X10_863 : LK "AlgebraHouseModel" 863 ⟨"AlgebraHouseModel", "rootInverse", "(JJ)J"⟩ := Or.inl q2544
theorem lk_X10_866 : LK "AlgebraHouseModel" 866 ⟨"AlgebraHouseModel", "rootOne", "()V"⟩ := Or.inl q2547
theorem lk_X10_869 : LK "AlgebraHouseModel" 869 ⟨"AlgebraHouseModel", "rootSquare", "(IJ)V"⟩ := Or.inl q2551
theorem lk_X10_872 : LK "AlgebraHouseModel" 872 ⟨"AlgebraHouseModel", "rootUp", "(IJ)V"⟩ := Or.inl q2555
theorem lk_X10_875 : LK "AlgebraHouseModel" 875 ⟨"AlgebraHouseModel", "rootCommon", "(IJ)I"⟩ := Or.inl q2559
theorem lk_X10_887 : LK "AlgebraHouseModel" 887 ⟨"AlgebraHouseModel", "judgeHead", "(I)V"⟩ := Or.inl q2155
theorem lk_X10_890 : LK "AlgebraHouseModel" 890 ⟨"AlgebraHouseModel", "isTwin", "(II)Z"⟩ := Or.inl q2182
theorem lk_X10_893 : LK "AlgebraHouseModel" 893 ⟨"AlgebraHouseModel", "judgeBody", "(I)V"⟩ := Or.inl q2186
theorem lk_X10_896 : LK "AlgebraHouseModel" 896 ⟨"AlgebraHouseModel", "scan", "(I)V"⟩ := Or.inl q2015
theorem lk_X10_909 : LK "AlgebraHouseModel" 909 ⟨"AlgebraHouseModel", "readDefinition", "()I"⟩ := Or.inl q2043
theorem lk_X10_912 : LK "AlgebraHouseModel" 912 ⟨"AlgebraHouseModel", "readLine", "(Z)I"⟩ := Or.inl q2147
theorem lk_X10_916 : LK "AlgebraHouseModel" 916 ⟨"AlgebraHouseModel", "judgeDefinition", "(I)V"⟩ := Or.inl q2151
theorem lk_X10_919 : LK "AlgebraHouseModel" 919 ⟨"AlgebraHouseModel", "eval", "(I)V"⟩ := Or.inl q2274
theorem lk_X10_922 : LK "AlgebraHouseModel" 922 ⟨"AlgebraHouseModel", "keep", "(IZI)V"⟩ := Or.inl q2567
theorem lk_X10_928 : LK "AlgebraHouseModel" 928 ⟨"AlgebraHouseModel", "isThere", "(I)Z"⟩ := Or.inl q2583
theorem lk_X10_931 : LK "AlgebraHouseModel" 931 ⟨"AlgebraHouseModel", "ring", "(II)I"⟩ := Or.inl q2592
theorem lk_J0_335 : LK "java/lang/String" 335 ⟨"java/lang/String", "coder", "()B"⟩ := Or.inl q789
theorem lk_J0_492 : LK "java/lang/String" 492 ⟨"java/lang/String", "isLatin1", "()Z"⟩ := Or.inl q799
theorem lk_J0_495 : LK "java/lang/String" 495 ⟨"java/lang/StringLatin1", "charAt", "([BI)C"⟩ := Or.inl q803
theorem lk_J0_498 : LK "java/lang/String" 498 ⟨"java/lang/StringUTF16", "charAt", "([BI)C"⟩ := Or.inl q814
theorem lk_J0_505 : LK "java/lang/String" 505 ⟨"java/lang/String", "length", "()I"⟩ := Or.inl q854
theorem lk_J0_633 : LK "java/lang/String" 633 ⟨"java/lang/String", "indexOf", "(II)I"⟩ := Or.inl q850
theorem lk_J0_637 : LK "java/lang/String" 637 ⟨"java/lang/StringLatin1", "indexOf", "([BIII)I"⟩ := Or.inl q855
theorem lk_J0_640 : LK "java/lang/String" 640 ⟨"java/lang/StringUTF16", "indexOf", "([BIII)I"⟩ := Or.inl q868
theorem lk_J0_1059 : LK "java/lang/String" 1059 ⟨"jdk/internal/util/Preconditions", "checkIndex", "(IILjava/util/function/BiFunction;)I"⟩ := Or.inl q811
theorem lk_J0_1062 : LK "java/lang/String" 1062 ⟨"jdk/internal/util/Preconditions", "checkFromToIndex", "(IIILjava/util/function/BiFunction;)I"⟩ := Or.inl q883
theorem lk_J1_9 : LK "java/lang/StringLatin1" 9 ⟨"java/lang/String", "checkIndex", "(II)V"⟩ := Or.inl q806
theorem lk_J1_38 : LK "java/lang/StringLatin1" 38 ⟨"java/lang/Math", "min", "(II)I"⟩ := Or.inl q862
theorem lk_J1_88 : LK "java/lang/StringLatin1" 88 ⟨"java/lang/StringLatin1", "canEncode", "(I)Z"⟩ := Or.inl q858
theorem lk_J1_92 : LK "java/lang/StringLatin1" 92 ⟨"java/lang/Math", "max", "(II)I"⟩ := Or.inl q861
theorem lk_J1_95 : LK "java/lang/StringLatin1" 95 ⟨"java/lang/StringLatin1", "indexOfChar", "([BIII)I"⟩ := Or.inl q865
theorem lk_J3_48 : LK "java/lang/StringUTF16" 48 ⟨"java/lang/StringUTF16", "length", "([B)I"⟩ := Or.inl q820
theorem lk_J3_67 : LK "java/lang/StringUTF16" 67 ⟨"java/lang/StringUTF16", "checkIndex", "(I[B)V"⟩ := Or.inl q817
theorem lk_J3_71 : LK "java/lang/StringUTF16" 71 ⟨"java/lang/StringUTF16", "getChar", "([BI)C"⟩ := Or.inl q824
theorem lk_J3_96 : LK "java/lang/StringUTF16" 96 ⟨"java/lang/StringUTF16", "checkBoundsBeginEnd", "(II[B)V"⟩ := Or.inl q877
theorem lk_J3_157 : LK "java/lang/StringUTF16" 157 ⟨"java/lang/Character", "highSurrogate", "(I)C"⟩ := Or.inl q895
theorem lk_J3_161 : LK "java/lang/StringUTF16" 161 ⟨"java/lang/Character", "lowSurrogate", "(I)C"⟩ := Or.inl q899
theorem lk_J3_164 : LK "java/lang/StringUTF16" 164 ⟨"java/lang/Character", "isValidCodePoint", "(I)Z"⟩ := Or.inl q892
theorem lk_J3_183 : LK "java/lang/StringUTF16" 183 ⟨"java/lang/Math", "min", "(II)I"⟩ := Or.inl q872
theorem lk_J3_224 : LK "java/lang/StringUTF16" 224 ⟨"java/lang/Math", "max", "(II)I"⟩ := Or.inl q871
theorem lk_J3_228 : LK "java/lang/StringUTF16" 228 ⟨"java/lang/StringUTF16", "indexOfChar", "([BIII)I"⟩ := Or.inl q874
theorem lk_J3_232 : LK "java/lang/StringUTF16" 232 ⟨"java/lang/StringUTF16", "indexOfSupplementary", "([BIII)I"⟩ := Or.inl q889
theorem lk_J3_241 : LK "java/lang/StringUTF16" 241 ⟨"java/lang/String", "checkBoundsBeginEnd", "(III)V"⟩ := Or.inl q880
theorem lk_J3_244 : LK "java/lang/StringUTF16" 244 ⟨"java/lang/StringUTF16", "indexOfCharUnsafe", "([BIII)I"⟩ := Or.inl q886
theorem lk_J3_414 : LK "java/lang/StringUTF16" 414 ⟨"java/lang/String", "checkIndex", "(II)V"⟩ := Or.inl q823
theorem lk_X0_22 : LK "AlgebraHouse" 22 ⟨"AlgebraHouse$Parser", "<init>", "()V"⟩ := Or.inr ⟨_, q454⟩
theorem lk_X1_28 : LK "AlgebraHouse$Book" 28 ⟨"AlgebraHouse$Text", "<init>", "()V"⟩ := Or.inr ⟨_, q255⟩
theorem lk_X6_11 : LK "AlgebraHouse$Machine" 11 ⟨"AlgebraHouse$Coder", "<init>", "()V"⟩ := Or.inr ⟨_, q554⟩
theorem lk_X6_20 : LK "AlgebraHouse$Machine" 20 ⟨"AlgebraHouse$Numbers", "<init>", "()V"⟩ := Or.inr ⟨_, q570⟩
theorem lk_X6_74 : LK "AlgebraHouse$Machine" 74 ⟨"AlgebraHouse$Code", "<init>", "()V"⟩ := Or.inr ⟨_, q591⟩
theorem lk_X6_319 : LK "AlgebraHouse$Machine" 319 ⟨"AlgebraHouse$Numbers", "modulus", "(I)I"⟩ := Or.inr ⟨_, q1475⟩
theorem lk_X6_325 : LK "AlgebraHouse$Machine" 325 ⟨"AlgebraHouse$Numbers", "common", "(JJ)J"⟩ := Or.inr ⟨_, q1439⟩
theorem lk_X6_350 : LK "AlgebraHouse$Machine" 350 ⟨"AlgebraHouse$Numbers", "inverse", "(II)I"⟩ := Or.inr ⟨_, q1533⟩
theorem lk_X3_11 : LK "AlgebraHouse$Parser" 11 ⟨"AlgebraHouse$Tokens", "<init>", "()V"⟩ := Or.inr ⟨_, q460⟩
theorem fk_X0_9 : FK "AlgebraHouse" 9 0 0 6 true (.array .byte) := FK.of 0 6 fb0 (by decide) rfl (tyX0_ok 0 (by decide)) rfl rfl q692
theorem fk_X0_16 : FK "AlgebraHouse" 16 0 2 6 true (.object "AlgebraHouse$Book") := FK.of 2 6 fb0 (by decide) rfl (tyX0_ok 2 (by decide)) rfl rfl q694
theorem fk_X0_23 : FK "AlgebraHouse" 23 0 3 6 true (.object "AlgebraHouse$Parser") := FK.of 3 6 fb0 (by decide) rfl (tyX0_ok 3 (by decide)) rfl rfl q695
theorem fk_X0_32 : FK "AlgebraHouse" 32 0 4 6 true (.object "AlgebraHouse$Judge") := FK.of 4 6 fb0 (by decide) rfl (tyX0_ok 4 (by decide)) rfl rfl q696
theorem fk_X0_39 : FK "AlgebraHouse" 39 0 5 6 true (.array .int) := FK.of 5 6 fb0 (by decide) rfl (tyX0_ok 5 (by decide)) rfl rfl q697
theorem fk_X0_43 : FK "AlgebraHouse" 43 0 6 6 true (.array .int) := FK.of 6 6 fb0 (by decide) rfl (tyX0_ok 6 (by decide)) rfl rfl q698
theorem fk_X0_51 : FK "AlgebraHouse" 51 0 7 6 true (.object "AlgebraHouse$Machine") := FK.of 7 6 fb0 (by decide) rfl (tyX0_ok 7 (by decide)) rfl rfl q699
theorem fk_X0_55 : FK "AlgebraHouse" 55 0 8 6 true (.array .int) := FK.of 8 6 fb0 (by decide) rfl (tyX0_ok 8 (by decide)) rfl rfl q700
theorem fk_X0_58 : FK "AlgebraHouse" 58 0 10 0 false .int := FK.of 10 0 fb0 (by decide) rfl (tyX0_ok 10 (by decide)) rfl rfl q702
theorem fk_X0_62 : FK "AlgebraHouse" 62 0 14 0 false .int := FK.of 14 0 fb0 (by decide) rfl (tyX0_ok 14 (by decide)) rfl rfl q706
theorem fk_X0_65 : FK "AlgebraHouse" 65 0 1 0 false .int := FK.of 1 0 fb0 (by decide) rfl (tyX0_ok 1 (by decide)) rfl rfl q693
theorem fk_X0_68 : FK "AlgebraHouse" 68 0 11 0 false .int := FK.of 11 0 fb0 (by decide) rfl (tyX0_ok 11 (by decide)) rfl rfl q703
theorem fk_X0_71 : FK "AlgebraHouse" 71 0 12 0 false .int := FK.of 12 0 fb0 (by decide) rfl (tyX0_ok 12 (by decide)) rfl rfl q704
theorem fk_X0_74 : FK "AlgebraHouse" 74 0 13 0 false .int := FK.of 13 0 fb0 (by decide) rfl (tyX0_ok 13 (by decide)) rfl rfl q705
theorem fk_X0_91 : FK "AlgebraHouse" 91 0 9 0 false .int := FK.of 9 0 fb0 (by decide) rfl (tyX0_ok 9 (by decide)) rfl rfl q701
theorem fk_X1_11 : FK "AlgebraHouse$Book" 11 1 0 6 true (.array (.object "AlgebraHouse$Text")) := FK.of 0 6 fb1 (by decide) rfl (tyX1_ok 0 (by decide)) rfl rfl q412
theorem fk_X1_17 : FK "AlgebraHouse$Book" 17 1 4 6 true (.array .long) := FK.of 4 6 fb1 (by decide) rfl (tyX1_ok 4 (by decide)) rfl rfl q424
theorem fk_X1_21 : FK "AlgebraHouse$Book" 21 1 5 6 true (.array .int) := FK.of 5 6 fb1 (by decide) rfl (tyX1_ok 5 (by decide)) rfl rfl q426
theorem fk_X1_25 : FK "AlgebraHouse$Book" 25 1 6 6 true (.array .int) := FK.of 6 6 fb1 (by decide) rfl (tyX1_ok 6 (by decide)) rfl rfl q429
theorem fk_X1_29 : FK "AlgebraHouse$Book" 29 1 2 0 false .int := FK.of 2 0 fb1 (by decide) rfl (tyX1_ok 2 (by decide)) rfl rfl q419
theorem fk_X1_100 : FK "AlgebraHouse$Book" 100 1 7 0 false .int := FK.of 7 0 fb1 (by decide) rfl (tyX1_ok 7 (by decide)) rfl rfl q432
theorem fk_X9_9 : FK "AlgebraHouse$Code" 9 9 0 6 true (.array .int) := FK.of 0 6 fb9 (by decide) rfl (tyX9_ok 0 (by decide)) rfl rfl q595
theorem fk_X9_13 : FK "AlgebraHouse$Code" 13 9 1 6 true (.array .int) := FK.of 1 6 fb9 (by decide) rfl (tyX9_ok 1 (by decide)) rfl rfl q597
theorem fk_X9_16 : FK "AlgebraHouse$Code" 16 9 2 6 true (.array .int) := FK.of 2 6 fb9 (by decide) rfl (tyX9_ok 2 (by decide)) rfl rfl q600
theorem fk_X9_19 : FK "AlgebraHouse$Code" 19 9 3 0 false .int := FK.of 3 0 fb9 (by decide) rfl (tyX9_ok 3 (by decide)) rfl rfl q602
theorem fk_X7_9 : FK "AlgebraHouse$Coder" 9 7 2 7 false (.object "AlgebraHouse$Book") := FK.of 2 7 fb7 (by decide) rfl (tyX7_ok 2 (by decide)) rfl rfl q560
theorem fk_X7_15 : FK "AlgebraHouse$Coder" 15 7 0 7 false (.object "AlgebraHouse$Text") := FK.of 0 7 fb7 (by decide) rfl (tyX7_ok 0 (by decide)) rfl rfl q558
theorem fk_X7_19 : FK "AlgebraHouse$Coder" 19 7 1 7 false (.object "AlgebraHouse$Code") := FK.of 1 7 fb7 (by decide) rfl (tyX7_ok 1 (by decide)) rfl rfl q559
theorem fk_X5_9 : FK "AlgebraHouse$Judge" 9 5 7 6 true (.array .int) := FK.of 7 6 fb5 (by decide) rfl (tyX5_ok 7 (by decide)) rfl rfl q527
theorem fk_X5_15 : FK "AlgebraHouse$Judge" 15 5 0 6 true (.object "AlgebraHouse$Book") := FK.of 0 6 fb5 (by decide) rfl (tyX5_ok 0 (by decide)) rfl rfl q518
theorem fk_X5_19 : FK "AlgebraHouse$Judge" 19 5 5 0 false .int := FK.of 5 0 fb5 (by decide) rfl (tyX5_ok 5 (by decide)) rfl rfl q523
theorem fk_X5_23 : FK "AlgebraHouse$Judge" 23 5 6 0 false .int := FK.of 6 0 fb5 (by decide) rfl (tyX5_ok 6 (by decide)) rfl rfl q525
theorem fk_X5_26 : FK "AlgebraHouse$Judge" 26 5 1 7 false (.object "AlgebraHouse$Text") := FK.of 1 7 fb5 (by decide) rfl (tyX5_ok 1 (by decide)) rfl rfl q519
theorem fk_X5_30 : FK "AlgebraHouse$Judge" 30 5 3 0 false .int := FK.of 3 0 fb5 (by decide) rfl (tyX5_ok 3 (by decide)) rfl rfl q521
theorem fk_X5_33 : FK "AlgebraHouse$Judge" 33 5 4 3 false .boolean := FK.of 4 3 fb5 (by decide) rfl (tyX5_ok 4 (by decide)) rfl rfl q522
theorem fk_X5_42 : FK "AlgebraHouse$Judge" 42 5 2 0 false .int := FK.of 2 0 fb5 (by decide) rfl (tyX5_ok 2 (by decide)) rfl rfl q520
theorem fk_X6_12 : FK "AlgebraHouse$Machine" 12 6 2 6 true (.object "AlgebraHouse$Coder") := FK.of 2 6 fb6 (by decide) rfl (tyX6_ok 2 (by decide)) rfl rfl q624
theorem fk_X6_21 : FK "AlgebraHouse$Machine" 21 6 3 6 true (.object "AlgebraHouse$Numbers") := FK.of 3 6 fb6 (by decide) rfl (tyX6_ok 3 (by decide)) rfl rfl q625
theorem fk_X6_27 : FK "AlgebraHouse$Machine" 27 6 5 6 true (.array (.object "AlgebraHouse$Code")) := FK.of 5 6 fb6 (by decide) rfl (tyX6_ok 5 (by decide)) rfl rfl q628
theorem fk_X6_31 : FK "AlgebraHouse$Machine" 31 6 7 6 true (.array .int) := FK.of 7 6 fb6 (by decide) rfl (tyX6_ok 7 (by decide)) rfl rfl q630
theorem fk_X6_35 : FK "AlgebraHouse$Machine" 35 6 9 6 true (.array .int) := FK.of 9 6 fb6 (by decide) rfl (tyX6_ok 9 (by decide)) rfl rfl q632
theorem fk_X6_38 : FK "AlgebraHouse$Machine" 38 6 10 6 true (.array .int) := FK.of 10 6 fb6 (by decide) rfl (tyX6_ok 10 (by decide)) rfl rfl q633
theorem fk_X6_41 : FK "AlgebraHouse$Machine" 41 6 11 6 true (.array .int) := FK.of 11 6 fb6 (by decide) rfl (tyX6_ok 11 (by decide)) rfl rfl q634
theorem fk_X6_44 : FK "AlgebraHouse$Machine" 44 6 12 6 true (.array .int) := FK.of 12 6 fb6 (by decide) rfl (tyX6_ok 12 (by decide)) rfl rfl q635
theorem fk_X6_47 : FK "AlgebraHouse$Machine" 47 6 19 7 false (.array .int) := FK.of 19 7 fb6 (by decide) rfl (tyX6_ok 19 (by decide)) rfl rfl q644
theorem fk_X6_50 : FK "AlgebraHouse$Machine" 50 6 20 7 false (.array .int) := FK.of 20 7 fb6 (by decide) rfl (tyX6_ok 20 (by decide)) rfl rfl q645
theorem fk_X6_53 : FK "AlgebraHouse$Machine" 53 6 21 6 true (.array .int) := FK.of 21 6 fb6 (by decide) rfl (tyX6_ok 21 (by decide)) rfl rfl q646
theorem fk_X6_56 : FK "AlgebraHouse$Machine" 56 6 0 6 true (.object "AlgebraHouse$Book") := FK.of 0 6 fb6 (by decide) rfl (tyX6_ok 0 (by decide)) rfl rfl q622
theorem fk_X6_60 : FK "AlgebraHouse$Machine" 60 6 1 6 true (.object "AlgebraHouse$Judge") := FK.of 1 6 fb6 (by decide) rfl (tyX6_ok 1 (by decide)) rfl rfl q623
theorem fk_X6_64 : FK "AlgebraHouse$Machine" 64 6 17 7 false (.array .int) := FK.of 17 7 fb6 (by decide) rfl (tyX6_ok 17 (by decide)) rfl rfl q642
theorem fk_X6_67 : FK "AlgebraHouse$Machine" 67 6 18 7 false (.array .int) := FK.of 18 7 fb6 (by decide) rfl (tyX6_ok 18 (by decide)) rfl rfl q643
theorem fk_X6_73 : FK "AlgebraHouse$Machine" 73 6 4 6 true (.array .int) := FK.of 4 6 fb6 (by decide) rfl (tyX6_ok 4 (by decide)) rfl rfl q626
theorem fk_X6_82 : FK "AlgebraHouse$Machine" 82 6 6 0 false .int := FK.of 6 0 fb6 (by decide) rfl (tyX6_ok 6 (by decide)) rfl rfl q629
theorem fk_X6_100 : FK "AlgebraHouse$Machine" 100 6 13 0 false .int := FK.of 13 0 fb6 (by decide) rfl (tyX6_ok 13 (by decide)) rfl rfl q636
theorem fk_X6_103 : FK "AlgebraHouse$Machine" 103 6 14 0 false .int := FK.of 14 0 fb6 (by decide) rfl (tyX6_ok 14 (by decide)) rfl rfl q637
theorem fk_X6_112 : FK "AlgebraHouse$Machine" 112 6 8 0 false .int := FK.of 8 0 fb6 (by decide) rfl (tyX6_ok 8 (by decide)) rfl rfl q631
theorem fk_X6_115 : FK "AlgebraHouse$Machine" 115 6 15 0 false .int := FK.of 15 0 fb6 (by decide) rfl (tyX6_ok 15 (by decide)) rfl rfl q639
theorem fk_X6_118 : FK "AlgebraHouse$Machine" 118 6 16 0 false .int := FK.of 16 0 fb6 (by decide) rfl (tyX6_ok 16 (by decide)) rfl rfl q641
theorem fk_X8_12 : FK "AlgebraHouse$Numbers" 12 8 0 6 true (.array .int) := FK.of 0 6 fb8 (by decide) rfl (tyX8_ok 0 (by decide)) rfl rfl q575
theorem fk_X8_18 : FK "AlgebraHouse$Numbers" 18 8 1 0 false .int := FK.of 1 0 fb8 (by decide) rfl (tyX8_ok 1 (by decide)) rfl rfl q577
theorem fk_X8_26 : FK "AlgebraHouse$Numbers" 26 8 2 0 false .int := FK.of 2 0 fb8 (by decide) rfl (tyX8_ok 2 (by decide)) rfl rfl q579
theorem fk_X3_12 : FK "AlgebraHouse$Parser" 12 3 0 6 true (.object "AlgebraHouse$Tokens") := FK.of 0 6 fb3 (by decide) rfl (tyX3_ok 0 (by decide)) rfl rfl q491
theorem fk_X3_18 : FK "AlgebraHouse$Parser" 18 3 4 0 false .int := FK.of 4 0 fb3 (by decide) rfl (tyX3_ok 4 (by decide)) rfl rfl q495
theorem fk_X3_22 : FK "AlgebraHouse$Parser" 22 3 5 0 false .int := FK.of 5 0 fb3 (by decide) rfl (tyX3_ok 5 (by decide)) rfl rfl q497
theorem fk_X3_33 : FK "AlgebraHouse$Parser" 33 3 2 0 false .int := FK.of 2 0 fb3 (by decide) rfl (tyX3_ok 2 (by decide)) rfl rfl q493
theorem fk_X3_65 : FK "AlgebraHouse$Parser" 65 3 3 0 false .int := FK.of 3 0 fb3 (by decide) rfl (tyX3_ok 3 (by decide)) rfl rfl q494
theorem fk_X3_78 : FK "AlgebraHouse$Parser" 78 3 1 7 false (.object "AlgebraHouse$Text") := FK.of 1 7 fb3 (by decide) rfl (tyX3_ok 1 (by decide)) rfl rfl q492
theorem fk_X2_11 : FK "AlgebraHouse$Text" 11 2 7 6 true (.array .int) := FK.of 7 6 fb2 (by decide) rfl (tyX2_ok 7 (by decide)) rfl rfl q281
theorem fk_X2_15 : FK "AlgebraHouse$Text" 15 2 8 6 true (.array .int) := FK.of 8 6 fb2 (by decide) rfl (tyX2_ok 8 (by decide)) rfl rfl q285
theorem fk_X2_18 : FK "AlgebraHouse$Text" 18 2 9 6 true (.array .int) := FK.of 9 6 fb2 (by decide) rfl (tyX2_ok 9 (by decide)) rfl rfl q289
theorem fk_X2_21 : FK "AlgebraHouse$Text" 21 2 10 6 true (.array .int) := FK.of 10 6 fb2 (by decide) rfl (tyX2_ok 10 (by decide)) rfl rfl q293
theorem fk_X2_24 : FK "AlgebraHouse$Text" 24 2 11 6 true (.array .int) := FK.of 11 6 fb2 (by decide) rfl (tyX2_ok 11 (by decide)) rfl rfl q297
theorem fk_X2_27 : FK "AlgebraHouse$Text" 27 2 12 6 true (.array .int) := FK.of 12 6 fb2 (by decide) rfl (tyX2_ok 12 (by decide)) rfl rfl q299
theorem fk_X2_30 : FK "AlgebraHouse$Text" 30 2 13 6 true (.array .int) := FK.of 13 6 fb2 (by decide) rfl (tyX2_ok 13 (by decide)) rfl rfl q304
theorem fk_X2_33 : FK "AlgebraHouse$Text" 33 2 14 6 true (.array .int) := FK.of 14 6 fb2 (by decide) rfl (tyX2_ok 14 (by decide)) rfl rfl q307
theorem fk_X2_36 : FK "AlgebraHouse$Text" 36 2 15 6 true (.array .long) := FK.of 15 6 fb2 (by decide) rfl (tyX2_ok 15 (by decide)) rfl rfl q310
theorem fk_X2_40 : FK "AlgebraHouse$Text" 40 2 17 6 true (.array .long) := FK.of 17 6 fb2 (by decide) rfl (tyX2_ok 17 (by decide)) rfl rfl q317
theorem fk_X2_43 : FK "AlgebraHouse$Text" 43 2 18 6 true (.array .int) := FK.of 18 6 fb2 (by decide) rfl (tyX2_ok 18 (by decide)) rfl rfl q320
theorem fk_X2_46 : FK "AlgebraHouse$Text" 46 2 19 6 true (.array .int) := FK.of 19 6 fb2 (by decide) rfl (tyX2_ok 19 (by decide)) rfl rfl q323
theorem fk_X2_49 : FK "AlgebraHouse$Text" 49 2 23 6 true (.array .boolean) := FK.of 23 6 fb2 (by decide) rfl (tyX2_ok 23 (by decide)) rfl rfl q337
theorem fk_X2_53 : FK "AlgebraHouse$Text" 53 2 24 6 true (.array .int) := FK.of 24 6 fb2 (by decide) rfl (tyX2_ok 24 (by decide)) rfl rfl q341
theorem fk_X2_56 : FK "AlgebraHouse$Text" 56 2 25 6 true (.array .int) := FK.of 25 6 fb2 (by decide) rfl (tyX2_ok 25 (by decide)) rfl rfl q345
theorem fk_X2_59 : FK "AlgebraHouse$Text" 59 2 26 6 true (.array .int) := FK.of 26 6 fb2 (by decide) rfl (tyX2_ok 26 (by decide)) rfl rfl q349
theorem fk_X2_62 : FK "AlgebraHouse$Text" 62 2 0 0 false .int := FK.of 0 0 fb2 (by decide) rfl (tyX2_ok 0 (by decide)) rfl rfl q259
theorem fk_X2_66 : FK "AlgebraHouse$Text" 66 2 5 0 false .int := FK.of 5 0 fb2 (by decide) rfl (tyX2_ok 5 (by decide)) rfl rfl q273
theorem fk_X2_69 : FK "AlgebraHouse$Text" 69 2 21 0 false .int := FK.of 21 0 fb2 (by decide) rfl (tyX2_ok 21 (by decide)) rfl rfl q328
theorem fk_X2_72 : FK "AlgebraHouse$Text" 72 2 22 0 false .int := FK.of 22 0 fb2 (by decide) rfl (tyX2_ok 22 (by decide)) rfl rfl q331
theorem fk_X2_75 : FK "AlgebraHouse$Text" 75 2 1 0 false .int := FK.of 1 0 fb2 (by decide) rfl (tyX2_ok 1 (by decide)) rfl rfl q260
theorem fk_X2_78 : FK "AlgebraHouse$Text" 78 2 3 0 false .int := FK.of 3 0 fb2 (by decide) rfl (tyX2_ok 3 (by decide)) rfl rfl q270
theorem fk_X4_9 : FK "AlgebraHouse$Tokens" 9 4 0 6 true (.array .byte) := FK.of 0 6 fb4 (by decide) rfl (tyX4_ok 0 (by decide)) rfl rfl q464
theorem fk_X4_15 : FK "AlgebraHouse$Tokens" 15 4 3 6 true (.array .int) := FK.of 3 6 fb4 (by decide) rfl (tyX4_ok 3 (by decide)) rfl rfl q468
theorem fk_X4_19 : FK "AlgebraHouse$Tokens" 19 4 4 6 true (.array .int) := FK.of 4 6 fb4 (by decide) rfl (tyX4_ok 4 (by decide)) rfl rfl q470
theorem fk_X4_22 : FK "AlgebraHouse$Tokens" 22 4 5 6 true (.array .int) := FK.of 5 6 fb4 (by decide) rfl (tyX4_ok 5 (by decide)) rfl rfl q472
theorem fk_X4_25 : FK "AlgebraHouse$Tokens" 25 4 6 6 true (.array .long) := FK.of 6 6 fb4 (by decide) rfl (tyX4_ok 6 (by decide)) rfl rfl q474
theorem fk_X4_29 : FK "AlgebraHouse$Tokens" 29 4 1 0 false .int := FK.of 1 0 fb4 (by decide) rfl (tyX4_ok 1 (by decide)) rfl rfl q465
theorem fk_X4_33 : FK "AlgebraHouse$Tokens" 33 4 2 0 false .int := FK.of 2 0 fb4 (by decide) rfl (tyX4_ok 2 (by decide)) rfl rfl q466
theorem fk_X10_51 : FK "AlgebraHouseModel" 51 10 0 6 true (.array .long) := FK.of 0 6 fb10 (by decide) rfl (tyX10_ok 0 (by decide)) rfl rfl q1654
theorem fk_X10_83 : FK "AlgebraHouseModel" 83 10 1 6 true (.array .long) := FK.of 1 6 fb10 (by decide) rfl (tyX10_ok 1 (by decide)) rfl rfl q1655
theorem fk_X10_86 : FK "AlgebraHouseModel" 86 10 2 6 true (.array .int) := FK.of 2 6 fb10 (by decide) rfl (tyX10_ok 2 (by decide)) rfl rfl q1656
theorem fk_X10_90 : FK "AlgebraHouseModel" 90 10 3 6 true (.array .int) := FK.of 3 6 fb10 (by decide) rfl (tyX10_ok 3 (by decide)) rfl rfl q1657
theorem fk_X10_93 : FK "AlgebraHouseModel" 93 10 5 6 true (.array .int) := FK.of 5 6 fb10 (by decide) rfl (tyX10_ok 5 (by decide)) rfl rfl q1659
theorem fk_X10_96 : FK "AlgebraHouseModel" 96 10 6 6 true (.array .int) := FK.of 6 6 fb10 (by decide) rfl (tyX10_ok 6 (by decide)) rfl rfl q1660
theorem fk_X10_99 : FK "AlgebraHouseModel" 99 10 7 6 true (.array .long) := FK.of 7 6 fb10 (by decide) rfl (tyX10_ok 7 (by decide)) rfl rfl q1661
theorem fk_X10_102 : FK "AlgebraHouseModel" 102 10 11 0 false .int := FK.of 11 0 fb10 (by decide) rfl (tyX10_ok 11 (by decide)) rfl rfl q1665
theorem fk_X10_106 : FK "AlgebraHouseModel" 106 10 16 6 true (.array .int) := FK.of 16 6 fb10 (by decide) rfl (tyX10_ok 16 (by decide)) rfl rfl q1670
theorem fk_X10_109 : FK "AlgebraHouseModel" 109 10 17 6 true (.array .int) := FK.of 17 6 fb10 (by decide) rfl (tyX10_ok 17 (by decide)) rfl rfl q1671
theorem fk_X10_112 : FK "AlgebraHouseModel" 112 10 18 6 true (.array .int) := FK.of 18 6 fb10 (by decide) rfl (tyX10_ok 18 (by decide)) rfl rfl q1672
theorem fk_X10_115 : FK "AlgebraHouseModel" 115 10 19 6 true (.array .int) := FK.of 19 6 fb10 (by decide) rfl (tyX10_ok 19 (by decide)) rfl rfl q1673
theorem fk_X10_118 : FK "AlgebraHouseModel" 118 10 20 6 true (.array .int) := FK.of 20 6 fb10 (by decide) rfl (tyX10_ok 20 (by decide)) rfl rfl q1674
theorem fk_X10_121 : FK "AlgebraHouseModel" 121 10 21 6 true (.array .int) := FK.of 21 6 fb10 (by decide) rfl (tyX10_ok 21 (by decide)) rfl rfl q1675
theorem fk_X10_124 : FK "AlgebraHouseModel" 124 10 22 6 true (.array .int) := FK.of 22 6 fb10 (by decide) rfl (tyX10_ok 22 (by decide)) rfl rfl q1676
theorem fk_X10_127 : FK "AlgebraHouseModel" 127 10 23 6 true (.array .int) := FK.of 23 6 fb10 (by decide) rfl (tyX10_ok 23 (by decide)) rfl rfl q1677
theorem fk_X10_130 : FK "AlgebraHouseModel" 130 10 24 6 true (.array .int) := FK.of 24 6 fb10 (by decide) rfl (tyX10_ok 24 (by decide)) rfl rfl q1678
theorem fk_X10_133 : FK "AlgebraHouseModel" 133 10 25 6 true (.array .int) := FK.of 25 6 fb10 (by decide) rfl (tyX10_ok 25 (by decide)) rfl rfl q1679
theorem fk_X10_136 : FK "AlgebraHouseModel" 136 10 26 6 true (.array .int) := FK.of 26 6 fb10 (by decide) rfl (tyX10_ok 26 (by decide)) rfl rfl q1680
theorem fk_X10_139 : FK "AlgebraHouseModel" 139 10 27 6 true (.array .int) := FK.of 27 6 fb10 (by decide) rfl (tyX10_ok 27 (by decide)) rfl rfl q1681
theorem fk_X10_142 : FK "AlgebraHouseModel" 142 10 28 6 true (.array .int) := FK.of 28 6 fb10 (by decide) rfl (tyX10_ok 28 (by decide)) rfl rfl q1682
theorem fk_X10_145 : FK "AlgebraHouseModel" 145 10 29 6 true (.array .int) := FK.of 29 6 fb10 (by decide) rfl (tyX10_ok 29 (by decide)) rfl rfl q1683
theorem fk_X10_148 : FK "AlgebraHouseModel" 148 10 30 6 true (.array .boolean) := FK.of 30 6 fb10 (by decide) rfl (tyX10_ok 30 (by decide)) rfl rfl q1684
theorem fk_X10_152 : FK "AlgebraHouseModel" 152 10 31 6 true (.array .long) := FK.of 31 6 fb10 (by decide) rfl (tyX10_ok 31 (by decide)) rfl rfl q1685
theorem fk_X10_155 : FK "AlgebraHouseModel" 155 10 35 6 true (.array .long) := FK.of 35 6 fb10 (by decide) rfl (tyX10_ok 35 (by decide)) rfl rfl q1689
theorem fk_X10_158 : FK "AlgebraHouseModel" 158 10 36 6 true (.array .long) := FK.of 36 6 fb10 (by decide) rfl (tyX10_ok 36 (by decide)) rfl rfl q1690
theorem fk_X10_161 : FK "AlgebraHouseModel" 161 10 37 6 true (.array .long) := FK.of 37 6 fb10 (by decide) rfl (tyX10_ok 37 (by decide)) rfl rfl q1691
theorem fk_X10_164 : FK "AlgebraHouseModel" 164 10 38 6 true (.array .int) := FK.of 38 6 fb10 (by decide) rfl (tyX10_ok 38 (by decide)) rfl rfl q1692
theorem fk_X10_167 : FK "AlgebraHouseModel" 167 10 39 6 true (.array .int) := FK.of 39 6 fb10 (by decide) rfl (tyX10_ok 39 (by decide)) rfl rfl q1693
theorem fk_X10_170 : FK "AlgebraHouseModel" 170 10 40 6 true (.array .int) := FK.of 40 6 fb10 (by decide) rfl (tyX10_ok 40 (by decide)) rfl rfl q1694
theorem fk_X10_173 : FK "AlgebraHouseModel" 173 10 41 6 true (.array .int) := FK.of 41 6 fb10 (by decide) rfl (tyX10_ok 41 (by decide)) rfl rfl q1695
theorem fk_X10_176 : FK "AlgebraHouseModel" 176 10 42 6 true (.array .int) := FK.of 42 6 fb10 (by decide) rfl (tyX10_ok 42 (by decide)) rfl rfl q1696
theorem fk_X10_179 : FK "AlgebraHouseModel" 179 10 43 6 true (.array .int) := FK.of 43 6 fb10 (by decide) rfl (tyX10_ok 43 (by decide)) rfl rfl q1697
theorem fk_X10_182 : FK "AlgebraHouseModel" 182 10 44 6 true (.array .int) := FK.of 44 6 fb10 (by decide) rfl (tyX10_ok 44 (by decide)) rfl rfl q1698
theorem fk_X10_185 : FK "AlgebraHouseModel" 185 10 45 6 true (.array .int) := FK.of 45 6 fb10 (by decide) rfl (tyX10_ok 45 (by decide)) rfl rfl q1699
theorem fk_X10_188 : FK "AlgebraHouseModel" 188 10 46 6 true (.array .int) := FK.of 46 6 fb10 (by decide) rfl (tyX10_ok 46 (by decide)) rfl rfl q1700
theorem fk_X10_191 : FK "AlgebraHouseModel" 191 10 47 6 true (.array .int) := FK.of 47 6 fb10 (by decide) rfl (tyX10_ok 47 (by decide)) rfl rfl q1701
theorem fk_X10_194 : FK "AlgebraHouseModel" 194 10 48 6 true (.array .int) := FK.of 48 6 fb10 (by decide) rfl (tyX10_ok 48 (by decide)) rfl rfl q1702
theorem fk_X10_197 : FK "AlgebraHouseModel" 197 10 49 6 true (.array .int) := FK.of 49 6 fb10 (by decide) rfl (tyX10_ok 49 (by decide)) rfl rfl q1703
theorem fk_X10_200 : FK "AlgebraHouseModel" 200 10 50 6 true (.array .boolean) := FK.of 50 6 fb10 (by decide) rfl (tyX10_ok 50 (by decide)) rfl rfl q1704
theorem fk_X10_203 : FK "AlgebraHouseModel" 203 10 51 6 true (.array .boolean) := FK.of 51 6 fb10 (by decide) rfl (tyX10_ok 51 (by decide)) rfl rfl q1705
theorem fk_X10_206 : FK "AlgebraHouseModel" 206 10 52 6 true (.array .int) := FK.of 52 6 fb10 (by decide) rfl (tyX10_ok 52 (by decide)) rfl rfl q1706
theorem fk_X10_209 : FK "AlgebraHouseModel" 209 10 53 6 true (.array .int) := FK.of 53 6 fb10 (by decide) rfl (tyX10_ok 53 (by decide)) rfl rfl q1707
theorem fk_X10_212 : FK "AlgebraHouseModel" 212 10 54 6 true (.array .int) := FK.of 54 6 fb10 (by decide) rfl (tyX10_ok 54 (by decide)) rfl rfl q1708
theorem fk_X10_215 : FK "AlgebraHouseModel" 215 10 55 6 true (.array .int) := FK.of 55 6 fb10 (by decide) rfl (tyX10_ok 55 (by decide)) rfl rfl q1709
theorem fk_X10_218 : FK "AlgebraHouseModel" 218 10 56 6 true (.array .int) := FK.of 56 6 fb10 (by decide) rfl (tyX10_ok 56 (by decide)) rfl rfl q1710
theorem fk_X10_221 : FK "AlgebraHouseModel" 221 10 57 6 true (.array .int) := FK.of 57 6 fb10 (by decide) rfl (tyX10_ok 57 (by decide)) rfl rfl q1711
theorem fk_X10_225 : FK "AlgebraHouseModel" 225 10 58 6 true (.array .long) := FK.of 58 6 fb10 (by decide) rfl (tyX10_ok 58 (by decide)) rfl rfl q1712
theorem fk_X10_228 : FK "AlgebraHouseModel" 228 10 59 6 true (.array .long) := FK.of 59 6 fb10 (by decide) rfl (tyX10_ok 59 (by decide)) rfl rfl q1713
theorem fk_X10_231 : FK "AlgebraHouseModel" 231 10 61 0 false .int := FK.of 61 0 fb10 (by decide) rfl (tyX10_ok 61 (by decide)) rfl rfl q1715
theorem fk_X10_234 : FK "AlgebraHouseModel" 234 10 62 0 false .int := FK.of 62 0 fb10 (by decide) rfl (tyX10_ok 62 (by decide)) rfl rfl q1716
theorem fk_X10_237 : FK "AlgebraHouseModel" 237 10 69 6 true (.array .int) := FK.of 69 6 fb10 (by decide) rfl (tyX10_ok 69 (by decide)) rfl rfl q1723
theorem fk_X10_240 : FK "AlgebraHouseModel" 240 10 78 6 true (.array .int) := FK.of 78 6 fb10 (by decide) rfl (tyX10_ok 78 (by decide)) rfl rfl q1732
theorem fk_X10_243 : FK "AlgebraHouseModel" 243 10 79 6 true (.array .int) := FK.of 79 6 fb10 (by decide) rfl (tyX10_ok 79 (by decide)) rfl rfl q1733
theorem fk_X10_246 : FK "AlgebraHouseModel" 246 10 80 6 true (.array .int) := FK.of 80 6 fb10 (by decide) rfl (tyX10_ok 80 (by decide)) rfl rfl q1734
theorem fk_X10_250 : FK "AlgebraHouseModel" 250 10 85 6 true (.array .long) := FK.of 85 6 fb10 (by decide) rfl (tyX10_ok 85 (by decide)) rfl rfl q1739
theorem fk_X10_253 : FK "AlgebraHouseModel" 253 10 89 0 false .int := FK.of 89 0 fb10 (by decide) rfl (tyX10_ok 89 (by decide)) rfl rfl q1743
theorem fk_X10_256 : FK "AlgebraHouseModel" 256 10 94 6 true (.array .int) := FK.of 94 6 fb10 (by decide) rfl (tyX10_ok 94 (by decide)) rfl rfl q1748
theorem fk_X10_259 : FK "AlgebraHouseModel" 259 10 95 6 true (.array .int) := FK.of 95 6 fb10 (by decide) rfl (tyX10_ok 95 (by decide)) rfl rfl q1749
theorem fk_X10_262 : FK "AlgebraHouseModel" 262 10 96 6 true (.array .int) := FK.of 96 6 fb10 (by decide) rfl (tyX10_ok 96 (by decide)) rfl rfl q1750
theorem fk_X10_265 : FK "AlgebraHouseModel" 265 10 97 6 true (.array .int) := FK.of 97 6 fb10 (by decide) rfl (tyX10_ok 97 (by decide)) rfl rfl q1751
theorem fk_X10_268 : FK "AlgebraHouseModel" 268 10 98 6 true (.array .int) := FK.of 98 6 fb10 (by decide) rfl (tyX10_ok 98 (by decide)) rfl rfl q1752
theorem fk_X10_271 : FK "AlgebraHouseModel" 271 10 100 6 true (.array .int) := FK.of 100 6 fb10 (by decide) rfl (tyX10_ok 100 (by decide)) rfl rfl q1754
theorem fk_X10_274 : FK "AlgebraHouseModel" 274 10 101 6 true (.array .int) := FK.of 101 6 fb10 (by decide) rfl (tyX10_ok 101 (by decide)) rfl rfl q1755
theorem fk_X10_277 : FK "AlgebraHouseModel" 277 10 102 6 true (.array .int) := FK.of 102 6 fb10 (by decide) rfl (tyX10_ok 102 (by decide)) rfl rfl q1756
theorem fk_X10_280 : FK "AlgebraHouseModel" 280 10 103 6 true (.array .int) := FK.of 103 6 fb10 (by decide) rfl (tyX10_ok 103 (by decide)) rfl rfl q1757
theorem fk_X10_283 : FK "AlgebraHouseModel" 283 10 104 6 true (.array .int) := FK.of 104 6 fb10 (by decide) rfl (tyX10_ok 104 (by decide)) rfl rfl q1758
theorem fk_X10_286 : FK "AlgebraHouseModel" 286 10 105 6 true (.array .int) := FK.of 105 6 fb10 (by decide) rfl (tyX10_ok 105 (by decide)) rfl rfl q1759
theorem fk_X10_289 : FK "AlgebraHouseModel" 289 10 106 6 true (.array .int) := FK.of 106 6 fb10 (by decide) rfl (tyX10_ok 106 (by decide)) rfl rfl q1760
theorem fk_X10_292 : FK "AlgebraHouseModel" 292 10 107 6 true (.array .long) := FK.of 107 6 fb10 (by decide) rfl (tyX10_ok 107 (by decide)) rfl rfl q1761
theorem fk_X10_295 : FK "AlgebraHouseModel" 295 10 108 6 true (.array .long) := FK.of 108 6 fb10 (by decide) rfl (tyX10_ok 108 (by decide)) rfl rfl q1762
theorem fk_X10_298 : FK "AlgebraHouseModel" 298 10 109 6 true (.array .long) := FK.of 109 6 fb10 (by decide) rfl (tyX10_ok 109 (by decide)) rfl rfl q1763
theorem fk_X10_301 : FK "AlgebraHouseModel" 301 10 111 0 false .int := FK.of 111 0 fb10 (by decide) rfl (tyX10_ok 111 (by decide)) rfl rfl q1765
theorem fk_X10_304 : FK "AlgebraHouseModel" 304 10 114 6 true (.array .int) := FK.of 114 6 fb10 (by decide) rfl (tyX10_ok 114 (by decide)) rfl rfl q1768
theorem fk_X10_307 : FK "AlgebraHouseModel" 307 10 115 6 true (.array .int) := FK.of 115 6 fb10 (by decide) rfl (tyX10_ok 115 (by decide)) rfl rfl q1769
theorem fk_X10_310 : FK "AlgebraHouseModel" 310 10 4 0 false .int := FK.of 4 0 fb10 (by decide) rfl (tyX10_ok 4 (by decide)) rfl rfl q1658
theorem fk_X10_317 : FK "AlgebraHouseModel" 317 10 8 0 false .int := FK.of 8 0 fb10 (by decide) rfl (tyX10_ok 8 (by decide)) rfl rfl q1662
theorem fk_X10_324 : FK "AlgebraHouseModel" 324 10 9 0 false .int := FK.of 9 0 fb10 (by decide) rfl (tyX10_ok 9 (by decide)) rfl rfl q1663
theorem fk_X10_347 : FK "AlgebraHouseModel" 347 10 10 0 false .int := FK.of 10 0 fb10 (by decide) rfl (tyX10_ok 10 (by decide)) rfl rfl q1664
theorem fk_X10_350 : FK "AlgebraHouseModel" 350 10 14 0 false .int := FK.of 14 0 fb10 (by decide) rfl (tyX10_ok 14 (by decide)) rfl rfl q1668
theorem fk_X10_353 : FK "AlgebraHouseModel" 353 10 13 0 false .int := FK.of 13 0 fb10 (by decide) rfl (tyX10_ok 13 (by decide)) rfl rfl q1667
theorem fk_X10_369 : FK "AlgebraHouseModel" 369 10 12 0 false .int := FK.of 12 0 fb10 (by decide) rfl (tyX10_ok 12 (by decide)) rfl rfl q1666
theorem fk_X10_378 : FK "AlgebraHouseModel" 378 10 15 0 false .int := FK.of 15 0 fb10 (by decide) rfl (tyX10_ok 15 (by decide)) rfl rfl q1669
theorem fk_X10_442 : FK "AlgebraHouseModel" 442 10 65 0 false .int := FK.of 65 0 fb10 (by decide) rfl (tyX10_ok 65 (by decide)) rfl rfl q1719
theorem fk_X10_450 : FK "AlgebraHouseModel" 450 10 66 0 false .int := FK.of 66 0 fb10 (by decide) rfl (tyX10_ok 66 (by decide)) rfl rfl q1720
theorem fk_X10_453 : FK "AlgebraHouseModel" 453 10 67 0 false .int := FK.of 67 0 fb10 (by decide) rfl (tyX10_ok 67 (by decide)) rfl rfl q1721
theorem fk_X10_460 : FK "AlgebraHouseModel" 460 10 68 0 false .int := FK.of 68 0 fb10 (by decide) rfl (tyX10_ok 68 (by decide)) rfl rfl q1722
theorem fk_X10_509 : FK "AlgebraHouseModel" 509 10 63 0 false .int := FK.of 63 0 fb10 (by decide) rfl (tyX10_ok 63 (by decide)) rfl rfl q1717
theorem fk_X10_512 : FK "AlgebraHouseModel" 512 10 64 0 false .int := FK.of 64 0 fb10 (by decide) rfl (tyX10_ok 64 (by decide)) rfl rfl q1718
theorem fk_X10_523 : FK "AlgebraHouseModel" 523 10 34 0 false .int := FK.of 34 0 fb10 (by decide) rfl (tyX10_ok 34 (by decide)) rfl rfl q1688
theorem fk_X10_542 : FK "AlgebraHouseModel" 542 10 70 0 false .int := FK.of 70 0 fb10 (by decide) rfl (tyX10_ok 70 (by decide)) rfl rfl q1724
theorem fk_X10_545 : FK "AlgebraHouseModel" 545 10 71 0 false .int := FK.of 71 0 fb10 (by decide) rfl (tyX10_ok 71 (by decide)) rfl rfl q1725
theorem fk_X10_548 : FK "AlgebraHouseModel" 548 10 72 0 false .int := FK.of 72 0 fb10 (by decide) rfl (tyX10_ok 72 (by decide)) rfl rfl q1726
theorem fk_X10_554 : FK "AlgebraHouseModel" 554 10 33 0 false .int := FK.of 33 0 fb10 (by decide) rfl (tyX10_ok 33 (by decide)) rfl rfl q1687
theorem fk_X10_557 : FK "AlgebraHouseModel" 557 10 75 0 false .int := FK.of 75 0 fb10 (by decide) rfl (tyX10_ok 75 (by decide)) rfl rfl q1729
theorem fk_X10_560 : FK "AlgebraHouseModel" 560 10 76 0 false .int := FK.of 76 0 fb10 (by decide) rfl (tyX10_ok 76 (by decide)) rfl rfl q1730
theorem fk_X10_563 : FK "AlgebraHouseModel" 563 10 77 0 false .int := FK.of 77 0 fb10 (by decide) rfl (tyX10_ok 77 (by decide)) rfl rfl q1731
theorem fk_X10_566 : FK "AlgebraHouseModel" 566 10 73 0 false .int := FK.of 73 0 fb10 (by decide) rfl (tyX10_ok 73 (by decide)) rfl rfl q1727
theorem fk_X10_572 : FK "AlgebraHouseModel" 572 10 74 0 false .int := FK.of 74 0 fb10 (by decide) rfl (tyX10_ok 74 (by decide)) rfl rfl q1728
theorem fk_X10_582 : FK "AlgebraHouseModel" 582 10 81 0 false .int := FK.of 81 0 fb10 (by decide) rfl (tyX10_ok 81 (by decide)) rfl rfl q1735
theorem fk_X10_585 : FK "AlgebraHouseModel" 585 10 82 0 false .int := FK.of 82 0 fb10 (by decide) rfl (tyX10_ok 82 (by decide)) rfl rfl q1736
theorem fk_X10_588 : FK "AlgebraHouseModel" 588 10 83 0 false .int := FK.of 83 0 fb10 (by decide) rfl (tyX10_ok 83 (by decide)) rfl rfl q1737
theorem fk_X10_591 : FK "AlgebraHouseModel" 591 10 32 0 false .int := FK.of 32 0 fb10 (by decide) rfl (tyX10_ok 32 (by decide)) rfl rfl q1686
theorem fk_X10_601 : FK "AlgebraHouseModel" 601 10 84 0 false .int := FK.of 84 0 fb10 (by decide) rfl (tyX10_ok 84 (by decide)) rfl rfl q1738
theorem fk_X10_604 : FK "AlgebraHouseModel" 604 10 87 1 false .long := FK.of 87 1 fb10 (by decide) rfl (tyX10_ok 87 (by decide)) rfl rfl q1741
theorem fk_X10_608 : FK "AlgebraHouseModel" 608 10 88 1 false .long := FK.of 88 1 fb10 (by decide) rfl (tyX10_ok 88 (by decide)) rfl rfl q1742
theorem fk_X10_704 : FK "AlgebraHouseModel" 704 10 90 0 false .int := FK.of 90 0 fb10 (by decide) rfl (tyX10_ok 90 (by decide)) rfl rfl q1744
theorem fk_X10_718 : FK "AlgebraHouseModel" 718 10 86 0 false .int := FK.of 86 0 fb10 (by decide) rfl (tyX10_ok 86 (by decide)) rfl rfl q1740
theorem fk_X10_727 : FK "AlgebraHouseModel" 727 10 99 0 false .int := FK.of 99 0 fb10 (by decide) rfl (tyX10_ok 99 (by decide)) rfl rfl q1753
theorem fk_X10_811 : FK "AlgebraHouseModel" 811 10 93 0 false .int := FK.of 93 0 fb10 (by decide) rfl (tyX10_ok 93 (by decide)) rfl rfl q1747
theorem fk_X10_814 : FK "AlgebraHouseModel" 814 10 91 0 false .int := FK.of 91 0 fb10 (by decide) rfl (tyX10_ok 91 (by decide)) rfl rfl q1745
theorem fk_X10_817 : FK "AlgebraHouseModel" 817 10 92 0 false .int := FK.of 92 0 fb10 (by decide) rfl (tyX10_ok 92 (by decide)) rfl rfl q1746
theorem fk_X10_878 : FK "AlgebraHouseModel" 878 10 113 0 false .int := FK.of 113 0 fb10 (by decide) rfl (tyX10_ok 113 (by decide)) rfl rfl q1767
theorem fk_X10_881 : FK "AlgebraHouseModel" 881 10 112 0 false .int := FK.of 112 0 fb10 (by decide) rfl (tyX10_ok 112 (by decide)) rfl rfl q1766
theorem fk_X10_884 : FK "AlgebraHouseModel" 884 10 110 0 false .int := FK.of 110 0 fb10 (by decide) rfl (tyX10_ok 110 (by decide)) rfl rfl q1764
theorem fk_X10_903 : FK "AlgebraHouseModel" 903 10 60 3 false .boolean := FK.of 60 3 fb10 (by decide) rfl (tyX10_ok 60 (by decide)) rfl rfl q1714
theorem fk_X0_77 : FK "AlgebraHouse" 77 1 0 6 true (.array (.object "AlgebraHouse$Text")) := FK.ofN 0 6 fb1 (by decide) rfl (tyX1_ok 0 (by decide)) rfl rfl q413
theorem fk_X0_81 : FK "AlgebraHouse" 81 1 1 0 false .int := FK.ofN 1 0 fb1 (by decide) rfl (tyX1_ok 1 (by decide)) rfl rfl q418
theorem fk_X0_88 : FK "AlgebraHouse" 88 3 4 0 false .int := FK.ofN 4 0 fb3 (by decide) rfl (tyX3_ok 4 (by decide)) rfl rfl q496
theorem fk_X0_92 : FK "AlgebraHouse" 92 3 5 0 false .int := FK.ofN 5 0 fb3 (by decide) rfl (tyX3_ok 5 (by decide)) rfl rfl q498
theorem fk_X0_97 : FK "AlgebraHouse" 97 5 5 0 false .int := FK.ofN 5 0 fb5 (by decide) rfl (tyX5_ok 5 (by decide)) rfl rfl q524
theorem fk_X0_98 : FK "AlgebraHouse" 98 5 6 0 false .int := FK.ofN 6 0 fb5 (by decide) rfl (tyX5_ok 6 (by decide)) rfl rfl q526
theorem fk_X0_99 : FK "AlgebraHouse" 99 2 1 0 false .int := FK.ofN 1 0 fb2 (by decide) rfl (tyX2_ok 1 (by decide)) rfl rfl q261
theorem fk_X0_108 : FK "AlgebraHouse" 108 6 15 0 false .int := FK.ofN 15 0 fb6 (by decide) rfl (tyX6_ok 15 (by decide)) rfl rfl q638
theorem fk_X0_109 : FK "AlgebraHouse" 109 6 16 0 false .int := FK.ofN 16 0 fb6 (by decide) rfl (tyX6_ok 16 (by decide)) rfl rfl q640
theorem fk_X0_112 : FK "AlgebraHouse" 112 2 12 6 true (.array .int) := FK.ofN 12 6 fb2 (by decide) rfl (tyX2_ok 12 (by decide)) rfl rfl q301
theorem fk_X0_115 : FK "AlgebraHouse" 115 2 2 0 false .int := FK.ofN 2 0 fb2 (by decide) rfl (tyX2_ok 2 (by decide)) rfl rfl q267
theorem fk_X0_128 : FK "AlgebraHouse" 128 6 4 6 true (.array .int) := FK.ofN 4 6 fb6 (by decide) rfl (tyX6_ok 4 (by decide)) rfl rfl q627
theorem fk_X0_131 : FK "AlgebraHouse" 131 1 3 0 false .int := FK.ofN 3 0 fb1 (by decide) rfl (tyX1_ok 3 (by decide)) rfl rfl q422
theorem fk_X0_140 : FK "AlgebraHouse" 140 1 6 6 true (.array .int) := FK.ofN 6 6 fb1 (by decide) rfl (tyX1_ok 6 (by decide)) rfl rfl q430
theorem fk_X0_143 : FK "AlgebraHouse" 143 2 16 1 false .long := FK.ofN 16 1 fb2 (by decide) rfl (tyX2_ok 16 (by decide)) rfl rfl q313
theorem fk_X0_151 : FK "AlgebraHouse" 151 1 2 0 false .int := FK.ofN 2 0 fb1 (by decide) rfl (tyX1_ok 2 (by decide)) rfl rfl q420
theorem fk_X0_154 : FK "AlgebraHouse" 154 1 4 6 true (.array .long) := FK.ofN 4 6 fb1 (by decide) rfl (tyX1_ok 4 (by decide)) rfl rfl q425
theorem fk_X0_157 : FK "AlgebraHouse" 157 1 5 6 true (.array .int) := FK.ofN 5 6 fb1 (by decide) rfl (tyX1_ok 5 (by decide)) rfl rfl q427
theorem fk_X0_187 : FK "AlgebraHouse" 187 2 5 0 false .int := FK.ofN 5 0 fb2 (by decide) rfl (tyX2_ok 5 (by decide)) rfl rfl q277
theorem fk_X0_190 : FK "AlgebraHouse" 190 2 22 0 false .int := FK.ofN 22 0 fb2 (by decide) rfl (tyX2_ok 22 (by decide)) rfl rfl q335
theorem fk_X0_193 : FK "AlgebraHouse" 193 2 23 6 true (.array .boolean) := FK.ofN 23 6 fb2 (by decide) rfl (tyX2_ok 23 (by decide)) rfl rfl q340
theorem fk_X0_197 : FK "AlgebraHouse" 197 2 24 6 true (.array .int) := FK.ofN 24 6 fb2 (by decide) rfl (tyX2_ok 24 (by decide)) rfl rfl q344
theorem fk_X0_199 : FK "AlgebraHouse" 199 2 25 6 true (.array .int) := FK.ofN 25 6 fb2 (by decide) rfl (tyX2_ok 25 (by decide)) rfl rfl q348
theorem fk_X0_202 : FK "AlgebraHouse" 202 2 26 6 true (.array .int) := FK.ofN 26 6 fb2 (by decide) rfl (tyX2_ok 26 (by decide)) rfl rfl q352
theorem fk_X0_211 : FK "AlgebraHouse" 211 1 7 0 false .int := FK.ofN 7 0 fb1 (by decide) rfl (tyX1_ok 7 (by decide)) rfl rfl q433
theorem fk_X1_33 : FK "AlgebraHouse$Book" 33 2 23 6 true (.array .boolean) := FK.ofN 23 6 fb2 (by decide) rfl (tyX2_ok 23 (by decide)) rfl rfl q338
theorem fk_X1_37 : FK "AlgebraHouse$Book" 37 2 24 6 true (.array .int) := FK.ofN 24 6 fb2 (by decide) rfl (tyX2_ok 24 (by decide)) rfl rfl q342
theorem fk_X1_39 : FK "AlgebraHouse$Book" 39 2 25 6 true (.array .int) := FK.ofN 25 6 fb2 (by decide) rfl (tyX2_ok 25 (by decide)) rfl rfl q346
theorem fk_X1_42 : FK "AlgebraHouse$Book" 42 2 26 6 true (.array .int) := FK.ofN 26 6 fb2 (by decide) rfl (tyX2_ok 26 (by decide)) rfl rfl q350
theorem fk_X1_61 : FK "AlgebraHouse$Book" 61 2 22 0 false .int := FK.ofN 22 0 fb2 (by decide) rfl (tyX2_ok 22 (by decide)) rfl rfl q332
theorem fk_X1_68 : FK "AlgebraHouse$Book" 68 2 5 0 false .int := FK.ofN 5 0 fb2 (by decide) rfl (tyX2_ok 5 (by decide)) rfl rfl q274
theorem fk_X1_88 : FK "AlgebraHouse$Book" 88 2 16 1 false .long := FK.ofN 16 1 fb2 (by decide) rfl (tyX2_ok 16 (by decide)) rfl rfl q315
theorem fk_X7_23 : FK "AlgebraHouse$Coder" 23 9 3 0 false .int := FK.ofN 3 0 fb9 (by decide) rfl (tyX9_ok 3 (by decide)) rfl rfl q603
theorem fk_X7_29 : FK "AlgebraHouse$Coder" 29 2 2 0 false .int := FK.ofN 2 0 fb2 (by decide) rfl (tyX2_ok 2 (by decide)) rfl rfl q265
theorem fk_X7_38 : FK "AlgebraHouse$Coder" 38 2 12 6 true (.array .int) := FK.ofN 12 6 fb2 (by decide) rfl (tyX2_ok 12 (by decide)) rfl rfl q300
theorem fk_X7_53 : FK "AlgebraHouse$Coder" 53 2 7 6 true (.array .int) := FK.ofN 7 6 fb2 (by decide) rfl (tyX2_ok 7 (by decide)) rfl rfl q282
theorem fk_X7_62 : FK "AlgebraHouse$Coder" 62 2 10 6 true (.array .int) := FK.ofN 10 6 fb2 (by decide) rfl (tyX2_ok 10 (by decide)) rfl rfl q294
theorem fk_X7_74 : FK "AlgebraHouse$Coder" 74 2 1 0 false .int := FK.ofN 1 0 fb2 (by decide) rfl (tyX2_ok 1 (by decide)) rfl rfl q263
theorem fk_X7_77 : FK "AlgebraHouse$Coder" 77 2 13 6 true (.array .int) := FK.ofN 13 6 fb2 (by decide) rfl (tyX2_ok 13 (by decide)) rfl rfl q305
theorem fk_X7_86 : FK "AlgebraHouse$Coder" 86 2 8 6 true (.array .int) := FK.ofN 8 6 fb2 (by decide) rfl (tyX2_ok 8 (by decide)) rfl rfl q286
theorem fk_X7_93 : FK "AlgebraHouse$Coder" 93 2 9 6 true (.array .int) := FK.ofN 9 6 fb2 (by decide) rfl (tyX2_ok 9 (by decide)) rfl rfl q290
theorem fk_X7_102 : FK "AlgebraHouse$Coder" 102 9 1 6 true (.array .int) := FK.ofN 1 6 fb9 (by decide) rfl (tyX9_ok 1 (by decide)) rfl rfl q599
theorem fk_X7_114 : FK "AlgebraHouse$Coder" 114 1 0 6 true (.array (.object "AlgebraHouse$Text")) := FK.ofN 0 6 fb1 (by decide) rfl (tyX1_ok 0 (by decide)) rfl rfl q415
theorem fk_X7_120 : FK "AlgebraHouse$Coder" 120 2 14 6 true (.array .int) := FK.ofN 14 6 fb2 (by decide) rfl (tyX2_ok 14 (by decide)) rfl rfl q308
theorem fk_X5_37 : FK "AlgebraHouse$Judge" 37 1 1 0 false .int := FK.ofN 1 0 fb1 (by decide) rfl (tyX1_ok 1 (by decide)) rfl rfl q417
theorem fk_X5_45 : FK "AlgebraHouse$Judge" 45 2 2 0 false .int := FK.ofN 2 0 fb2 (by decide) rfl (tyX2_ok 2 (by decide)) rfl rfl q266
theorem fk_X5_57 : FK "AlgebraHouse$Judge" 57 2 1 0 false .int := FK.ofN 1 0 fb2 (by decide) rfl (tyX2_ok 1 (by decide)) rfl rfl q262
theorem fk_X5_70 : FK "AlgebraHouse$Judge" 70 1 3 0 false .int := FK.ofN 3 0 fb1 (by decide) rfl (tyX1_ok 3 (by decide)) rfl rfl q423
theorem fk_X5_73 : FK "AlgebraHouse$Judge" 73 2 16 1 false .long := FK.ofN 16 1 fb2 (by decide) rfl (tyX2_ok 16 (by decide)) rfl rfl q314
theorem fk_X5_81 : FK "AlgebraHouse$Judge" 81 1 2 0 false .int := FK.ofN 2 0 fb1 (by decide) rfl (tyX1_ok 2 (by decide)) rfl rfl q421
theorem fk_X5_84 : FK "AlgebraHouse$Judge" 84 2 22 0 false .int := FK.ofN 22 0 fb2 (by decide) rfl (tyX2_ok 22 (by decide)) rfl rfl q333
theorem fk_X5_93 : FK "AlgebraHouse$Judge" 93 2 5 0 false .int := FK.ofN 5 0 fb2 (by decide) rfl (tyX2_ok 5 (by decide)) rfl rfl q275
theorem fk_X5_96 : FK "AlgebraHouse$Judge" 96 2 18 6 true (.array .int) := FK.ofN 18 6 fb2 (by decide) rfl (tyX2_ok 18 (by decide)) rfl rfl q321
theorem fk_X5_103 : FK "AlgebraHouse$Judge" 103 2 23 6 true (.array .boolean) := FK.ofN 23 6 fb2 (by decide) rfl (tyX2_ok 23 (by decide)) rfl rfl q339
theorem fk_X5_107 : FK "AlgebraHouse$Judge" 107 2 17 6 true (.array .long) := FK.ofN 17 6 fb2 (by decide) rfl (tyX2_ok 17 (by decide)) rfl rfl q318
theorem fk_X5_111 : FK "AlgebraHouse$Judge" 111 2 19 6 true (.array .int) := FK.ofN 19 6 fb2 (by decide) rfl (tyX2_ok 19 (by decide)) rfl rfl q324
theorem fk_X5_118 : FK "AlgebraHouse$Judge" 118 2 6 0 false .int := FK.ofN 6 0 fb2 (by decide) rfl (tyX2_ok 6 (by decide)) rfl rfl q279
theorem fk_X5_121 : FK "AlgebraHouse$Judge" 121 2 21 0 false .int := FK.ofN 21 0 fb2 (by decide) rfl (tyX2_ok 21 (by decide)) rfl rfl q329
theorem fk_X5_128 : FK "AlgebraHouse$Judge" 128 2 20 0 false .int := FK.ofN 20 0 fb2 (by decide) rfl (tyX2_ok 20 (by decide)) rfl rfl q326
theorem fk_X5_131 : FK "AlgebraHouse$Judge" 131 2 24 6 true (.array .int) := FK.ofN 24 6 fb2 (by decide) rfl (tyX2_ok 24 (by decide)) rfl rfl q343
theorem fk_X5_137 : FK "AlgebraHouse$Judge" 137 2 25 6 true (.array .int) := FK.ofN 25 6 fb2 (by decide) rfl (tyX2_ok 25 (by decide)) rfl rfl q347
theorem fk_X5_140 : FK "AlgebraHouse$Judge" 140 2 26 6 true (.array .int) := FK.ofN 26 6 fb2 (by decide) rfl (tyX2_ok 26 (by decide)) rfl rfl q351
theorem fk_X5_143 : FK "AlgebraHouse$Judge" 143 2 7 6 true (.array .int) := FK.ofN 7 6 fb2 (by decide) rfl (tyX2_ok 7 (by decide)) rfl rfl q283
theorem fk_X5_146 : FK "AlgebraHouse$Judge" 146 2 10 6 true (.array .int) := FK.ofN 10 6 fb2 (by decide) rfl (tyX2_ok 10 (by decide)) rfl rfl q295
theorem fk_X5_149 : FK "AlgebraHouse$Judge" 149 2 8 6 true (.array .int) := FK.ofN 8 6 fb2 (by decide) rfl (tyX2_ok 8 (by decide)) rfl rfl q287
theorem fk_X5_151 : FK "AlgebraHouse$Judge" 151 1 0 6 true (.array (.object "AlgebraHouse$Text")) := FK.ofN 0 6 fb1 (by decide) rfl (tyX1_ok 0 (by decide)) rfl rfl q414
theorem fk_X5_171 : FK "AlgebraHouse$Judge" 171 2 3 0 false .int := FK.ofN 3 0 fb2 (by decide) rfl (tyX2_ok 3 (by decide)) rfl rfl q271
theorem fk_X5_174 : FK "AlgebraHouse$Judge" 174 2 11 6 true (.array .int) := FK.ofN 11 6 fb2 (by decide) rfl (tyX2_ok 11 (by decide)) rfl rfl q298
theorem fk_X5_176 : FK "AlgebraHouse$Judge" 176 2 15 6 true (.array .long) := FK.ofN 15 6 fb2 (by decide) rfl (tyX2_ok 15 (by decide)) rfl rfl q311
theorem fk_X5_191 : FK "AlgebraHouse$Judge" 191 2 12 6 true (.array .int) := FK.ofN 12 6 fb2 (by decide) rfl (tyX2_ok 12 (by decide)) rfl rfl q303
theorem fk_X5_193 : FK "AlgebraHouse$Judge" 193 1 6 6 true (.array .int) := FK.ofN 6 6 fb1 (by decide) rfl (tyX1_ok 6 (by decide)) rfl rfl q431
theorem fk_X5_220 : FK "AlgebraHouse$Judge" 220 1 5 6 true (.array .int) := FK.ofN 5 6 fb1 (by decide) rfl (tyX1_ok 5 (by decide)) rfl rfl q428
theorem fk_X5_223 : FK "AlgebraHouse$Judge" 223 2 13 6 true (.array .int) := FK.ofN 13 6 fb2 (by decide) rfl (tyX2_ok 13 (by decide)) rfl rfl q306
theorem fk_X5_226 : FK "AlgebraHouse$Judge" 226 2 9 6 true (.array .int) := FK.ofN 9 6 fb2 (by decide) rfl (tyX2_ok 9 (by decide)) rfl rfl q291
theorem fk_X5_244 : FK "AlgebraHouse$Judge" 244 2 14 6 true (.array .int) := FK.ofN 14 6 fb2 (by decide) rfl (tyX2_ok 14 (by decide)) rfl rfl q309
theorem fk_X5_247 : FK "AlgebraHouse$Judge" 247 1 7 0 false .int := FK.ofN 7 0 fb1 (by decide) rfl (tyX1_ok 7 (by decide)) rfl rfl q434
theorem fk_X6_70 : FK "AlgebraHouse$Machine" 70 8 0 6 true (.array .int) := FK.ofN 0 6 fb8 (by decide) rfl (tyX8_ok 0 (by decide)) rfl rfl q576
theorem fk_X6_75 : FK "AlgebraHouse$Machine" 75 9 4 0 false .int := FK.ofN 4 0 fb9 (by decide) rfl (tyX9_ok 4 (by decide)) rfl rfl q604
theorem fk_X6_79 : FK "AlgebraHouse$Machine" 79 9 5 0 false .int := FK.ofN 5 0 fb9 (by decide) rfl (tyX9_ok 5 (by decide)) rfl rfl q605
theorem fk_X6_85 : FK "AlgebraHouse$Machine" 85 9 6 0 false .int := FK.ofN 6 0 fb9 (by decide) rfl (tyX9_ok 6 (by decide)) rfl rfl q606
theorem fk_X6_106 : FK "AlgebraHouse$Machine" 106 8 1 0 false .int := FK.ofN 1 0 fb8 (by decide) rfl (tyX8_ok 1 (by decide)) rfl rfl q578
theorem fk_X6_109 : FK "AlgebraHouse$Machine" 109 8 2 0 false .int := FK.ofN 2 0 fb8 (by decide) rfl (tyX8_ok 2 (by decide)) rfl rfl q580
theorem fk_X6_121 : FK "AlgebraHouse$Machine" 121 2 12 6 true (.array .int) := FK.ofN 12 6 fb2 (by decide) rfl (tyX2_ok 12 (by decide)) rfl rfl q302
theorem fk_X6_125 : FK "AlgebraHouse$Machine" 125 2 2 0 false .int := FK.ofN 2 0 fb2 (by decide) rfl (tyX2_ok 2 (by decide)) rfl rfl q268
theorem fk_X6_136 : FK "AlgebraHouse$Machine" 136 9 0 6 true (.array .int) := FK.ofN 0 6 fb9 (by decide) rfl (tyX9_ok 0 (by decide)) rfl rfl q596
theorem fk_X6_139 : FK "AlgebraHouse$Machine" 139 9 1 6 true (.array .int) := FK.ofN 1 6 fb9 (by decide) rfl (tyX9_ok 1 (by decide)) rfl rfl q598
theorem fk_X6_142 : FK "AlgebraHouse$Machine" 142 9 2 6 true (.array .int) := FK.ofN 2 6 fb9 (by decide) rfl (tyX9_ok 2 (by decide)) rfl rfl q601
theorem fk_X6_212 : FK "AlgebraHouse$Machine" 212 1 0 6 true (.array (.object "AlgebraHouse$Text")) := FK.ofN 0 6 fb1 (by decide) rfl (tyX1_ok 0 (by decide)) rfl rfl q416
theorem fk_X6_218 : FK "AlgebraHouse$Machine" 218 2 22 0 false .int := FK.ofN 22 0 fb2 (by decide) rfl (tyX2_ok 22 (by decide)) rfl rfl q334
theorem fk_X6_231 : FK "AlgebraHouse$Machine" 231 2 5 0 false .int := FK.ofN 5 0 fb2 (by decide) rfl (tyX2_ok 5 (by decide)) rfl rfl q276
theorem fk_X3_29 : FK "AlgebraHouse$Parser" 29 4 3 6 true (.array .int) := FK.ofN 3 6 fb4 (by decide) rfl (tyX4_ok 3 (by decide)) rfl rfl q469
theorem fk_X3_36 : FK "AlgebraHouse$Parser" 36 4 4 6 true (.array .int) := FK.ofN 4 6 fb4 (by decide) rfl (tyX4_ok 4 (by decide)) rfl rfl q471
theorem fk_X3_39 : FK "AlgebraHouse$Parser" 39 4 5 6 true (.array .int) := FK.ofN 5 6 fb4 (by decide) rfl (tyX4_ok 5 (by decide)) rfl rfl q473
theorem fk_X3_75 : FK "AlgebraHouse$Parser" 75 4 2 0 false .int := FK.ofN 2 0 fb4 (by decide) rfl (tyX4_ok 2 (by decide)) rfl rfl q467
theorem fk_X3_103 : FK "AlgebraHouse$Parser" 103 2 1 0 false .int := FK.ofN 1 0 fb2 (by decide) rfl (tyX2_ok 1 (by decide)) rfl rfl q264
theorem fk_X3_106 : FK "AlgebraHouse$Parser" 106 4 6 6 true (.array .long) := FK.ofN 6 6 fb4 (by decide) rfl (tyX4_ok 6 (by decide)) rfl rfl q475
theorem fk_X3_110 : FK "AlgebraHouse$Parser" 110 2 16 1 false .long := FK.ofN 16 1 fb2 (by decide) rfl (tyX2_ok 16 (by decide)) rfl rfl q316
theorem fk_X3_117 : FK "AlgebraHouse$Parser" 117 2 2 0 false .int := FK.ofN 2 0 fb2 (by decide) rfl (tyX2_ok 2 (by decide)) rfl rfl q269
theorem fk_X3_120 : FK "AlgebraHouse$Parser" 120 2 20 0 false .int := FK.ofN 20 0 fb2 (by decide) rfl (tyX2_ok 20 (by decide)) rfl rfl q327
theorem fk_X3_123 : FK "AlgebraHouse$Parser" 123 2 5 0 false .int := FK.ofN 5 0 fb2 (by decide) rfl (tyX2_ok 5 (by decide)) rfl rfl q278
theorem fk_X3_126 : FK "AlgebraHouse$Parser" 126 2 17 6 true (.array .long) := FK.ofN 17 6 fb2 (by decide) rfl (tyX2_ok 17 (by decide)) rfl rfl q319
theorem fk_X3_129 : FK "AlgebraHouse$Parser" 129 2 19 6 true (.array .int) := FK.ofN 19 6 fb2 (by decide) rfl (tyX2_ok 19 (by decide)) rfl rfl q325
theorem fk_X3_132 : FK "AlgebraHouse$Parser" 132 2 18 6 true (.array .int) := FK.ofN 18 6 fb2 (by decide) rfl (tyX2_ok 18 (by decide)) rfl rfl q322
theorem fk_X3_141 : FK "AlgebraHouse$Parser" 141 2 6 0 false .int := FK.ofN 6 0 fb2 (by decide) rfl (tyX2_ok 6 (by decide)) rfl rfl q280
theorem fk_X3_144 : FK "AlgebraHouse$Parser" 144 2 22 0 false .int := FK.ofN 22 0 fb2 (by decide) rfl (tyX2_ok 22 (by decide)) rfl rfl q336
theorem fk_X3_147 : FK "AlgebraHouse$Parser" 147 2 21 0 false .int := FK.ofN 21 0 fb2 (by decide) rfl (tyX2_ok 21 (by decide)) rfl rfl q330
theorem fk_X3_150 : FK "AlgebraHouse$Parser" 150 2 3 0 false .int := FK.ofN 3 0 fb2 (by decide) rfl (tyX2_ok 3 (by decide)) rfl rfl q272
theorem fk_X3_157 : FK "AlgebraHouse$Parser" 157 2 10 6 true (.array .int) := FK.ofN 10 6 fb2 (by decide) rfl (tyX2_ok 10 (by decide)) rfl rfl q296
theorem fk_X3_165 : FK "AlgebraHouse$Parser" 165 2 15 6 true (.array .long) := FK.ofN 15 6 fb2 (by decide) rfl (tyX2_ok 15 (by decide)) rfl rfl q312
theorem fk_X3_166 : FK "AlgebraHouse$Parser" 166 2 8 6 true (.array .int) := FK.ofN 8 6 fb2 (by decide) rfl (tyX2_ok 8 (by decide)) rfl rfl q288
theorem fk_X3_175 : FK "AlgebraHouse$Parser" 175 2 9 6 true (.array .int) := FK.ofN 9 6 fb2 (by decide) rfl (tyX2_ok 9 (by decide)) rfl rfl q292
theorem fk_X3_212 : FK "AlgebraHouse$Parser" 212 2 7 6 true (.array .int) := FK.ofN 7 6 fb2 (by decide) rfl (tyX2_ok 7 (by decide)) rfl rfl q284
theorem ly_1 : lyA 1 = some (.inr 0) := by decide +kernel
theorem ly_2 : lyA 2 = some (.inl (2, 400)) := by decide +kernel
theorem ly_3 : lyA 3 = some (.inr 1) := by decide +kernel
theorem ly_4 : lyA 4 = some (.inl (4, 21)) := by decide +kernel
theorem ly_5 : lyA 5 = some (.inl (1, 20)) := by decide +kernel
theorem ly_6 : lyA 6 = some (.inl (0, 20)) := by decide +kernel
theorem ly_7 : lyA 7 = some (.inl (0, 200)) := by decide +kernel
theorem ly_365 : lyA 365 = some (.inr 3) := by decide +kernel
theorem ly_366 : lyA 366 = some (.inr 4) := by decide +kernel
theorem ly_367 : lyA 367 = some (.inl (2, 400)) := by decide +kernel
theorem ly_368 : lyA 368 = some (.inl (0, 401)) := by decide +kernel
theorem ly_369 : lyA 369 = some (.inl (0, 401)) := by decide +kernel
theorem ly_370 : lyA 370 = some (.inl (0, 401)) := by decide +kernel
theorem ly_371 : lyA 371 = some (.inl (1, 401)) := by decide +kernel
theorem ly_372 : lyA 372 = some (.inr 5) := by decide +kernel
theorem ly_373 : lyA 373 = some (.inl (0, 3)) := by decide +kernel
theorem ly_374 : lyA 374 = some (.inl (0, 176400)) := by decide +kernel
theorem ly_375 : lyA 375 = some (.inl (0, 17640)) := by decide +kernel
theorem ly_376 : lyA 376 = some (.inr 6) := by decide +kernel
theorem ly_377 : lyA 377 = some (.inr 7) := by decide +kernel
theorem ly_378 : lyA 378 = some (.inr 8) := by decide +kernel
theorem ly_379 : lyA 379 = some (.inl (0, 1159540)) := by decide +kernel
theorem ly_380 : lyA 380 = some (.inl (5, 48)) := by decide +kernel
theorem ly_381 : lyA 381 = some (.inl (0, 1701)) := by decide +kernel
theorem ly_382 : lyA 382 = some (.inl (0, 21)) := by decide +kernel
theorem ly_383 : lyA 383 = some (.inl (0, 21)) := by decide +kernel
theorem ly_384 : lyA 384 = some (.inl (0, 21)) := by decide +kernel
theorem ly_385 : lyA 385 = some (.inl (0, 21)) := by decide +kernel
theorem ly_386 : lyA 386 = some (.inl (0, 7)) := by decide +kernel
theorem ly_387 : lyA 387 = some (.inl (0, 7)) := by decide +kernel
theorem ly_388 : lyA 388 = some (.inl (0, 14)) := by decide +kernel
theorem ly_581 : lyA 581 = some (.inl (0, 3)) := by decide +kernel
theorem ly_582 : lyA 582 = some (.inr 10) := by decide +kernel
theorem ly_583 : lyA 583 = some (.inl (1, 21)) := by decide +kernel
theorem ly_584 : lyA 584 = some (.inl (1, 14)) := by decide +kernel
theorem ly_585 : lyA 585 = some (.inl (0, 400)) := by decide +kernel
theorem ly_586 : lyA 586 = some (.inl (0, 400)) := by decide +kernel
theorem ly_587 : lyA 587 = some (.inl (0, 420)) := by decide +kernel
theorem ly_588 : lyA 588 = some (.inl (0, 420)) := by decide +kernel
theorem ly_589 : lyA 589 = some (.inl (1, 420)) := by decide +kernel
theorem ly_590 : lyA 590 = some (.inl (0, 12000)) := by decide +kernel
theorem ly_591 : lyA 591 = some (.inl (0, 12000)) := by decide +kernel
theorem ly_592 : lyA 592 = some (.inl (0, 12000)) := by decide +kernel
theorem ly_593 : lyA 593 = some (.inl (0, 12000)) := by decide +kernel
theorem ly_594 : lyA 594 = some (.inl (0, 12000)) := by decide +kernel
theorem ly_595 : lyA 595 = some (.inl (0, 12000)) := by decide +kernel
theorem ly_596 : lyA 596 = some (.inl (0, 12000)) := by decide +kernel
theorem ly_597 : lyA 597 = some (.inl (0, 12000)) := by decide +kernel
theorem ly_598 : lyA 598 = some (.inl (0, 12000)) := by decide +kernel
theorem ly_599 : lyA 599 = some (.inl (0, 12000)) := by decide +kernel
theorem ly_600 : lyA 600 = some (.inl (0, 12000)) := by decide +kernel
theorem ly_601 : lyA 601 = some (.inl (0, 12000)) := by decide +kernel
theorem ly_602 : lyA 602 = some (.inl (0, 12000)) := by decide +kernel
theorem ly_603 : lyA 603 = some (.inl (0, 12000)) := by decide +kernel
theorem ly_604 : lyA 604 = some (.inl (3, 12000)) := by decide +kernel
theorem ly_605 : lyA 605 = some (.inl (1, 12000)) := by decide +kernel
theorem ly_606 : lyA 606 = some (.inl (1, 21)) := by decide +kernel
theorem ly_607 : lyA 607 = some (.inl (1, 20)) := by decide +kernel
theorem ly_608 : lyA 608 = some (.inl (1, 63)) := by decide +kernel
theorem ly_609 : lyA 609 = some (.inl (0, 21)) := by decide +kernel
theorem ly_610 : lyA 610 = some (.inl (0, 21)) := by decide +kernel
theorem ly_611 : lyA 611 = some (.inl (0, 21)) := by decide +kernel
theorem ly_612 : lyA 612 = some (.inl (0, 21)) := by decide +kernel
theorem ly_613 : lyA 613 = some (.inl (0, 21)) := by decide +kernel
theorem ly_614 : lyA 614 = some (.inl (0, 21)) := by decide +kernel
theorem ly_615 : lyA 615 = some (.inl (0, 63)) := by decide +kernel
theorem ly_616 : lyA 616 = some (.inl (0, 63)) := by decide +kernel
theorem ly_617 : lyA 617 = some (.inl (0, 63)) := by decide +kernel
theorem ly_618 : lyA 618 = some (.inl (0, 21)) := by decide +kernel
theorem ly_619 : lyA 619 = some (.inl (0, 21)) := by decide +kernel
theorem ly_620 : lyA 620 = some (.inl (0, 21)) := by decide +kernel
theorem ly_621 : lyA 621 = some (.inl (3, 21)) := by decide +kernel
theorem ly_622 : lyA 622 = some (.inl (3, 63)) := by decide +kernel
theorem ly_623 : lyA 623 = some (.inl (0, 20)) := by decide +kernel
theorem ly_624 : lyA 624 = some (.inl (0, 20)) := by decide +kernel
theorem ly_625 : lyA 625 = some (.inl (0, 20)) := by decide +kernel
theorem ly_626 : lyA 626 = some (.inl (0, 200)) := by decide +kernel
theorem ly_627 : lyA 627 = some (.inl (0, 200)) := by decide +kernel
theorem ly_628 : lyA 628 = some (.inl (0, 200)) := by decide +kernel
theorem ly_629 : lyA 629 = some (.inl (1, 176400)) := by decide +kernel
theorem ly_630 : lyA 630 = some (.inl (1, 17640)) := by decide +kernel
theorem ly_631 : lyA 631 = some (.inl (0, 5000)) := by decide +kernel
theorem ly_632 : lyA 632 = some (.inl (0, 3)) := by decide +kernel
theorem ly_633 : lyA 633 = some (.inl (0, 3)) := by decide +kernel
theorem ly_634 : lyA 634 = some (.inl (0, 3)) := by decide +kernel
theorem ly_635 : lyA 635 = some (.inl (1, 1600000)) := by decide +kernel
theorem ly_636 : lyA 636 = some (.inl (0, 12000)) := by decide +kernel
theorem ly_637 : lyA 637 = some (.inl (0, 12000)) := by decide +kernel
theorem ly_638 : lyA 638 = some (.inl (0, 12000)) := by decide +kernel
theorem ly_639 : lyA 639 = some (.inl (0, 12000)) := by decide +kernel
theorem ly_640 : lyA 640 = some (.inl (0, 12000)) := by decide +kernel
theorem ly_641 : lyA 641 = some (.inl (0, 21)) := by decide +kernel
theorem ly_642 : lyA 642 = some (.inl (0, 21)) := by decide +kernel
theorem ly_643 : lyA 643 = some (.inl (0, 21)) := by decide +kernel
theorem ly_644 : lyA 644 = some (.inl (0, 21)) := by decide +kernel
theorem ly_645 : lyA 645 = some (.inl (0, 21)) := by decide +kernel
theorem ly_646 : lyA 646 = some (.inl (0, 21)) := by decide +kernel
theorem ly_647 : lyA 647 = some (.inl (0, 21)) := by decide +kernel
theorem ly_648 : lyA 648 = some (.inl (1, 7)) := by decide +kernel
theorem ly_649 : lyA 649 = some (.inl (1, 7)) := by decide +kernel
theorem ly_650 : lyA 650 = some (.inl (1, 14)) := by decide +kernel
theorem ly_651 : lyA 651 = some (.inl (0, 3)) := by decide +kernel
theorem ly_652 : lyA 652 = some (.inl (0, 3)) := by decide +kernel
theorem gg_1_0 : GG 1 0 = 2 := by decide +kernel
theorem gg_1_2 : GG 1 2 = 3 := by decide +kernel
theorem gg_1_3 : GG 1 3 = 365 := by decide +kernel
theorem gg_1_4 : GG 1 4 = 372 := by decide +kernel
theorem gg_1_5 : GG 1 5 = 374 := by decide +kernel
theorem gg_1_6 : GG 1 6 = 375 := by decide +kernel
theorem gg_1_7 : GG 1 7 = 376 := by decide +kernel
theorem gg_1_8 : GG 1 8 = 581 := by decide +kernel
theorem gg_3_0 : GG 3 0 = 4 := by decide +kernel
theorem gg_3_4 : GG 3 4 = 5 := by decide +kernel
theorem gg_3_5 : GG 3 5 = 6 := by decide +kernel
theorem gg_3_6 : GG 3 6 = 7 := by decide +kernel
theorem gg_365_0 : GG 365 0 = 366 := by decide +kernel
theorem gg_366_0 : GG 366 0 = 367 := by decide +kernel
theorem gg_366_3 : GG 366 3 = 368 := by decide +kernel
theorem gg_366_4 : GG 366 4 = 369 := by decide +kernel
theorem gg_366_5 : GG 366 5 = 370 := by decide +kernel
theorem gg_366_6 : GG 366 6 = 371 := by decide +kernel
theorem gg_372_0 : GG 372 0 = 3 := by decide +kernel
theorem gg_372_7 : GG 372 7 = 373 := by decide +kernel
theorem gg_376_0 : GG 376 0 = 3 := by decide +kernel
theorem gg_376_1 : GG 376 1 = 372 := by decide +kernel
theorem gg_376_2 : GG 376 2 = 377 := by decide +kernel
theorem gg_376_3 : GG 376 3 = 378 := by decide +kernel
theorem gg_376_4 : GG 376 4 = 379 := by decide +kernel
theorem gg_376_5 : GG 376 5 = 380 := by decide +kernel
theorem gg_376_7 : GG 376 7 = 381 := by decide +kernel
theorem gg_376_9 : GG 376 9 = 382 := by decide +kernel
theorem gg_376_10 : GG 376 10 = 383 := by decide +kernel
theorem gg_376_11 : GG 376 11 = 384 := by decide +kernel
theorem gg_376_12 : GG 376 12 = 385 := by decide +kernel
theorem gg_376_21 : GG 376 21 = 388 := by decide +kernel
theorem gg_378_0 : GG 378 0 = 379 := by decide +kernel
theorem gg_582_0 : GG 582 0 = 583 := by decide +kernel
theorem gg_582_1 : GG 582 1 = 584 := by decide +kernel
theorem gg_582_2 : GG 582 2 = 585 := by decide +kernel
theorem gg_582_3 : GG 582 3 = 586 := by decide +kernel
theorem gg_582_5 : GG 582 5 = 587 := by decide +kernel
theorem gg_582_6 : GG 582 6 = 588 := by decide +kernel
theorem gg_582_7 : GG 582 7 = 589 := by decide +kernel
theorem gg_582_16 : GG 582 16 = 590 := by decide +kernel
theorem gg_582_17 : GG 582 17 = 591 := by decide +kernel
theorem gg_582_18 : GG 582 18 = 592 := by decide +kernel
theorem gg_582_19 : GG 582 19 = 593 := by decide +kernel
theorem gg_582_20 : GG 582 20 = 594 := by decide +kernel
theorem gg_582_21 : GG 582 21 = 595 := by decide +kernel
theorem gg_582_22 : GG 582 22 = 596 := by decide +kernel
theorem gg_582_23 : GG 582 23 = 597 := by decide +kernel
theorem gg_582_24 : GG 582 24 = 598 := by decide +kernel
theorem gg_582_25 : GG 582 25 = 599 := by decide +kernel
theorem gg_582_26 : GG 582 26 = 600 := by decide +kernel
theorem gg_582_27 : GG 582 27 = 601 := by decide +kernel
theorem gg_582_28 : GG 582 28 = 602 := by decide +kernel
theorem gg_582_29 : GG 582 29 = 603 := by decide +kernel
theorem gg_582_30 : GG 582 30 = 604 := by decide +kernel
theorem gg_582_31 : GG 582 31 = 605 := by decide +kernel
theorem gg_582_35 : GG 582 35 = 606 := by decide +kernel
theorem gg_582_36 : GG 582 36 = 607 := by decide +kernel
theorem gg_582_37 : GG 582 37 = 608 := by decide +kernel
theorem gg_582_38 : GG 582 38 = 609 := by decide +kernel
theorem gg_582_39 : GG 582 39 = 610 := by decide +kernel
theorem gg_582_40 : GG 582 40 = 611 := by decide +kernel
theorem gg_582_41 : GG 582 41 = 612 := by decide +kernel
theorem gg_582_42 : GG 582 42 = 613 := by decide +kernel
theorem gg_582_43 : GG 582 43 = 614 := by decide +kernel
theorem gg_582_44 : GG 582 44 = 615 := by decide +kernel
theorem gg_582_45 : GG 582 45 = 616 := by decide +kernel
theorem gg_582_46 : GG 582 46 = 617 := by decide +kernel
theorem gg_582_47 : GG 582 47 = 618 := by decide +kernel
theorem gg_582_48 : GG 582 48 = 619 := by decide +kernel
theorem gg_582_49 : GG 582 49 = 620 := by decide +kernel
theorem gg_582_50 : GG 582 50 = 621 := by decide +kernel
theorem gg_582_51 : GG 582 51 = 622 := by decide +kernel
theorem gg_582_52 : GG 582 52 = 623 := by decide +kernel
theorem gg_582_53 : GG 582 53 = 624 := by decide +kernel
theorem gg_582_54 : GG 582 54 = 625 := by decide +kernel
theorem gg_582_55 : GG 582 55 = 626 := by decide +kernel
theorem gg_582_56 : GG 582 56 = 627 := by decide +kernel
theorem gg_582_57 : GG 582 57 = 628 := by decide +kernel
theorem gg_582_58 : GG 582 58 = 629 := by decide +kernel
theorem gg_582_59 : GG 582 59 = 630 := by decide +kernel
theorem gg_582_69 : GG 582 69 = 631 := by decide +kernel
theorem gg_582_78 : GG 582 78 = 632 := by decide +kernel
theorem gg_582_79 : GG 582 79 = 633 := by decide +kernel
theorem gg_582_80 : GG 582 80 = 634 := by decide +kernel
theorem gg_582_85 : GG 582 85 = 635 := by decide +kernel
theorem gg_582_94 : GG 582 94 = 636 := by decide +kernel
theorem gg_582_95 : GG 582 95 = 637 := by decide +kernel
theorem gg_582_96 : GG 582 96 = 638 := by decide +kernel
theorem gg_582_97 : GG 582 97 = 639 := by decide +kernel
theorem gg_582_98 : GG 582 98 = 640 := by decide +kernel
theorem gg_582_100 : GG 582 100 = 641 := by decide +kernel
theorem gg_582_101 : GG 582 101 = 642 := by decide +kernel
theorem gg_582_102 : GG 582 102 = 643 := by decide +kernel
theorem gg_582_103 : GG 582 103 = 644 := by decide +kernel
theorem gg_582_104 : GG 582 104 = 645 := by decide +kernel
theorem gg_582_105 : GG 582 105 = 646 := by decide +kernel
theorem gg_582_106 : GG 582 106 = 647 := by decide +kernel
theorem gg_582_107 : GG 582 107 = 648 := by decide +kernel
theorem gg_582_108 : GG 582 108 = 649 := by decide +kernel
theorem gg_582_109 : GG 582 109 = 650 := by decide +kernel
theorem gg_582_114 : GG 582 114 = 651 := by decide +kernel
theorem gg_582_115 : GG 582 115 = 652 := by decide +kernel
def isTx (x : Int) : Prop := 8 ≤ x ∧ x < 365 ∧ (x - 8) % 17 = 0
def isCd (x : Int) : Prop := 389 ≤ x ∧ x < 581 ∧ (x - 389) % 4 = 0
theorem isTx.ex {x : Int} (h : isTx x) : ∃ k : Nat, k < 21 ∧ x = 8 + 17 * (k : Int) := ⟨((x - 8) / 17).toNat, by obtain ⟨h1, h2, h3⟩ := h; omega, by obtain ⟨h1, h2, h3⟩ := h; omega⟩
theorem isCd.ex {x : Int} (h : isCd x) : ∃ k : Nat, k < 48 ∧ x = 389 + 4 * (k : Int) := ⟨((x - 389) / 4).toNat, by obtain ⟨h1, h2, h3⟩ := h; omega, by obtain ⟨h1, h2, h3⟩ := h; omega⟩
theorem isTx.of (k : Nat) (h : k < 21) : isTx (8 + 17 * (k : Int)) := by unfold isTx; omega
theorem isCd.of (k : Nat) (h : k < 48) : isCd (389 + 4 * (k : Int)) := by unfold isCd; omega
theorem gg_told (i : Int) : GG 4 i = 8 + 17 * i := by simp [GG]
theorem gg_codes (i : Int) : GG 380 i = 389 + 4 * i := by simp [GG]
theorem tx_ly0 {x : Int} (h : isTx x) : lyA x = some (.inr 2) := by
  obtain ⟨k, hk, rfl⟩ := h.ex
  have : ∀ k : Nat, k < 21 → lyA (8 + 17 * (k : Int)) = some (.inr 2) := by decide +kernel
  exact this k hk
theorem tx_ly1 {x : Int} (h : isTx x) : lyA (x + 1) = some (.inl (0, 160)) := by
  obtain ⟨k, hk, rfl⟩ := h.ex
  have : ∀ k : Nat, k < 21 → lyA (8 + 17 * (k : Int) + 1) = some (.inl (0, 160)) := by decide +kernel
  exact this k hk
theorem tx_gg7 {x : Int} (h : isTx x) : GG x 7 = x + 1 := by
  obtain ⟨k, hk, rfl⟩ := h.ex
  have : ∀ k : Nat, k < 21 → GG (8 + 17 * (k : Int)) 7 = 8 + 17 * (k : Int) + 1 := by decide +kernel
  exact this k hk
theorem tx_ly2 {x : Int} (h : isTx x) : lyA (x + 2) = some (.inl (0, 160)) := by
  obtain ⟨k, hk, rfl⟩ := h.ex
  have : ∀ k : Nat, k < 21 → lyA (8 + 17 * (k : Int) + 2) = some (.inl (0, 160)) := by decide +kernel
  exact this k hk
theorem tx_gg8 {x : Int} (h : isTx x) : GG x 8 = x + 2 := by
  obtain ⟨k, hk, rfl⟩ := h.ex
  have : ∀ k : Nat, k < 21 → GG (8 + 17 * (k : Int)) 8 = 8 + 17 * (k : Int) + 2 := by decide +kernel
  exact this k hk
theorem tx_ly3 {x : Int} (h : isTx x) : lyA (x + 3) = some (.inl (0, 160)) := by
  obtain ⟨k, hk, rfl⟩ := h.ex
  have : ∀ k : Nat, k < 21 → lyA (8 + 17 * (k : Int) + 3) = some (.inl (0, 160)) := by decide +kernel
  exact this k hk
theorem tx_gg9 {x : Int} (h : isTx x) : GG x 9 = x + 3 := by
  obtain ⟨k, hk, rfl⟩ := h.ex
  have : ∀ k : Nat, k < 21 → GG (8 + 17 * (k : Int)) 9 = 8 + 17 * (k : Int) + 3 := by decide +kernel
  exact this k hk
theorem tx_ly4 {x : Int} (h : isTx x) : lyA (x + 4) = some (.inl (0, 160)) := by
  obtain ⟨k, hk, rfl⟩ := h.ex
  have : ∀ k : Nat, k < 21 → lyA (8 + 17 * (k : Int) + 4) = some (.inl (0, 160)) := by decide +kernel
  exact this k hk
theorem tx_gg10 {x : Int} (h : isTx x) : GG x 10 = x + 4 := by
  obtain ⟨k, hk, rfl⟩ := h.ex
  have : ∀ k : Nat, k < 21 → GG (8 + 17 * (k : Int)) 10 = 8 + 17 * (k : Int) + 4 := by decide +kernel
  exact this k hk
theorem tx_ly5 {x : Int} (h : isTx x) : lyA (x + 5) = some (.inl (0, 160)) := by
  obtain ⟨k, hk, rfl⟩ := h.ex
  have : ∀ k : Nat, k < 21 → lyA (8 + 17 * (k : Int) + 5) = some (.inl (0, 160)) := by decide +kernel
  exact this k hk
theorem tx_gg11 {x : Int} (h : isTx x) : GG x 11 = x + 5 := by
  obtain ⟨k, hk, rfl⟩ := h.ex
  have : ∀ k : Nat, k < 21 → GG (8 + 17 * (k : Int)) 11 = 8 + 17 * (k : Int) + 5 := by decide +kernel
  exact this k hk
theorem tx_ly6 {x : Int} (h : isTx x) : lyA (x + 6) = some (.inl (0, 160)) := by
  obtain ⟨k, hk, rfl⟩ := h.ex
  have : ∀ k : Nat, k < 21 → lyA (8 + 17 * (k : Int) + 6) = some (.inl (0, 160)) := by decide +kernel
  exact this k hk
theorem tx_gg12 {x : Int} (h : isTx x) : GG x 12 = x + 6 := by
  obtain ⟨k, hk, rfl⟩ := h.ex
  have : ∀ k : Nat, k < 21 → GG (8 + 17 * (k : Int)) 12 = 8 + 17 * (k : Int) + 6 := by decide +kernel
  exact this k hk
theorem tx_ly7 {x : Int} (h : isTx x) : lyA (x + 7) = some (.inl (0, 160)) := by
  obtain ⟨k, hk, rfl⟩ := h.ex
  have : ∀ k : Nat, k < 21 → lyA (8 + 17 * (k : Int) + 7) = some (.inl (0, 160)) := by decide +kernel
  exact this k hk
theorem tx_gg13 {x : Int} (h : isTx x) : GG x 13 = x + 7 := by
  obtain ⟨k, hk, rfl⟩ := h.ex
  have : ∀ k : Nat, k < 21 → GG (8 + 17 * (k : Int)) 13 = 8 + 17 * (k : Int) + 7 := by decide +kernel
  exact this k hk
theorem tx_ly8 {x : Int} (h : isTx x) : lyA (x + 8) = some (.inl (0, 160)) := by
  obtain ⟨k, hk, rfl⟩ := h.ex
  have : ∀ k : Nat, k < 21 → lyA (8 + 17 * (k : Int) + 8) = some (.inl (0, 160)) := by decide +kernel
  exact this k hk
theorem tx_gg14 {x : Int} (h : isTx x) : GG x 14 = x + 8 := by
  obtain ⟨k, hk, rfl⟩ := h.ex
  have : ∀ k : Nat, k < 21 → GG (8 + 17 * (k : Int)) 14 = 8 + 17 * (k : Int) + 8 := by decide +kernel
  exact this k hk
theorem tx_ly9 {x : Int} (h : isTx x) : lyA (x + 9) = some (.inl (1, 160)) := by
  obtain ⟨k, hk, rfl⟩ := h.ex
  have : ∀ k : Nat, k < 21 → lyA (8 + 17 * (k : Int) + 9) = some (.inl (1, 160)) := by decide +kernel
  exact this k hk
theorem tx_gg15 {x : Int} (h : isTx x) : GG x 15 = x + 9 := by
  obtain ⟨k, hk, rfl⟩ := h.ex
  have : ∀ k : Nat, k < 21 → GG (8 + 17 * (k : Int)) 15 = 8 + 17 * (k : Int) + 9 := by decide +kernel
  exact this k hk
theorem tx_ly10 {x : Int} (h : isTx x) : lyA (x + 10) = some (.inl (1, 3)) := by
  obtain ⟨k, hk, rfl⟩ := h.ex
  have : ∀ k : Nat, k < 21 → lyA (8 + 17 * (k : Int) + 10) = some (.inl (1, 3)) := by decide +kernel
  exact this k hk
theorem tx_gg17 {x : Int} (h : isTx x) : GG x 17 = x + 10 := by
  obtain ⟨k, hk, rfl⟩ := h.ex
  have : ∀ k : Nat, k < 21 → GG (8 + 17 * (k : Int)) 17 = 8 + 17 * (k : Int) + 10 := by decide +kernel
  exact this k hk
theorem tx_ly11 {x : Int} (h : isTx x) : lyA (x + 11) = some (.inl (0, 3)) := by
  obtain ⟨k, hk, rfl⟩ := h.ex
  have : ∀ k : Nat, k < 21 → lyA (8 + 17 * (k : Int) + 11) = some (.inl (0, 3)) := by decide +kernel
  exact this k hk
theorem tx_gg18 {x : Int} (h : isTx x) : GG x 18 = x + 11 := by
  obtain ⟨k, hk, rfl⟩ := h.ex
  have : ∀ k : Nat, k < 21 → GG (8 + 17 * (k : Int)) 18 = 8 + 17 * (k : Int) + 11 := by decide +kernel
  exact this k hk
theorem tx_ly12 {x : Int} (h : isTx x) : lyA (x + 12) = some (.inl (0, 3)) := by
  obtain ⟨k, hk, rfl⟩ := h.ex
  have : ∀ k : Nat, k < 21 → lyA (8 + 17 * (k : Int) + 12) = some (.inl (0, 3)) := by decide +kernel
  exact this k hk
theorem tx_gg19 {x : Int} (h : isTx x) : GG x 19 = x + 12 := by
  obtain ⟨k, hk, rfl⟩ := h.ex
  have : ∀ k : Nat, k < 21 → GG (8 + 17 * (k : Int)) 19 = 8 + 17 * (k : Int) + 12 := by decide +kernel
  exact this k hk
theorem tx_ly13 {x : Int} (h : isTx x) : lyA (x + 13) = some (.inl (3, 4)) := by
  obtain ⟨k, hk, rfl⟩ := h.ex
  have : ∀ k : Nat, k < 21 → lyA (8 + 17 * (k : Int) + 13) = some (.inl (3, 4)) := by decide +kernel
  exact this k hk
theorem tx_gg23 {x : Int} (h : isTx x) : GG x 23 = x + 13 := by
  obtain ⟨k, hk, rfl⟩ := h.ex
  have : ∀ k : Nat, k < 21 → GG (8 + 17 * (k : Int)) 23 = 8 + 17 * (k : Int) + 13 := by decide +kernel
  exact this k hk
theorem tx_ly14 {x : Int} (h : isTx x) : lyA (x + 14) = some (.inl (0, 4)) := by
  obtain ⟨k, hk, rfl⟩ := h.ex
  have : ∀ k : Nat, k < 21 → lyA (8 + 17 * (k : Int) + 14) = some (.inl (0, 4)) := by decide +kernel
  exact this k hk
theorem tx_gg24 {x : Int} (h : isTx x) : GG x 24 = x + 14 := by
  obtain ⟨k, hk, rfl⟩ := h.ex
  have : ∀ k : Nat, k < 21 → GG (8 + 17 * (k : Int)) 24 = 8 + 17 * (k : Int) + 14 := by decide +kernel
  exact this k hk
theorem tx_ly15 {x : Int} (h : isTx x) : lyA (x + 15) = some (.inl (0, 4)) := by
  obtain ⟨k, hk, rfl⟩ := h.ex
  have : ∀ k : Nat, k < 21 → lyA (8 + 17 * (k : Int) + 15) = some (.inl (0, 4)) := by decide +kernel
  exact this k hk
theorem tx_gg25 {x : Int} (h : isTx x) : GG x 25 = x + 15 := by
  obtain ⟨k, hk, rfl⟩ := h.ex
  have : ∀ k : Nat, k < 21 → GG (8 + 17 * (k : Int)) 25 = 8 + 17 * (k : Int) + 15 := by decide +kernel
  exact this k hk
theorem tx_ly16 {x : Int} (h : isTx x) : lyA (x + 16) = some (.inl (0, 4)) := by
  obtain ⟨k, hk, rfl⟩ := h.ex
  have : ∀ k : Nat, k < 21 → lyA (8 + 17 * (k : Int) + 16) = some (.inl (0, 4)) := by decide +kernel
  exact this k hk
theorem tx_gg26 {x : Int} (h : isTx x) : GG x 26 = x + 16 := by
  obtain ⟨k, hk, rfl⟩ := h.ex
  have : ∀ k : Nat, k < 21 → GG (8 + 17 * (k : Int)) 26 = 8 + 17 * (k : Int) + 16 := by decide +kernel
  exact this k hk
theorem cd_ly0 {x : Int} (h : isCd x) : lyA x = some (.inr 9) := by
  obtain ⟨k, hk, rfl⟩ := h.ex
  have : ∀ k : Nat, k < 48 → lyA (389 + 4 * (k : Int)) = some (.inr 9) := by decide +kernel
  exact this k hk
theorem cd_ly1 {x : Int} (h : isCd x) : lyA (x + 1) = some (.inl (0, 1200)) := by
  obtain ⟨k, hk, rfl⟩ := h.ex
  have : ∀ k : Nat, k < 48 → lyA (389 + 4 * (k : Int) + 1) = some (.inl (0, 1200)) := by decide +kernel
  exact this k hk
theorem cd_gg0 {x : Int} (h : isCd x) : GG x 0 = x + 1 := by
  obtain ⟨k, hk, rfl⟩ := h.ex
  have : ∀ k : Nat, k < 48 → GG (389 + 4 * (k : Int)) 0 = 389 + 4 * (k : Int) + 1 := by decide +kernel
  exact this k hk
theorem cd_ly2 {x : Int} (h : isCd x) : lyA (x + 2) = some (.inl (0, 1200)) := by
  obtain ⟨k, hk, rfl⟩ := h.ex
  have : ∀ k : Nat, k < 48 → lyA (389 + 4 * (k : Int) + 2) = some (.inl (0, 1200)) := by decide +kernel
  exact this k hk
theorem cd_gg1 {x : Int} (h : isCd x) : GG x 1 = x + 2 := by
  obtain ⟨k, hk, rfl⟩ := h.ex
  have : ∀ k : Nat, k < 48 → GG (389 + 4 * (k : Int)) 1 = 389 + 4 * (k : Int) + 2 := by decide +kernel
  exact this k hk
theorem cd_ly3 {x : Int} (h : isCd x) : lyA (x + 3) = some (.inl (0, 1200)) := by
  obtain ⟨k, hk, rfl⟩ := h.ex
  have : ∀ k : Nat, k < 48 → lyA (389 + 4 * (k : Int) + 3) = some (.inl (0, 1200)) := by decide +kernel
  exact this k hk
theorem cd_gg2 {x : Int} (h : isCd x) : GG x 2 = x + 3 := by
  obtain ⟨k, hk, rfl⟩ := h.ex
  have : ∀ k : Nat, k < 48 → GG (389 + 4 * (k : Int)) 2 = 389 + 4 * (k : Int) + 3 := by decide +kernel
  exact this k hk
