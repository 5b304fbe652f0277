/-! THE METHODS (written by wip/gen/sndtab.py) -/
set_option maxRecDepth 100000
def iJ0_numberOfLeadingZeros : gMI := (yJ0_numberOfLeadingZeros, cJ0_numberOfLeadingZeros, some .int, 2, [], 0, 0)
def iJ0_compareUnsigned : gMI := (yJ0_compareUnsigned, cJ0_compareUnsigned, some .int, 2, [], 1, 21)
def iJ0_compare : gMI := (yJ0_compare, cJ0_compare, some .int, 2, [], 0, 0)
def iJ0_bitCount : gMI := (yJ0_bitCount, cJ0_bitCount, some .int, 1, [], 0, 0)
def iJ0_toUnsignedLong : gMI := (yJ0_toUnsignedLong, cJ0_toUnsignedLong, some .long, 1, [], 0, 0)
def iJ0_stringSize : gMI := (yJ0_stringSize, cJ0_stringSize, some .int, 4, [], 0, 0)
def iJ0_getChars : gMI := (yJ0_getChars, cJ0_getChars, some .int, 7, [], 0, 0)
def iJ1_min : gMI := (yJ1_min, cJ1_min, some .int, 2, [], 0, 0)
def iJ1_min_2 : gMI := (yJ1_min_2, cJ1_min_2, some .long, 4, [], 0, 0)
def iJ1_max : gMI := (yJ1_max, cJ1_max, some .int, 2, [], 0, 0)
def iJ1_max_2 : gMI := (yJ1_max_2, cJ1_max_2, some .long, 4, [], 0, 0)
def iJ1_abs : gMI := (yJ1_abs, cJ1_abs, some .int, 1, [], 0, 0)
def iJ10_checkFromToIndex : gMI := (yJ10_checkFromToIndex, cJ10_checkFromToIndex, some .int, 4, [], 0, 0)
def iJ10_checkFromIndexSize : gMI := (yJ10_checkFromIndexSize, cJ10_checkFromIndexSize, some .int, 4, [], 0, 0)
def iJ10_checkIndex : gMI := (yJ10_checkIndex, cJ10_checkIndex, some .int, 3, [], 0, 0)
def iJ11_canEncode : gMI := (yJ11_canEncode, cJ11_canEncode, some .boolean, 1, [], 0, 0)
def iJ11_inflate : gMI := (yJ11_inflate, cJ11_inflate, none, 5, [], 0, 0)
def iJ11_charAt : gMI := (yJ11_charAt, cJ11_charAt, some .char, 2, [], 2, 43)
def iJ11_indexOf : gMI := (yJ11_indexOf, cJ11_indexOf, some .int, 4, [], 1, 25)
def iJ11_canEncode_2 : gMI := (yJ11_canEncode_2, cJ11_canEncode_2, some .boolean, 1, [], 0, 0)
def iJ11_indexOfChar : gMI := (yJ11_indexOfChar, cJ11_indexOfChar, some .int, 6, [], 0, 0)
def iJ12_isValidCodePoint : gMI := (yJ12_isValidCodePoint, cJ12_isValidCodePoint, some .boolean, 2, [], 0, 0)
def iJ12_highSurrogate : gMI := (yJ12_highSurrogate, cJ12_highSurrogate, some .char, 1, [], 0, 0)
def iJ12_lowSurrogate : gMI := (yJ12_lowSurrogate, cJ12_lowSurrogate, some .char, 1, [], 0, 0)
def iJ13_init : gMI := (yJ13_init, cJ13_init, none, 1, [], 3, 60)
def iJ14_init : gMI := (yJ14_init, cJ14_init, none, 1, [], 4, 80)
def iJ2_init : gMI := (yJ2_init, cJ2_init, none, 1, [], 1, 20)
def iJ2_init_2 : gMI := (yJ2_init_2, cJ2_init_2, none, 5, [], 1, 20)
def iJ3_init : gMI := (yJ3_init, cJ3_init, none, 5, [], 2, 44)
def iJ3_init_2 : gMI := (yJ3_init_2, cJ3_init_2, none, 1, [], 2, 40)
def iJ4_init : gMI := (yJ4_init, cJ4_init, none, 2, [], 1, 20)
def iJ4_append : gMI := (yJ4_append, cJ4_append, some (.object "java/lang/AbstractStringBuilder"), 4, [], 4, 124)
def iJ4_ensureCapacityInternal : gMI := (yJ4_ensureCapacityInternal, cJ4_ensureCapacityInternal, none, 3, [], 3, 102)
def iJ4_newCapacity : gMI := (yJ4_newCapacity, cJ4_newCapacity, some .int, 6, [], 2, 45)
def iJ4_isLatin1 : gMI := (yJ4_isLatin1, cJ4_isLatin1, some .boolean, 1, [], 0, 0)
def iJ4_append_2 : gMI := (yJ4_append_2, cJ4_append_2, some (.object "java/lang/AbstractStringBuilder"), 2, [], 4, 124)
def iJ4_inflate : gMI := (yJ4_inflate, cJ4_inflate, none, 2, [], 1, 24)
def iJ4_getValue : gMI := (yJ4_getValue, cJ4_getValue, some (.array .byte), 1, [], 0, 0)
def iJ4_length : gMI := (yJ4_length, cJ4_length, some .int, 1, [], 0, 0)
def iJ5_init : gMI := (yJ5_init, cJ5_init, none, 1, [], 2, 41)
def iJ5_append : gMI := (yJ5_append, cJ5_append, some (.object "java/lang/StringBuilder"), 2, [], 5, 147)
def iJ5_append_2 : gMI := (yJ5_append_2, cJ5_append_2, some (.object "java/lang/StringBuilder"), 2, [], 5, 145)
def iJ5_toString : gMI := (yJ5_toString, cJ5_toString, some (.object "java/lang/String"), 1, [], 5, 171)
def iJ5_length : gMI := (yJ5_length, cJ5_length, some .int, 1, [], 1, 20)
def iJ6_checkBoundsBeginEnd : gMI := (yJ6_checkBoundsBeginEnd, cJ6_checkBoundsBeginEnd, none, 3, [], 1, 23)
def iJ6_checkBoundsOffCount : gMI := (yJ6_checkBoundsOffCount, cJ6_checkBoundsOffCount, some .int, 3, [], 1, 23)
def iJ6_checkIndex : gMI := (yJ6_checkIndex, cJ6_checkIndex, none, 2, [], 1, 22)
def iJ6_charAt : gMI := (yJ6_charAt, cJ6_charAt, some .char, 2, [], 3, 64)
def iJ6_isLatin1 : gMI := (yJ6_isLatin1, cJ6_isLatin1, some .boolean, 1, [], 0, 0)
def iJ6_init : gMI := (yJ6_init, cJ6_init, none, 2, [], 4, 150)
def iJ6_init_2 : gMI := (yJ6_init_2, cJ6_init_2, none, 5, [], 3, 126)
def iJ6_length : gMI := (yJ6_length, cJ6_length, some .int, 1, [], 1, 20)
def iJ6_coder : gMI := (yJ6_coder, cJ6_coder, some .byte, 1, [], 0, 0)
def iJ6_indexOf : gMI := (yJ6_indexOf, cJ6_indexOf, some .int, 2, [], 3, 70)
def iJ6_indexOf_2 : gMI := (yJ6_indexOf_2, cJ6_indexOf_2, some .int, 3, [], 2, 48)
def iJ8_newLength : gMI := (yJ8_newLength, cJ8_newLength, some .int, 4, [], 1, 22)
def iJ8_hugeLength : gMI := (yJ8_hugeLength, cJ8_hugeLength, some .int, 3, [], 0, 0)
def iJ9_copyOf : gMI := (yJ9_copyOf, cJ9_copyOf, some (.array .byte), 3, [], 1, 80)
def iJ9_copyOfRange : gMI := (yJ9_copyOfRange, cJ9_copyOfRange, some (.array .byte), 3, [], 2, 104)
def iJ9_copyOfRangeByte : gMI := (yJ9_copyOfRangeByte, cJ9_copyOfRangeByte, some (.array .byte), 5, [], 1, 80)
def iJ9_checkLength : gMI := (yJ9_checkLength, cJ9_checkLength, none, 2, [], 0, 0)
def iL_law : gMI := (x, code, some .boolean, 8, [], 15, 9806)
def iX0_row : gMI := (yX0_row, cX0_row, some .int, 4, [(0, 8, 11, 13)], 9, 171)
def iX1_mixes : gMI := (yX1_mixes, cX1_mixes, some .boolean, 3, [], 0, 0)
def iX1_mark : gMI := (yX1_mark, cX1_mark, some .int, 2, [], 1, 21)
def iX1_markOf : gMI := (yX1_markOf, cX1_markOf, some .int, 2, [], 0, 0)
def iX1_place : gMI := (yX1_place, cX1_place, some .int, 3, [], 2, 48)
def iX1_isP : gMI := (yX1_isP, cX1_isP, some .boolean, 1, [], 1, 25)
def iX1_in : gMI := (yX1_in, cX1_in, some .boolean, 6, [], 0, 0)
def iX1_rankOf : gMI := (yX1_rankOf, cX1_rankOf, some .int, 2, [], 1, 21)
def iX1_notesRow : gMI := (yX1_notesRow, cX1_notesRow, none, 7, [], 1, 22)
def iX1_notes : gMI := (yX1_notes, cX1_notes, none, 3, [], 0, 0)
def iX1_placeOf : gMI := (yX1_placeOf, cX1_placeOf, some .int, 2, [], 0, 0)
def iX1_init : gMI := (yX1_init, cX1_init, none, 1, [], 3, 66)
def iX1_init_2 : gMI := (yX1_init_2, cX1_init_2, none, 4, [], 2, 43)
def iX1_lays : gMI := (yX1_lays, cX1_lays, none, 4, [], 0, 0)
def iX1_opens : gMI := (yX1_opens, cX1_opens, some .int, 4, [], 2, 50)
def iX1_are : gMI := (yX1_are, cX1_are, some .boolean, 6, [], 1, 25)
def iX1_adds : gMI := (yX1_adds, cX1_adds, some .int, 3, [], 4, 102)
def iX1_runs : gMI := (yX1_runs, cX1_runs, some .int, 7, [], 4, 102)
def iX1_sign : gMI := (yX1_sign, cX1_sign, some .int, 3, [], 0, 0)
def iX1_end : gMI := (yX1_end, cX1_end, some .boolean, 2, [], 1, 25)
def iX1_tells : gMI := (yX1_tells, cX1_tells, some .int, 4, [(4, 8, 11, 116)], 7, 152)
def iX1_begins : gMI := (yX1_begins, cX1_begins, none, 1, [], 0, 0)
def iX1_thingsTold : gMI := (yX1_thingsTold, cX1_thingsTold, none, 1, [], 6, 132)
def iX1_numberTold : gMI := (yX1_numberTold, cX1_numberTold, some .int, 4, [], 5, 109)
def iX1_takes : gMI := (yX1_takes, cX1_takes, some .boolean, 3, [], 0, 0)
def iX1_isDigit : gMI := (yX1_isDigit, cX1_isDigit, some .boolean, 1, [], 1, 25)
def iX1_must : gMI := (yX1_must, cX1_must, none, 2, [], 4, 88)
def iX1_wrong : gMI := (yX1_wrong, cX1_wrong, some .int, 1, [], 0, 0)
def iX1_replays : gMI := (yX1_replays, cX1_replays, some .int, 6, [(4, 8, 11, 116)], 7, 152)
def iX1_takes_2 : gMI := (yX1_takes_2, cX1_takes_2, some .int, 3, [], 4, 103)
def iX1_dense : gMI := (yX1_dense, cX1_dense, some .int, 2, [], 3, 62)
def iX1_filled : gMI := (yX1_filled, cX1_filled, some .int, 1, [], 2, 42)
def iX1_folds : gMI := (yX1_folds, cX1_folds, some .int, 3, [], 7, 3125)
def iX1_copies : gMI := (yX1_copies, cX1_copies, some .int, 3, [], 8, 3154)
def iX1_joined : gMI := (yX1_joined, cX1_joined, some (.object "DistinctMarks$Counter"), 10, [], 7, 3125)
def iX1_becomes : gMI := (yX1_becomes, cX1_becomes, some .int, 3, [], 5, 106)
def iX1_joins : gMI := (yX1_joins, cX1_joins, some .int, 4, [], 8, 3154)
def iX1_gathers : gMI := (yX1_gathers, cX1_gathers, some .int, 3, [], 8, 3154)
def iX1_isSet : gMI := (yX1_isSet, cX1_isSet, some .boolean, 1, [], 1, 25)
def iX1_those : gMI := (yX1_those, cX1_those, some (.array (.object "DistinctMarks$Counter")), 5, [], 1, 20)
def iX1_puts : gMI := (yX1_puts, cX1_puts, some .int, 9, [], 2, 50)
def iX1_rankIn : gMI := (yX1_rankIn, cX1_rankIn, some .int, 3, [], 0, 0)
def iX1_swaps : gMI := (yX1_swaps, cX1_swaps, some .int, 4, [], 5, 106)
def iX1_keeps : gMI := (yX1_keeps, cX1_keeps, some .int, 6, [], 6, 3080)
def iX1_lambda_keeps_0 : gMI := (yX1_lambda_keeps_0, cX1_lambda_keeps_0, some .boolean, 2, [], 3, 66)
def iX1_picked : gMI := (yX1_picked, cX1_picked, some (.object "DistinctMarks$Counter"), 7, [], 5, 118)
def iX1_less : gMI := (yX1_less, cX1_less, some .int, 6, [], 6, 3080)
def iX1_lambda_less_1 : gMI := (yX1_lambda_less_1, cX1_lambda_less_1, some .boolean, 2, [], 3, 66)
def iX1_splits : gMI := (yX1_splits, cX1_splits, some .int, 6, [], 6, 3080)
def iX1_lambda_splits_2 : gMI := (yX1_lambda_splits_2, cX1_lambda_splits_2, some .boolean, 1, [], 0, 0)
def iX1_lambda_splits_3 : gMI := (yX1_lambda_splits_3, cX1_lambda_splits_3, some .boolean, 1, [], 0, 0)
def iX1_guess : gMI := (yX1_guess, cX1_guess, some .int, 2, [], 5, 106)
def iX1_roughly : gMI := (yX1_roughly, cX1_roughly, some .int, 2, [], 4, 86)
def iX1_form : gMI := (yX1_form, cX1_form, some .int, 4, [], 2, 50)
def iX1_rank : gMI := (yX1_rank, cX1_rank, some .int, 3, [], 3, 72)
def iX1_isPlace : gMI := (yX1_isPlace, cX1_isPlace, some .boolean, 3, [], 2, 50)
def iX1_ranks : gMI := (yX1_ranks, cX1_ranks, some .int, 7, [], 2, 50)
def iX1_marked : gMI := (yX1_marked, cX1_marked, some .long, 3, [], 2, 50)
def iX1_may : gMI := (yX1_may, cX1_may, some .int, 3, [], 4, 87)
def iX1_first : gMI := (yX1_first, cX1_first, some .int, 6, [], 4, 87)
def iX1_bits : gMI := (yX1_bits, cX1_bits, some .long, 6, [], 2, 50)
def iX1_slice : gMI := (yX1_slice, cX1_slice, some .long, 5, [], 5, 3080)
def iX1_lambda_slice_4 : gMI := (yX1_lambda_slice_4, cX1_lambda_slice_4, none, 5, [], 0, 0)
def iX1_runsOf : gMI := (yX1_runsOf, cX1_runsOf, some .int, 8, [], 2, 50)
def iX1_gap : gMI := (yX1_gap, cX1_gap, some .int, 7, [], 2, 50)
def iX1_table : gMI := (yX1_table, cX1_table, some .int, 3, [], 2, 45)
def iX1_all : gMI := (yX1_all, cX1_all, some .long, 2, [], 2, 50)
def iX1_lacks : gMI := (yX1_lacks, cX1_lacks, some .int, 8, [], 3, 66)
def iX1_common : gMI := (yX1_common, cX1_common, some .long, 3, [], 10, 3197)
def iX1_guessOf : gMI := (yX1_guessOf, cX1_guessOf, some .int, 2, [], 8, 3154)
def iX1_commonOf : gMI := (yX1_commonOf, cX1_commonOf, some .long, 3, [], 9, 3175)
def iX1_alone : gMI := (yX1_alone, cX1_alone, some .long, 3, [], 9, 3175)
def iX1_alike : gMI := (yX1_alike, cX1_alike, some .int, 3, [], 11, 3220)
def iX1_alikeOf : gMI := (yX1_alikeOf, cX1_alikeOf, some .int, 4, [], 10, 3197)
def iX1_nearest : gMI := (yX1_nearest, cX1_nearest, some .int, 6, [], 11, 3220)
def iX1_meet : gMI := (yX1_meet, cX1_meet, some .long, 3, [], 12, 3251)
def iX1_lambda_meet_5 : gMI := (yX1_lambda_meet_5, cX1_lambda_meet_5, none, 4, [], 9, 3175)
def iX1_eachPart : gMI := (yX1_eachPart, cX1_eachPart, none, 3, [], 11, 3229)
def iX1_unlike : gMI := (yX1_unlike, cX1_unlike, some .int, 8, [], 8, 3147)
def iX1_foldedTo : gMI := (yX1_foldedTo, cX1_foldedTo, some (.object "DistinctMarks$Counter"), 3, [], 7, 3125)
def iX1_apart : gMI := (yX1_apart, cX1_apart, some .int, 10, [], 8, 3147)
def iX1_order : gMI := (yX1_order, cX1_order, some .int, 4, [], 5, 106)
def iX1_within : gMI := (yX1_within, cX1_within, some .int, 7, [], 8, 3154)
def iX1_cover : gMI := (yX1_cover, cX1_cover, some .int, 4, [], 12, 3251)
def iX1_lambda_cover_6 : gMI := (yX1_lambda_cover_6, cX1_lambda_cover_6, none, 4, [], 9, 3175)
def iX1_errs : gMI := (yX1_errs, cX1_errs, some .int, 10, [], 5, 106)
def iX1_areThings : gMI := (yX1_areThings, cX1_areThings, some .boolean, 2, [], 1, 25)
def iX1_empty : gMI := (yX1_empty, cX1_empty, some (.object "DistinctMarks$Counter"), 3, [], 2, 43)
def iX1_least : gMI := (yX1_least, cX1_least, some .int, 7, [], 6, 132)
def iX1_offBy : gMI := (yX1_offBy, cX1_offBy, some .int, 7, [], 5, 106)
def iX1_expects : gMI := (yX1_expects, cX1_expects, some .int, 5, [], 2, 45)
def iX1_things : gMI := (yX1_things, cX1_things, some .int, 5, [], 2, 45)
def iX1_would : gMI := (yX1_would, cX1_would, some .int, 8, [], 8, 3154)
def iX1_reaches : gMI := (yX1_reaches, cX1_reaches, some .int, 7, [], 8, 3154)
def iX1_over : gMI := (yX1_over, cX1_over, some .long, 8, [], 9, 3175)
def iX1_chain : gMI := (yX1_chain, cX1_chain, some .int, 7, [], 9, 3175)
def iX1_lessers : gMI := (yX1_lessers, cX1_lessers, some .int, 7, [], 8, 3147)
def iX1_lambda_lessers_7 : gMI := (yX1_lambda_lessers_7, cX1_lambda_lessers_7, none, 4, [], 1, 22)
def iX1_greedy : gMI := (yX1_greedy, cX1_greedy, some .int, 8, [], 9, 3175)
def iX1_written : gMI := (yX1_written, cX1_written, some .int, 4, [], 7, 215)
def iX1_write : gMI := (yX1_write, cX1_write, some (.object "java/lang/String"), 5, [], 6, 191)
def iX1_reads : gMI := (yX1_reads, cX1_reads, some .int, 5, [(4, 186, 187, 116)], 7, 154)
def iX1_signTold : gMI := (yX1_signTold, cX1_signTold, some .int, 3, [], 5, 109)
def iX1_limitTold : gMI := (yX1_limitTold, cX1_limitTold, some .int, 2, [], 6, 131)
def iX1_marksTold : gMI := (yX1_marksTold, cX1_marksTold, none, 4, [], 6, 131)
def iX1_count : gMI := (yX1_count, cX1_count, some .int, 2, [], 5, 3080)
def iX1_lambda_count_8 : gMI := (yX1_lambda_count_8, cX1_lambda_count_8, some .boolean, 1, [], 0, 0)
def iX1_setOf : gMI := (yX1_setOf, cX1_setOf, some .int, 4, [], 4, 94)
def iX1_lambda_count_9 : gMI := (yX1_lambda_count_9, cX1_lambda_count_9, some .boolean, 1, [], 2, 43)
def iX1_lambda_count_10 : gMI := (yX1_lambda_count_10, cX1_lambda_count_10, some .int, 1, [], 0, 0)
def iX1_sumOf : gMI := (yX1_sumOf, cX1_sumOf, some .int, 7, [], 3, 71)
def iX1_lambda_count_11 : gMI := (yX1_lambda_count_11, cX1_lambda_count_11, some .int, 1, [], 1, 20)
def iX1_row : gMI := (yX1_row, cX1_row, some .long, 2, [], 8, 150)
def iX2_init : gMI := (yX2_init, cX2_init, none, 4, [], 1, 20)
def iX2_m : gMI := (yX2_m, cX2_m, some .int, 1, [], 0, 0)
def iX2_adds : gMI := (yX2_adds, cX2_adds, some .boolean, 3, [], 3, 80)
def iX2_raises : gMI := (yX2_raises, cX2_raises, some .boolean, 2, [], 2, 42)
def iX2_raises_2 : gMI := (yX2_raises_2, cX2_raises_2, some .boolean, 3, [], 0, 0)
def iX2_find : gMI := (yX2_find, cX2_find, some .int, 5, [], 2, 42)
def iX2_wouldChange : gMI := (yX2_wouldChange, cX2_wouldChange, some .boolean, 2, [], 3, 66)
def iX2_drops : gMI := (yX2_drops, cX2_drops, some .boolean, 4, [], 3, 80)
def iX2_empty : gMI := (yX2_empty, cX2_empty, some .int, 3, [], 1, 20)
def iX2_init_2 : gMI := (yX2_init_2, cX2_init_2, none, 4, [], 6, 3102)
def iX2_takes : gMI := (yX2_takes, cX2_takes, none, 3, [], 5, 3080)
def iX2_lambda_takes_0 : gMI := (yX2_lambda_takes_0, cX2_lambda_takes_0, none, 4, [], 2, 45)
def iX2_folded : gMI := (yX2_folded, cX2_folded, some .int, 5, [], 1, 21)
def iX2_each : gMI := (yX2_each, cX2_each, none, 3, [], 4, 99)
def iX2_guess : gMI := (yX2_guess, cX2_guess, some .int, 1, [], 4, 86)
def iX2_roughly : gMI := (yX2_roughly, cX2_roughly, some .int, 1, [], 3, 66)
def iX2_all : gMI := (yX2_all, cX2_all, some .long, 4, [], 1, 20)
def iX2_guessBy : gMI := (yX2_guessBy, cX2_guessBy, some .int, 6, [], 2, 41)
def iX2_isByTable : gMI := (yX2_isByTable, cX2_isByTable, some .boolean, 2, [], 1, 20)
def iX2_how : gMI := (yX2_how, cX2_how, some .int, 1, [], 2, 42)
def iX2_greatest : gMI := (yX2_greatest, cX2_greatest, some .int, 3, [], 1, 21)
def iX3_init : gMI := (yX3_init, cX3_init, none, 2, [], 2, 45)
def iX3_opensSlot : gMI := (yX3_opensSlot, cX3_opensSlot, none, 5, [], 1, 21)
def iX3_at : gMI := (yX3_at, cX3_at, some .int, 2, [], 0, 0)
def iX3_thrown : gMI := (yX3_thrown, cX3_thrown, some .int, 1, [], 0, 0)
def iX3_sign : gMI := (yX3_sign, cX3_sign, some .int, 3, [], 0, 0)
def iX3_end : gMI := (yX3_end, cX3_end, some .boolean, 2, [], 1, 25)
def iX3_in : gMI := (yX3_in, cX3_in, some .boolean, 6, [], 0, 0)
def iX3_mixes : gMI := (yX3_mixes, cX3_mixes, some .boolean, 3, [], 0, 0)
def iX3_mark : gMI := (yX3_mark, cX3_mark, some .int, 2, [], 1, 21)
def iX3_markOf : gMI := (yX3_markOf, cX3_markOf, some .long, 2, [], 0, 0)
def iX3_place : gMI := (yX3_place, cX3_place, some .int, 3, [], 1, 26)
def iX3_rankOf : gMI := (yX3_rankOf, cX3_rankOf, some .int, 7, [], 0, 0)
def iX3_tell : gMI := (yX3_tell, cX3_tell, none, 3, [], 0, 0)
def iX3_placeOf : gMI := (yX3_placeOf, cX3_placeOf, some .int, 3, [], 0, 0)
def iX3_opens : gMI := (yX3_opens, cX3_opens, some .int, 4, [], 2, 45)
def iX3_isCounter : gMI := (yX3_isCounter, cX3_isCounter, some .boolean, 1, [], 1, 25)
def iX3_places : gMI := (yX3_places, cX3_places, some .int, 2, [], 0, 0)
def iX3_adds : gMI := (yX3_adds, cX3_adds, some .int, 3, [], 3, 74)
def iX3_comes : gMI := (yX3_comes, cX3_comes, some .boolean, 4, [], 2, 51)
def iX3_raises : gMI := (yX3_raises, cX3_raises, some .boolean, 6, [], 1, 26)
def iX3_hasMark : gMI := (yX3_hasMark, cX3_hasMark, some .boolean, 5, [], 0, 0)
def iX3_insert : gMI := (yX3_insert, cX3_insert, none, 5, [], 0, 0)
def iX3_becomesDense : gMI := (yX3_becomesDense, cX3_becomesDense, none, 2, [], 0, 0)
def iX3_runs : gMI := (yX3_runs, cX3_runs, some .int, 5, [], 4, 101)
def iX3_runsInto : gMI := (yX3_runsInto, cX3_runsInto, some .int, 8, [], 3, 74)
def iX3_tells : gMI := (yX3_tells, cX3_tells, some .int, 4, [], 3, 74)
def iX3_begin : gMI := (yX3_begin, cX3_begin, none, 1, [], 0, 0)
def iX3_readsThings : gMI := (yX3_readsThings, cX3_readsThings, some .boolean, 1, [], 2, 48)
def iX3_readsNumber : gMI := (yX3_readsNumber, cX3_readsNumber, some .boolean, 4, [], 1, 25)
def iX3_sees : gMI := (yX3_sees, cX3_sees, some .int, 1, [], 0, 0)
def iX3_takes : gMI := (yX3_takes, cX3_takes, some .int, 7, [], 3, 73)
def iX3_laysRanks : gMI := (yX3_laysRanks, cX3_laysRanks, none, 3, [], 2, 51)
def iX3_dense : gMI := (yX3_dense, cX3_dense, some .int, 2, [], 2, 45)
def iX3_ranked : gMI := (yX3_ranked, cX3_ranked, some .int, 4, [], 1, 21)
def iX3_folds : gMI := (yX3_folds, cX3_folds, some .int, 3, [], 4, 101)
def iX3_foldsSlot : gMI := (yX3_foldsSlot, cX3_foldsSlot, none, 9, [], 3, 73)
def iX3_copies : gMI := (yX3_copies, cX3_copies, some .int, 3, [], 5, 107)
def iX3_copiesSlot : gMI := (yX3_copiesSlot, cX3_copiesSlot, none, 4, [], 1, 21)
def iX3_guessOf : gMI := (yX3_guessOf, cX3_guessOf, some .int, 2, [], 4, 86)
def iX3_denseGuess : gMI := (yX3_denseGuess, cX3_denseGuess, some .int, 2, [], 3, 65)
def iX3_zeros : gMI := (yX3_zeros, cX3_zeros, some .int, 2, [], 2, 44)
def iX3_allOf : gMI := (yX3_allOf, cX3_allOf, some .long, 5, [], 1, 21)
def iX3_guessBy : gMI := (yX3_guessBy, cX3_guessBy, some .int, 9, [], 1, 24)
def iX3_tableOf : gMI := (yX3_tableOf, cX3_tableOf, some .int, 5, [], 0, 0)
def iX3_alpha : gMI := (yX3_alpha, cX3_alpha, some .int, 1, [], 0, 0)
def iX3_joins : gMI := (yX3_joins, cX3_joins, some .int, 4, [], 6, 149)
def iX3_joinsTwo : gMI := (yX3_joinsTwo, cX3_joinsTwo, none, 3, [], 5, 127)
def iX3_joinsInto : gMI := (yX3_joinsInto, cX3_joinsInto, none, 7, [], 4, 101)
def iX3_gathers : gMI := (yX3_gathers, cX3_gathers, some .int, 3, [], 6, 151)
def iX3_isSet : gMI := (yX3_isSet, cX3_isSet, some .boolean, 1, [], 1, 25)
def iX3_joinsSet : gMI := (yX3_joinsSet, cX3_joinsSet, none, 5, [], 5, 127)
def iX3_puts : gMI := (yX3_puts, cX3_puts, some .int, 8, [], 2, 47)
def iX3_isRow : gMI := (yX3_isRow, cX3_isRow, some .boolean, 3, [], 1, 25)
def iX3_swaps : gMI := (yX3_swaps, cX3_swaps, some .int, 3, [], 5, 107)
def iX3_keeps : gMI := (yX3_keeps, cX3_keeps, some .int, 5, [], 4, 99)
def iX3_sieves : gMI := (yX3_sieves, cX3_sieves, some .int, 7, [], 3, 73)
def iX3_less : gMI := (yX3_less, cX3_less, some .int, 5, [], 4, 99)
def iX3_splits : gMI := (yX3_splits, cX3_splits, some .int, 5, [], 3, 73)
def iX3_guess : gMI := (yX3_guess, cX3_guess, some .int, 3, [], 5, 107)
def iX3_roughly : gMI := (yX3_roughly, cX3_roughly, some .int, 3, [], 4, 86)
def iX3_form : gMI := (yX3_form, cX3_form, some .int, 3, [], 3, 65)
def iX3_greatest : gMI := (yX3_greatest, cX3_greatest, some .int, 4, [], 1, 21)
def iX3_rank : gMI := (yX3_rank, cX3_rank, some .int, 3, [], 2, 45)
def iX3_ranks : gMI := (yX3_ranks, cX3_ranks, some .int, 7, [], 2, 45)
def iX3_marked : gMI := (yX3_marked, cX3_marked, some .long, 3, [], 2, 45)
def iX3_may : gMI := (yX3_may, cX3_may, some .int, 3, [], 2, 49)
def iX3_wouldChange : gMI := (yX3_wouldChange, cX3_wouldChange, some .boolean, 4, [], 1, 26)
def iX3_first : gMI := (yX3_first, cX3_first, some .int, 7, [], 2, 49)
def iX3_bits : gMI := (yX3_bits, cX3_bits, some .long, 6, [], 2, 47)
def iX3_slice : gMI := (yX3_slice, cX3_slice, some .long, 7, [], 2, 45)
def iX3_runsOf : gMI := (yX3_runsOf, cX3_runsOf, some .int, 7, [], 2, 45)
def iX3_replays : gMI := (yX3_replays, cX3_replays, some .int, 6, [], 3, 68)
def iX3_gap : gMI := (yX3_gap, cX3_gap, some .int, 7, [], 2, 45)
def iX3_chain : gMI := (yX3_chain, cX3_chain, some .int, 7, [], 7, 172)
def iX3_jointGuess : gMI := (yX3_jointGuess, cX3_jointGuess, some .int, 2, [], 6, 151)
def iX3_lessers : gMI := (yX3_lessers, cX3_lessers, some .int, 7, [], 5, 124)
def iX3_foldsBoth : gMI := (yX3_foldsBoth, cX3_foldsBoth, some .int, 4, [], 4, 101)
def iX3_table : gMI := (yX3_table, cX3_table, some .int, 3, [], 1, 25)
def iX3_all : gMI := (yX3_all, cX3_all, some .long, 2, [], 2, 45)
def iX3_lacks : gMI := (yX3_lacks, cX3_lacks, some .int, 7, [], 3, 65)
def iX3_common : gMI := (yX3_common, cX3_common, some .long, 5, [], 8, 193)
def iX3_commonOf : gMI := (yX3_commonOf, cX3_commonOf, some .long, 3, [], 7, 171)
def iX3_bothGuess : gMI := (yX3_bothGuess, cX3_bothGuess, some .int, 3, [], 6, 149)
def iX3_alone : gMI := (yX3_alone, cX3_alone, some .long, 3, [], 7, 171)
def iX3_alike : gMI := (yX3_alike, cX3_alike, some .int, 3, [], 9, 216)
def iX3_alikeOf : gMI := (yX3_alikeOf, cX3_alikeOf, some .int, 4, [], 8, 193)
def iX3_nearest : gMI := (yX3_nearest, cX3_nearest, some .int, 6, [], 9, 216)
def iX3_meet : gMI := (yX3_meet, cX3_meet, some .long, 6, [], 7, 172)
def iX3_ones : gMI := (yX3_ones, cX3_ones, some .int, 3, [], 0, 0)
def iX3_unlike : gMI := (yX3_unlike, cX3_unlike, some .int, 7, [], 5, 124)
def iX3_apart : gMI := (yX3_apart, cX3_apart, some .int, 9, [], 5, 124)
def iX3_order : gMI := (yX3_order, cX3_order, some .int, 5, [], 5, 107)
def iX3_within : gMI := (yX3_within, cX3_within, some .int, 7, [], 7, 171)
def iX3_cover : gMI := (yX3_cover, cX3_cover, some .int, 5, [], 7, 172)
def iX3_errs : gMI := (yX3_errs, cX3_errs, some .int, 10, [], 5, 107)
def iX3_isRun : gMI := (yX3_isRun, cX3_isRun, some .boolean, 2, [], 1, 25)
def iX3_opensTrial : gMI := (yX3_opensTrial, cX3_opensTrial, none, 2, [], 2, 45)
def iX3_least : gMI := (yX3_least, cX3_least, some .int, 7, [], 5, 107)
def iX3_expects : gMI := (yX3_expects, cX3_expects, some .int, 6, [], 1, 25)
def iX3_things : gMI := (yX3_things, cX3_things, some .int, 6, [], 1, 25)
def iX3_would : gMI := (yX3_would, cX3_would, some .int, 6, [], 5, 107)
def iX3_reaches : gMI := (yX3_reaches, cX3_reaches, some .int, 7, [], 5, 107)
def iX3_over : gMI := (yX3_over, cX3_over, some .long, 5, [], 7, 172)
def iX3_greedy : gMI := (yX3_greedy, cX3_greedy, some .int, 7, [], 7, 172)
def iX3_written : gMI := (yX3_written, cX3_written, some .int, 4, [], 2, 45)
def iX3_headSigns : gMI := (yX3_headSigns, cX3_headSigns, some .int, 2, [], 0, 0)
def iX3_signAt : gMI := (yX3_signAt, cX3_signAt, some .int, 5, [], 1, 21)
def iX3_signOf : gMI := (yX3_signOf, cX3_signOf, some .int, 1, [], 0, 0)
def iX3_reads : gMI := (yX3_reads, cX3_reads, some .int, 2, [], 5, 120)
def iX3_readsCounter : gMI := (yX3_readsCounter, cX3_readsCounter, some .boolean, 4, [], 4, 97)
def iX3_readsMarks : gMI := (yX3_readsMarks, cX3_readsMarks, some .boolean, 5, [], 3, 73)
def iX3_readsSign : gMI := (yX3_readsSign, cX3_readsSign, some .int, 4, [], 1, 25)
def iX3_readsRanks : gMI := (yX3_readsRanks, cX3_readsRanks, some .boolean, 3, [], 2, 48)
def iX3_count : gMI := (yX3_count, cX3_count, some .int, 2, [], 3, 66)
def iX3_denseBits : gMI := (yX3_denseBits, cX3_denseBits, some .int, 3, [], 0, 0)
def iX3_rankedBits : gMI := (yX3_rankedBits, cX3_rankedBits, some .int, 3, [], 2, 44)
def iX3_markSum : gMI := (yX3_markSum, cX3_markSum, some .int, 3, [], 0, 0)
def iX3_placeSum : gMI := (yX3_placeSum, cX3_placeSum, some .int, 3, [], 1, 21)
def iX3_row : gMI := (yX3_row, cX3_row, some .long, 2, [], 1, 25)
def iX3_lost : gMI := (yX3_lost, cX3_lost, some .int, 1, [], 0, 0)
def iX4_init : gMI := (yX4_init, cX4_init, none, 1, [], 3, 68)
def gT : List gMI := [iJ0_numberOfLeadingZeros, iJ0_compareUnsigned, iJ0_compare, iJ0_bitCount, iJ0_toUnsignedLong, iJ0_stringSize, iJ0_getChars, iJ1_min, iJ1_min_2, iJ1_max, iJ1_max_2, iJ1_abs, iJ10_checkFromToIndex, iJ10_checkFromIndexSize, iJ10_checkIndex, iJ11_canEncode, iJ11_inflate, iJ11_charAt, iJ11_indexOf, iJ11_canEncode_2, iJ11_indexOfChar, iJ12_isValidCodePoint, iJ12_highSurrogate, iJ12_lowSurrogate, iJ13_init, iJ14_init, iJ2_init, iJ2_init_2, iJ3_init, iJ3_init_2, iJ4_init, iJ4_append, iJ4_ensureCapacityInternal, iJ4_newCapacity, iJ4_isLatin1, iJ4_append_2, iJ4_inflate, iJ4_getValue, iJ4_length, iJ5_init, iJ5_append, iJ5_append_2, iJ5_toString, iJ5_length, iJ6_checkBoundsBeginEnd, iJ6_checkBoundsOffCount, iJ6_checkIndex, iJ6_charAt, iJ6_isLatin1, iJ6_init, iJ6_init_2, iJ6_length, iJ6_coder, iJ6_indexOf, iJ6_indexOf_2, iJ8_newLength, iJ8_hugeLength, iJ9_copyOf, iJ9_copyOfRange, iJ9_copyOfRangeByte, iJ9_checkLength, iL_law, iX0_row, iX1_mixes, iX1_mark, iX1_markOf, iX1_place, iX1_isP, iX1_in, iX1_rankOf, iX1_notesRow, iX1_notes, iX1_placeOf, iX1_init, iX1_init_2, iX1_lays, iX1_opens, iX1_are, iX1_adds, iX1_runs, iX1_sign, iX1_end, iX1_tells, iX1_begins, iX1_thingsTold, iX1_numberTold, iX1_takes, iX1_isDigit, iX1_must, iX1_wrong, iX1_replays, iX1_takes_2, iX1_dense, iX1_filled, iX1_folds, iX1_copies, iX1_joined, iX1_becomes, iX1_joins, iX1_gathers, iX1_isSet, iX1_those, iX1_puts, iX1_rankIn, iX1_swaps, iX1_keeps, iX1_lambda_keeps_0, iX1_picked, iX1_less, iX1_lambda_less_1, iX1_splits, iX1_lambda_splits_2, iX1_lambda_splits_3, iX1_guess, iX1_roughly, iX1_form, iX1_rank, iX1_isPlace, iX1_ranks, iX1_marked, iX1_may, iX1_first, iX1_bits, iX1_slice, iX1_lambda_slice_4, iX1_runsOf, iX1_gap, iX1_table, iX1_all, iX1_lacks, iX1_common, iX1_guessOf, iX1_commonOf, iX1_alone, iX1_alike, iX1_alikeOf, iX1_nearest, iX1_meet, iX1_lambda_meet_5, iX1_eachPart, iX1_unlike, iX1_foldedTo, iX1_apart, iX1_order, iX1_within, iX1_cover, iX1_lambda_cover_6, iX1_errs, iX1_areThings, iX1_empty, iX1_least, iX1_offBy, iX1_expects, iX1_things, iX1_would, iX1_reaches, iX1_over, iX1_chain, iX1_lessers, iX1_lambda_lessers_7, iX1_greedy, iX1_written, iX1_write, iX1_reads, iX1_signTold, iX1_limitTold, iX1_marksTold, iX1_count, iX1_lambda_count_8, iX1_setOf, iX1_lambda_count_9, iX1_lambda_count_10, iX1_sumOf, iX1_lambda_count_11, iX1_row, iX2_init, iX2_m, iX2_adds, iX2_raises, iX2_raises_2, iX2_find, iX2_wouldChange, iX2_drops, iX2_empty, iX2_init_2, iX2_takes, iX2_lambda_takes_0, iX2_folded, iX2_each, iX2_guess, iX2_roughly, iX2_all, iX2_guessBy, iX2_isByTable, iX2_how, iX2_greatest, iX3_init, iX3_opensSlot, iX3_at, iX3_thrown, iX3_sign, iX3_end, iX3_in, iX3_mixes, iX3_mark, iX3_markOf, iX3_place, iX3_rankOf, iX3_tell, iX3_placeOf, iX3_opens, iX3_isCounter, iX3_places, iX3_adds, iX3_comes, iX3_raises, iX3_hasMark, iX3_insert, iX3_becomesDense, iX3_runs, iX3_runsInto, iX3_tells, iX3_begin, iX3_readsThings, iX3_readsNumber, iX3_sees, iX3_takes, iX3_laysRanks, iX3_dense, iX3_ranked, iX3_folds, iX3_foldsSlot, iX3_copies, iX3_copiesSlot, iX3_guessOf, iX3_denseGuess, iX3_zeros, iX3_allOf, iX3_guessBy, iX3_tableOf, iX3_alpha, iX3_joins, iX3_joinsTwo, iX3_joinsInto, iX3_gathers, iX3_isSet, iX3_joinsSet, iX3_puts, iX3_isRow, iX3_swaps, iX3_keeps, iX3_sieves, iX3_less, iX3_splits, iX3_guess, iX3_roughly, iX3_form, iX3_greatest, iX3_rank, iX3_ranks, iX3_marked, iX3_may, iX3_wouldChange, iX3_first, iX3_bits, iX3_slice, iX3_runsOf, iX3_replays, iX3_gap, iX3_chain, iX3_jointGuess, iX3_lessers, iX3_foldsBoth, iX3_table, iX3_all, iX3_lacks, iX3_common, iX3_commonOf, iX3_bothGuess, iX3_alone, iX3_alike, iX3_alikeOf, iX3_nearest, iX3_meet, iX3_ones, iX3_unlike, iX3_apart, iX3_order, iX3_within, iX3_cover, iX3_errs, iX3_isRun, iX3_opensTrial, iX3_least, iX3_expects, iX3_things, iX3_would, iX3_reaches, iX3_over, iX3_greedy, iX3_written, iX3_headSigns, iX3_signAt, iX3_signOf, iX3_reads, iX3_readsCounter, iX3_readsMarks, iX3_readsSign, iX3_readsRanks, iX3_count, iX3_denseBits, iX3_rankedBits, iX3_markSum, iX3_placeSum, iX3_row, iX3_lost, iX4_init]
theorem jJ0_numberOfLeadingZeros : znth gT mJ0_numberOfLeadingZeros = some iJ0_numberOfLeadingZeros := rfl
theorem oJ0_numberOfLeadingZeros : yJ0_numberOfLeadingZeros.cls ≠ "java/lang/invoke/MethodHandle" ∧ yJ0_numberOfLeadingZeros.cls ≠ "java/lang/invoke/VarHandle" ∧ (parseMethodDescriptor yJ0_numberOfLeadingZeros.desc).map (fun d => d.parameters.length) = some 1 := by decide +kernel
theorem jJ0_compareUnsigned : znth gT mJ0_compareUnsigned = some iJ0_compareUnsigned := rfl
theorem oJ0_compareUnsigned : yJ0_compareUnsigned.cls ≠ "java/lang/invoke/MethodHandle" ∧ yJ0_compareUnsigned.cls ≠ "java/lang/invoke/VarHandle" ∧ (parseMethodDescriptor yJ0_compareUnsigned.desc).map (fun d => d.parameters.length) = some 2 := by decide +kernel
theorem jJ0_compare : znth gT mJ0_compare = some iJ0_compare := rfl
theorem oJ0_compare : yJ0_compare.cls ≠ "java/lang/invoke/MethodHandle" ∧ yJ0_compare.cls ≠ "java/lang/invoke/VarHandle" ∧ (parseMethodDescriptor yJ0_compare.desc).map (fun d => d.parameters.length) = some 2 := by decide +kernel
theorem jJ0_bitCount : znth gT mJ0_bitCount = some iJ0_bitCount := rfl
theorem oJ0_bitCount : yJ0_bitCount.cls ≠ "java/lang/invoke/MethodHandle" ∧ yJ0_bitCount.cls ≠ "java/lang/invoke/VarHandle" ∧ (parseMethodDescriptor yJ0_bitCount.desc).map (fun d => d.parameters.length) = some 1 := by decide +kernel
theorem jJ0_toUnsignedLong : znth gT mJ0_toUnsignedLong = some iJ0_toUnsignedLong := rfl
theorem oJ0_toUnsignedLong : yJ0_toUnsignedLong.cls ≠ "java/lang/invoke/MethodHandle" ∧ yJ0_toUnsignedLong.cls ≠ "java/lang/invoke/VarHandle" ∧ (parseMethodDescriptor yJ0_toUnsignedLong.desc).map (fun d => d.parameters.length) = some 1 := by decide +kernel
theorem jJ0_stringSize : znth gT mJ0_stringSize = some iJ0_stringSize := rfl
theorem oJ0_stringSize : yJ0_stringSize.cls ≠ "java/lang/invoke/MethodHandle" ∧ yJ0_stringSize.cls ≠ "java/lang/invoke/VarHandle" ∧ (parseMethodDescriptor yJ0_stringSize.desc).map (fun d => d.parameters.length) = some 1 := by decide +kernel
theorem jJ0_getChars : znth gT mJ0_getChars = some iJ0_getChars := rfl
theorem oJ0_getChars : yJ0_getChars.cls ≠ "java/lang/invoke/MethodHandle" ∧ yJ0_getChars.cls ≠ "java/lang/invoke/VarHandle" ∧ (parseMethodDescriptor yJ0_getChars.desc).map (fun d => d.parameters.length) = some 3 := by decide +kernel
theorem jJ1_min : znth gT mJ1_min = some iJ1_min := rfl
theorem oJ1_min : yJ1_min.cls ≠ "java/lang/invoke/MethodHandle" ∧ yJ1_min.cls ≠ "java/lang/invoke/VarHandle" ∧ (parseMethodDescriptor yJ1_min.desc).map (fun d => d.parameters.length) = some 2 := by decide +kernel
theorem jJ1_min_2 : znth gT mJ1_min_2 = some iJ1_min_2 := rfl
theorem oJ1_min_2 : yJ1_min_2.cls ≠ "java/lang/invoke/MethodHandle" ∧ yJ1_min_2.cls ≠ "java/lang/invoke/VarHandle" ∧ (parseMethodDescriptor yJ1_min_2.desc).map (fun d => d.parameters.length) = some 2 := by decide +kernel
theorem jJ1_max : znth gT mJ1_max = some iJ1_max := rfl
theorem oJ1_max : yJ1_max.cls ≠ "java/lang/invoke/MethodHandle" ∧ yJ1_max.cls ≠ "java/lang/invoke/VarHandle" ∧ (parseMethodDescriptor yJ1_max.desc).map (fun d => d.parameters.length) = some 2 := by decide +kernel
theorem jJ1_max_2 : znth gT mJ1_max_2 = some iJ1_max_2 := rfl
theorem oJ1_max_2 : yJ1_max_2.cls ≠ "java/lang/invoke/MethodHandle" ∧ yJ1_max_2.cls ≠ "java/lang/invoke/VarHandle" ∧ (parseMethodDescriptor yJ1_max_2.desc).map (fun d => d.parameters.length) = some 2 := by decide +kernel
theorem jJ1_abs : znth gT mJ1_abs = some iJ1_abs := rfl
theorem oJ1_abs : yJ1_abs.cls ≠ "java/lang/invoke/MethodHandle" ∧ yJ1_abs.cls ≠ "java/lang/invoke/VarHandle" ∧ (parseMethodDescriptor yJ1_abs.desc).map (fun d => d.parameters.length) = some 1 := by decide +kernel
theorem jJ10_checkFromToIndex : znth gT mJ10_checkFromToIndex = some iJ10_checkFromToIndex := rfl
theorem oJ10_checkFromToIndex : yJ10_checkFromToIndex.cls ≠ "java/lang/invoke/MethodHandle" ∧ yJ10_checkFromToIndex.cls ≠ "java/lang/invoke/VarHandle" ∧ (parseMethodDescriptor yJ10_checkFromToIndex.desc).map (fun d => d.parameters.length) = some 4 := by decide +kernel
theorem jJ10_checkFromIndexSize : znth gT mJ10_checkFromIndexSize = some iJ10_checkFromIndexSize := rfl
theorem oJ10_checkFromIndexSize : yJ10_checkFromIndexSize.cls ≠ "java/lang/invoke/MethodHandle" ∧ yJ10_checkFromIndexSize.cls ≠ "java/lang/invoke/VarHandle" ∧ (parseMethodDescriptor yJ10_checkFromIndexSize.desc).map (fun d => d.parameters.length) = some 4 := by decide +kernel
theorem jJ10_checkIndex : znth gT mJ10_checkIndex = some iJ10_checkIndex := rfl
theorem oJ10_checkIndex : yJ10_checkIndex.cls ≠ "java/lang/invoke/MethodHandle" ∧ yJ10_checkIndex.cls ≠ "java/lang/invoke/VarHandle" ∧ (parseMethodDescriptor yJ10_checkIndex.desc).map (fun d => d.parameters.length) = some 3 := by decide +kernel
theorem jJ11_canEncode : znth gT mJ11_canEncode = some iJ11_canEncode := rfl
theorem oJ11_canEncode : yJ11_canEncode.cls ≠ "java/lang/invoke/MethodHandle" ∧ yJ11_canEncode.cls ≠ "java/lang/invoke/VarHandle" ∧ (parseMethodDescriptor yJ11_canEncode.desc).map (fun d => d.parameters.length) = some 1 := by decide +kernel
theorem jJ11_inflate : znth gT mJ11_inflate = some iJ11_inflate := rfl
theorem oJ11_inflate : yJ11_inflate.cls ≠ "java/lang/invoke/MethodHandle" ∧ yJ11_inflate.cls ≠ "java/lang/invoke/VarHandle" ∧ (parseMethodDescriptor yJ11_inflate.desc).map (fun d => d.parameters.length) = some 5 := by decide +kernel
theorem jJ11_charAt : znth gT mJ11_charAt = some iJ11_charAt := rfl
theorem oJ11_charAt : yJ11_charAt.cls ≠ "java/lang/invoke/MethodHandle" ∧ yJ11_charAt.cls ≠ "java/lang/invoke/VarHandle" ∧ (parseMethodDescriptor yJ11_charAt.desc).map (fun d => d.parameters.length) = some 2 := by decide +kernel
theorem jJ11_indexOf : znth gT mJ11_indexOf = some iJ11_indexOf := rfl
theorem oJ11_indexOf : yJ11_indexOf.cls ≠ "java/lang/invoke/MethodHandle" ∧ yJ11_indexOf.cls ≠ "java/lang/invoke/VarHandle" ∧ (parseMethodDescriptor yJ11_indexOf.desc).map (fun d => d.parameters.length) = some 4 := by decide +kernel
theorem jJ11_canEncode_2 : znth gT mJ11_canEncode_2 = some iJ11_canEncode_2 := rfl
theorem oJ11_canEncode_2 : yJ11_canEncode_2.cls ≠ "java/lang/invoke/MethodHandle" ∧ yJ11_canEncode_2.cls ≠ "java/lang/invoke/VarHandle" ∧ (parseMethodDescriptor yJ11_canEncode_2.desc).map (fun d => d.parameters.length) = some 1 := by decide +kernel
theorem jJ11_indexOfChar : znth gT mJ11_indexOfChar = some iJ11_indexOfChar := rfl
theorem oJ11_indexOfChar : yJ11_indexOfChar.cls ≠ "java/lang/invoke/MethodHandle" ∧ yJ11_indexOfChar.cls ≠ "java/lang/invoke/VarHandle" ∧ (parseMethodDescriptor yJ11_indexOfChar.desc).map (fun d => d.parameters.length) = some 4 := by decide +kernel
theorem jJ12_isValidCodePoint : znth gT mJ12_isValidCodePoint = some iJ12_isValidCodePoint := rfl
theorem oJ12_isValidCodePoint : yJ12_isValidCodePoint.cls ≠ "java/lang/invoke/MethodHandle" ∧ yJ12_isValidCodePoint.cls ≠ "java/lang/invoke/VarHandle" ∧ (parseMethodDescriptor yJ12_isValidCodePoint.desc).map (fun d => d.parameters.length) = some 1 := by decide +kernel
theorem jJ12_highSurrogate : znth gT mJ12_highSurrogate = some iJ12_highSurrogate := rfl
theorem oJ12_highSurrogate : yJ12_highSurrogate.cls ≠ "java/lang/invoke/MethodHandle" ∧ yJ12_highSurrogate.cls ≠ "java/lang/invoke/VarHandle" ∧ (parseMethodDescriptor yJ12_highSurrogate.desc).map (fun d => d.parameters.length) = some 1 := by decide +kernel
theorem jJ12_lowSurrogate : znth gT mJ12_lowSurrogate = some iJ12_lowSurrogate := rfl
theorem oJ12_lowSurrogate : yJ12_lowSurrogate.cls ≠ "java/lang/invoke/MethodHandle" ∧ yJ12_lowSurrogate.cls ≠ "java/lang/invoke/VarHandle" ∧ (parseMethodDescriptor yJ12_lowSurrogate.desc).map (fun d => d.parameters.length) = some 1 := by decide +kernel
theorem jJ13_init : znth gT mJ13_init = some iJ13_init := rfl
theorem oJ13_init : yJ13_init.cls ≠ "java/lang/invoke/MethodHandle" ∧ yJ13_init.cls ≠ "java/lang/invoke/VarHandle" ∧ (parseMethodDescriptor yJ13_init.desc).map (fun d => d.parameters.length) = some 0 := by decide +kernel
theorem jJ14_init : znth gT mJ14_init = some iJ14_init := rfl
theorem oJ14_init : yJ14_init.cls ≠ "java/lang/invoke/MethodHandle" ∧ yJ14_init.cls ≠ "java/lang/invoke/VarHandle" ∧ (parseMethodDescriptor yJ14_init.desc).map (fun d => d.parameters.length) = some 0 := by decide +kernel
theorem jJ2_init : znth gT mJ2_init = some iJ2_init := rfl
theorem oJ2_init : yJ2_init.cls ≠ "java/lang/invoke/MethodHandle" ∧ yJ2_init.cls ≠ "java/lang/invoke/VarHandle" ∧ (parseMethodDescriptor yJ2_init.desc).map (fun d => d.parameters.length) = some 0 := by decide +kernel
theorem jJ2_init_2 : znth gT mJ2_init_2 = some iJ2_init_2 := rfl
theorem oJ2_init_2 : yJ2_init_2.cls ≠ "java/lang/invoke/MethodHandle" ∧ yJ2_init_2.cls ≠ "java/lang/invoke/VarHandle" ∧ (parseMethodDescriptor yJ2_init_2.desc).map (fun d => d.parameters.length) = some 4 := by decide +kernel
theorem jJ3_init : znth gT mJ3_init = some iJ3_init := rfl
theorem oJ3_init : yJ3_init.cls ≠ "java/lang/invoke/MethodHandle" ∧ yJ3_init.cls ≠ "java/lang/invoke/VarHandle" ∧ (parseMethodDescriptor yJ3_init.desc).map (fun d => d.parameters.length) = some 4 := by decide +kernel
theorem jJ3_init_2 : znth gT mJ3_init_2 = some iJ3_init_2 := rfl
theorem oJ3_init_2 : yJ3_init_2.cls ≠ "java/lang/invoke/MethodHandle" ∧ yJ3_init_2.cls ≠ "java/lang/invoke/VarHandle" ∧ (parseMethodDescriptor yJ3_init_2.desc).map (fun d => d.parameters.length) = some 0 := by decide +kernel
theorem jJ4_init : znth gT mJ4_init = some iJ4_init := rfl
theorem oJ4_init : yJ4_init.cls ≠ "java/lang/invoke/MethodHandle" ∧ yJ4_init.cls ≠ "java/lang/invoke/VarHandle" ∧ (parseMethodDescriptor yJ4_init.desc).map (fun d => d.parameters.length) = some 1 := by decide +kernel
theorem jJ4_append : znth gT mJ4_append = some iJ4_append := rfl
theorem oJ4_append : yJ4_append.cls ≠ "java/lang/invoke/MethodHandle" ∧ yJ4_append.cls ≠ "java/lang/invoke/VarHandle" ∧ (parseMethodDescriptor yJ4_append.desc).map (fun d => d.parameters.length) = some 1 := by decide +kernel
theorem jJ4_ensureCapacityInternal : znth gT mJ4_ensureCapacityInternal = some iJ4_ensureCapacityInternal := rfl
theorem oJ4_ensureCapacityInternal : yJ4_ensureCapacityInternal.cls ≠ "java/lang/invoke/MethodHandle" ∧ yJ4_ensureCapacityInternal.cls ≠ "java/lang/invoke/VarHandle" ∧ (parseMethodDescriptor yJ4_ensureCapacityInternal.desc).map (fun d => d.parameters.length) = some 1 := by decide +kernel
theorem jJ4_newCapacity : znth gT mJ4_newCapacity = some iJ4_newCapacity := rfl
theorem oJ4_newCapacity : yJ4_newCapacity.cls ≠ "java/lang/invoke/MethodHandle" ∧ yJ4_newCapacity.cls ≠ "java/lang/invoke/VarHandle" ∧ (parseMethodDescriptor yJ4_newCapacity.desc).map (fun d => d.parameters.length) = some 1 := by decide +kernel
theorem jJ4_isLatin1 : znth gT mJ4_isLatin1 = some iJ4_isLatin1 := rfl
theorem oJ4_isLatin1 : yJ4_isLatin1.cls ≠ "java/lang/invoke/MethodHandle" ∧ yJ4_isLatin1.cls ≠ "java/lang/invoke/VarHandle" ∧ (parseMethodDescriptor yJ4_isLatin1.desc).map (fun d => d.parameters.length) = some 0 := by decide +kernel
theorem jJ4_append_2 : znth gT mJ4_append_2 = some iJ4_append_2 := rfl
theorem oJ4_append_2 : yJ4_append_2.cls ≠ "java/lang/invoke/MethodHandle" ∧ yJ4_append_2.cls ≠ "java/lang/invoke/VarHandle" ∧ (parseMethodDescriptor yJ4_append_2.desc).map (fun d => d.parameters.length) = some 1 := by decide +kernel
theorem jJ4_inflate : znth gT mJ4_inflate = some iJ4_inflate := rfl
theorem oJ4_inflate : yJ4_inflate.cls ≠ "java/lang/invoke/MethodHandle" ∧ yJ4_inflate.cls ≠ "java/lang/invoke/VarHandle" ∧ (parseMethodDescriptor yJ4_inflate.desc).map (fun d => d.parameters.length) = some 0 := by decide +kernel
theorem jJ4_getValue : znth gT mJ4_getValue = some iJ4_getValue := rfl
theorem oJ4_getValue : yJ4_getValue.cls ≠ "java/lang/invoke/MethodHandle" ∧ yJ4_getValue.cls ≠ "java/lang/invoke/VarHandle" ∧ (parseMethodDescriptor yJ4_getValue.desc).map (fun d => d.parameters.length) = some 0 := by decide +kernel
theorem jJ4_length : znth gT mJ4_length = some iJ4_length := rfl
theorem oJ4_length : yJ4_length.cls ≠ "java/lang/invoke/MethodHandle" ∧ yJ4_length.cls ≠ "java/lang/invoke/VarHandle" ∧ (parseMethodDescriptor yJ4_length.desc).map (fun d => d.parameters.length) = some 0 := by decide +kernel
theorem jJ5_init : znth gT mJ5_init = some iJ5_init := rfl
theorem oJ5_init : yJ5_init.cls ≠ "java/lang/invoke/MethodHandle" ∧ yJ5_init.cls ≠ "java/lang/invoke/VarHandle" ∧ (parseMethodDescriptor yJ5_init.desc).map (fun d => d.parameters.length) = some 0 := by decide +kernel
theorem jJ5_append : znth gT mJ5_append = some iJ5_append := rfl
theorem oJ5_append : yJ5_append.cls ≠ "java/lang/invoke/MethodHandle" ∧ yJ5_append.cls ≠ "java/lang/invoke/VarHandle" ∧ (parseMethodDescriptor yJ5_append.desc).map (fun d => d.parameters.length) = some 1 := by decide +kernel
theorem jJ5_append_2 : znth gT mJ5_append_2 = some iJ5_append_2 := rfl
theorem oJ5_append_2 : yJ5_append_2.cls ≠ "java/lang/invoke/MethodHandle" ∧ yJ5_append_2.cls ≠ "java/lang/invoke/VarHandle" ∧ (parseMethodDescriptor yJ5_append_2.desc).map (fun d => d.parameters.length) = some 1 := by decide +kernel
theorem jJ5_toString : znth gT mJ5_toString = some iJ5_toString := rfl
theorem oJ5_toString : yJ5_toString.cls ≠ "java/lang/invoke/MethodHandle" ∧ yJ5_toString.cls ≠ "java/lang/invoke/VarHandle" ∧ (parseMethodDescriptor yJ5_toString.desc).map (fun d => d.parameters.length) = some 0 := by decide +kernel
theorem jJ5_length : znth gT mJ5_length = some iJ5_length := rfl
theorem oJ5_length : yJ5_length.cls ≠ "java/lang/invoke/MethodHandle" ∧ yJ5_length.cls ≠ "java/lang/invoke/VarHandle" ∧ (parseMethodDescriptor yJ5_length.desc).map (fun d => d.parameters.length) = some 0 := by decide +kernel
theorem jJ6_checkBoundsBeginEnd : znth gT mJ6_checkBoundsBeginEnd = some iJ6_checkBoundsBeginEnd := rfl
theorem oJ6_checkBoundsBeginEnd : yJ6_checkBoundsBeginEnd.cls ≠ "java/lang/invoke/MethodHandle" ∧ yJ6_checkBoundsBeginEnd.cls ≠ "java/lang/invoke/VarHandle" ∧ (parseMethodDescriptor yJ6_checkBoundsBeginEnd.desc).map (fun d => d.parameters.length) = some 3 := by decide +kernel
theorem jJ6_checkBoundsOffCount : znth gT mJ6_checkBoundsOffCount = some iJ6_checkBoundsOffCount := rfl
theorem oJ6_checkBoundsOffCount : yJ6_checkBoundsOffCount.cls ≠ "java/lang/invoke/MethodHandle" ∧ yJ6_checkBoundsOffCount.cls ≠ "java/lang/invoke/VarHandle" ∧ (parseMethodDescriptor yJ6_checkBoundsOffCount.desc).map (fun d => d.parameters.length) = some 3 := by decide +kernel
theorem jJ6_checkIndex : znth gT mJ6_checkIndex = some iJ6_checkIndex := rfl
theorem oJ6_checkIndex : yJ6_checkIndex.cls ≠ "java/lang/invoke/MethodHandle" ∧ yJ6_checkIndex.cls ≠ "java/lang/invoke/VarHandle" ∧ (parseMethodDescriptor yJ6_checkIndex.desc).map (fun d => d.parameters.length) = some 2 := by decide +kernel
theorem jJ6_charAt : znth gT mJ6_charAt = some iJ6_charAt := rfl
theorem oJ6_charAt : yJ6_charAt.cls ≠ "java/lang/invoke/MethodHandle" ∧ yJ6_charAt.cls ≠ "java/lang/invoke/VarHandle" ∧ (parseMethodDescriptor yJ6_charAt.desc).map (fun d => d.parameters.length) = some 1 := by decide +kernel
theorem jJ6_isLatin1 : znth gT mJ6_isLatin1 = some iJ6_isLatin1 := rfl
theorem oJ6_isLatin1 : yJ6_isLatin1.cls ≠ "java/lang/invoke/MethodHandle" ∧ yJ6_isLatin1.cls ≠ "java/lang/invoke/VarHandle" ∧ (parseMethodDescriptor yJ6_isLatin1.desc).map (fun d => d.parameters.length) = some 0 := by decide +kernel
theorem jJ6_init : znth gT mJ6_init = some iJ6_init := rfl
theorem oJ6_init : yJ6_init.cls ≠ "java/lang/invoke/MethodHandle" ∧ yJ6_init.cls ≠ "java/lang/invoke/VarHandle" ∧ (parseMethodDescriptor yJ6_init.desc).map (fun d => d.parameters.length) = some 1 := by decide +kernel
theorem jJ6_init_2 : znth gT mJ6_init_2 = some iJ6_init_2 := rfl
theorem oJ6_init_2 : yJ6_init_2.cls ≠ "java/lang/invoke/MethodHandle" ∧ yJ6_init_2.cls ≠ "java/lang/invoke/VarHandle" ∧ (parseMethodDescriptor yJ6_init_2.desc).map (fun d => d.parameters.length) = some 2 := by decide +kernel
theorem jJ6_length : znth gT mJ6_length = some iJ6_length := rfl
theorem oJ6_length : yJ6_length.cls ≠ "java/lang/invoke/MethodHandle" ∧ yJ6_length.cls ≠ "java/lang/invoke/VarHandle" ∧ (parseMethodDescriptor yJ6_length.desc).map (fun d => d.parameters.length) = some 0 := by decide +kernel
theorem jJ6_coder : znth gT mJ6_coder = some iJ6_coder := rfl
theorem oJ6_coder : yJ6_coder.cls ≠ "java/lang/invoke/MethodHandle" ∧ yJ6_coder.cls ≠ "java/lang/invoke/VarHandle" ∧ (parseMethodDescriptor yJ6_coder.desc).map (fun d => d.parameters.length) = some 0 := by decide +kernel
theorem jJ6_indexOf : znth gT mJ6_indexOf = some iJ6_indexOf := rfl
theorem oJ6_indexOf : yJ6_indexOf.cls ≠ "java/lang/invoke/MethodHandle" ∧ yJ6_indexOf.cls ≠ "java/lang/invoke/VarHandle" ∧ (parseMethodDescriptor yJ6_indexOf.desc).map (fun d => d.parameters.length) = some 1 := by decide +kernel
theorem jJ6_indexOf_2 : znth gT mJ6_indexOf_2 = some iJ6_indexOf_2 := rfl
theorem oJ6_indexOf_2 : yJ6_indexOf_2.cls ≠ "java/lang/invoke/MethodHandle" ∧ yJ6_indexOf_2.cls ≠ "java/lang/invoke/VarHandle" ∧ (parseMethodDescriptor yJ6_indexOf_2.desc).map (fun d => d.parameters.length) = some 2 := by decide +kernel
theorem jJ8_newLength : znth gT mJ8_newLength = some iJ8_newLength := rfl
theorem oJ8_newLength : yJ8_newLength.cls ≠ "java/lang/invoke/MethodHandle" ∧ yJ8_newLength.cls ≠ "java/lang/invoke/VarHandle" ∧ (parseMethodDescriptor yJ8_newLength.desc).map (fun d => d.parameters.length) = some 3 := by decide +kernel
theorem jJ8_hugeLength : znth gT mJ8_hugeLength = some iJ8_hugeLength := rfl
theorem oJ8_hugeLength : yJ8_hugeLength.cls ≠ "java/lang/invoke/MethodHandle" ∧ yJ8_hugeLength.cls ≠ "java/lang/invoke/VarHandle" ∧ (parseMethodDescriptor yJ8_hugeLength.desc).map (fun d => d.parameters.length) = some 2 := by decide +kernel
theorem jJ9_copyOf : znth gT mJ9_copyOf = some iJ9_copyOf := rfl
theorem oJ9_copyOf : yJ9_copyOf.cls ≠ "java/lang/invoke/MethodHandle" ∧ yJ9_copyOf.cls ≠ "java/lang/invoke/VarHandle" ∧ (parseMethodDescriptor yJ9_copyOf.desc).map (fun d => d.parameters.length) = some 2 := by decide +kernel
theorem jJ9_copyOfRange : znth gT mJ9_copyOfRange = some iJ9_copyOfRange := rfl
theorem oJ9_copyOfRange : yJ9_copyOfRange.cls ≠ "java/lang/invoke/MethodHandle" ∧ yJ9_copyOfRange.cls ≠ "java/lang/invoke/VarHandle" ∧ (parseMethodDescriptor yJ9_copyOfRange.desc).map (fun d => d.parameters.length) = some 3 := by decide +kernel
theorem jJ9_copyOfRangeByte : znth gT mJ9_copyOfRangeByte = some iJ9_copyOfRangeByte := rfl
theorem oJ9_copyOfRangeByte : yJ9_copyOfRangeByte.cls ≠ "java/lang/invoke/MethodHandle" ∧ yJ9_copyOfRangeByte.cls ≠ "java/lang/invoke/VarHandle" ∧ (parseMethodDescriptor yJ9_copyOfRangeByte.desc).map (fun d => d.parameters.length) = some 3 := by decide +kernel
theorem jJ9_checkLength : znth gT mJ9_checkLength = some iJ9_checkLength := rfl
theorem oJ9_checkLength : yJ9_checkLength.cls ≠ "java/lang/invoke/MethodHandle" ∧ yJ9_checkLength.cls ≠ "java/lang/invoke/VarHandle" ∧ (parseMethodDescriptor yJ9_checkLength.desc).map (fun d => d.parameters.length) = some 2 := by decide +kernel
theorem jX0_row : znth gT mX0_row = some iX0_row := rfl
theorem oX0_row : yX0_row.cls ≠ "java/lang/invoke/MethodHandle" ∧ yX0_row.cls ≠ "java/lang/invoke/VarHandle" ∧ (parseMethodDescriptor yX0_row.desc).map (fun d => d.parameters.length) = some 3 := by decide +kernel
theorem jX1_mixes : znth gT mX1_mixes = some iX1_mixes := rfl
theorem oX1_mixes : yX1_mixes.cls ≠ "java/lang/invoke/MethodHandle" ∧ yX1_mixes.cls ≠ "java/lang/invoke/VarHandle" ∧ (parseMethodDescriptor yX1_mixes.desc).map (fun d => d.parameters.length) = some 2 := by decide +kernel
theorem jX1_mark : znth gT mX1_mark = some iX1_mark := rfl
theorem oX1_mark : yX1_mark.cls ≠ "java/lang/invoke/MethodHandle" ∧ yX1_mark.cls ≠ "java/lang/invoke/VarHandle" ∧ (parseMethodDescriptor yX1_mark.desc).map (fun d => d.parameters.length) = some 1 := by decide +kernel
theorem jX1_markOf : znth gT mX1_markOf = some iX1_markOf := rfl
theorem oX1_markOf : yX1_markOf.cls ≠ "java/lang/invoke/MethodHandle" ∧ yX1_markOf.cls ≠ "java/lang/invoke/VarHandle" ∧ (parseMethodDescriptor yX1_markOf.desc).map (fun d => d.parameters.length) = some 1 := by decide +kernel
theorem jX1_place : znth gT mX1_place = some iX1_place := rfl
theorem oX1_place : yX1_place.cls ≠ "java/lang/invoke/MethodHandle" ∧ yX1_place.cls ≠ "java/lang/invoke/VarHandle" ∧ (parseMethodDescriptor yX1_place.desc).map (fun d => d.parameters.length) = some 2 := by decide +kernel
theorem jX1_isP : znth gT mX1_isP = some iX1_isP := rfl
theorem oX1_isP : yX1_isP.cls ≠ "java/lang/invoke/MethodHandle" ∧ yX1_isP.cls ≠ "java/lang/invoke/VarHandle" ∧ (parseMethodDescriptor yX1_isP.desc).map (fun d => d.parameters.length) = some 1 := by decide +kernel
theorem jX1_in : znth gT mX1_in = some iX1_in := rfl
theorem oX1_in : yX1_in.cls ≠ "java/lang/invoke/MethodHandle" ∧ yX1_in.cls ≠ "java/lang/invoke/VarHandle" ∧ (parseMethodDescriptor yX1_in.desc).map (fun d => d.parameters.length) = some 3 := by decide +kernel
theorem jX1_rankOf : znth gT mX1_rankOf = some iX1_rankOf := rfl
theorem oX1_rankOf : yX1_rankOf.cls ≠ "java/lang/invoke/MethodHandle" ∧ yX1_rankOf.cls ≠ "java/lang/invoke/VarHandle" ∧ (parseMethodDescriptor yX1_rankOf.desc).map (fun d => d.parameters.length) = some 2 := by decide +kernel
theorem jX1_notesRow : znth gT mX1_notesRow = some iX1_notesRow := rfl
theorem oX1_notesRow : yX1_notesRow.cls ≠ "java/lang/invoke/MethodHandle" ∧ yX1_notesRow.cls ≠ "java/lang/invoke/VarHandle" ∧ (parseMethodDescriptor yX1_notesRow.desc).map (fun d => d.parameters.length) = some 1 := by decide +kernel
theorem jX1_notes : znth gT mX1_notes = some iX1_notes := rfl
theorem oX1_notes : yX1_notes.cls ≠ "java/lang/invoke/MethodHandle" ∧ yX1_notes.cls ≠ "java/lang/invoke/VarHandle" ∧ (parseMethodDescriptor yX1_notes.desc).map (fun d => d.parameters.length) = some 1 := by decide +kernel
theorem jX1_placeOf : znth gT mX1_placeOf = some iX1_placeOf := rfl
theorem oX1_placeOf : yX1_placeOf.cls ≠ "java/lang/invoke/MethodHandle" ∧ yX1_placeOf.cls ≠ "java/lang/invoke/VarHandle" ∧ (parseMethodDescriptor yX1_placeOf.desc).map (fun d => d.parameters.length) = some 2 := by decide +kernel
theorem jX1_init : znth gT mX1_init = some iX1_init := rfl
theorem oX1_init : yX1_init.cls ≠ "java/lang/invoke/MethodHandle" ∧ yX1_init.cls ≠ "java/lang/invoke/VarHandle" ∧ (parseMethodDescriptor yX1_init.desc).map (fun d => d.parameters.length) = some 0 := by decide +kernel
theorem jX1_init_2 : znth gT mX1_init_2 = some iX1_init_2 := rfl
theorem oX1_init_2 : yX1_init_2.cls ≠ "java/lang/invoke/MethodHandle" ∧ yX1_init_2.cls ≠ "java/lang/invoke/VarHandle" ∧ (parseMethodDescriptor yX1_init_2.desc).map (fun d => d.parameters.length) = some 2 := by decide +kernel
theorem jX1_lays : znth gT mX1_lays = some iX1_lays := rfl
theorem oX1_lays : yX1_lays.cls ≠ "java/lang/invoke/MethodHandle" ∧ yX1_lays.cls ≠ "java/lang/invoke/VarHandle" ∧ (parseMethodDescriptor yX1_lays.desc).map (fun d => d.parameters.length) = some 1 := by decide +kernel
theorem jX1_opens : znth gT mX1_opens = some iX1_opens := rfl
theorem oX1_opens : yX1_opens.cls ≠ "java/lang/invoke/MethodHandle" ∧ yX1_opens.cls ≠ "java/lang/invoke/VarHandle" ∧ (parseMethodDescriptor yX1_opens.desc).map (fun d => d.parameters.length) = some 3 := by decide +kernel
theorem jX1_are : znth gT mX1_are = some iX1_are := rfl
theorem oX1_are : yX1_are.cls ≠ "java/lang/invoke/MethodHandle" ∧ yX1_are.cls ≠ "java/lang/invoke/VarHandle" ∧ (parseMethodDescriptor yX1_are.desc).map (fun d => d.parameters.length) = some 1 := by decide +kernel
theorem jX1_adds : znth gT mX1_adds = some iX1_adds := rfl
theorem oX1_adds : yX1_adds.cls ≠ "java/lang/invoke/MethodHandle" ∧ yX1_adds.cls ≠ "java/lang/invoke/VarHandle" ∧ (parseMethodDescriptor yX1_adds.desc).map (fun d => d.parameters.length) = some 2 := by decide +kernel
theorem jX1_runs : znth gT mX1_runs = some iX1_runs := rfl
theorem oX1_runs : yX1_runs.cls ≠ "java/lang/invoke/MethodHandle" ∧ yX1_runs.cls ≠ "java/lang/invoke/VarHandle" ∧ (parseMethodDescriptor yX1_runs.desc).map (fun d => d.parameters.length) = some 4 := by decide +kernel
theorem jX1_sign : znth gT mX1_sign = some iX1_sign := rfl
theorem oX1_sign : yX1_sign.cls ≠ "java/lang/invoke/MethodHandle" ∧ yX1_sign.cls ≠ "java/lang/invoke/VarHandle" ∧ (parseMethodDescriptor yX1_sign.desc).map (fun d => d.parameters.length) = some 1 := by decide +kernel
theorem jX1_end : znth gT mX1_end = some iX1_end := rfl
theorem oX1_end : yX1_end.cls ≠ "java/lang/invoke/MethodHandle" ∧ yX1_end.cls ≠ "java/lang/invoke/VarHandle" ∧ (parseMethodDescriptor yX1_end.desc).map (fun d => d.parameters.length) = some 1 := by decide +kernel
theorem jX1_tells : znth gT mX1_tells = some iX1_tells := rfl
theorem oX1_tells : yX1_tells.cls ≠ "java/lang/invoke/MethodHandle" ∧ yX1_tells.cls ≠ "java/lang/invoke/VarHandle" ∧ (parseMethodDescriptor yX1_tells.desc).map (fun d => d.parameters.length) = some 1 := by decide +kernel
theorem jX1_begins : znth gT mX1_begins = some iX1_begins := rfl
theorem oX1_begins : yX1_begins.cls ≠ "java/lang/invoke/MethodHandle" ∧ yX1_begins.cls ≠ "java/lang/invoke/VarHandle" ∧ (parseMethodDescriptor yX1_begins.desc).map (fun d => d.parameters.length) = some 0 := by decide +kernel
theorem jX1_thingsTold : znth gT mX1_thingsTold = some iX1_thingsTold := rfl
theorem oX1_thingsTold : yX1_thingsTold.cls ≠ "java/lang/invoke/MethodHandle" ∧ yX1_thingsTold.cls ≠ "java/lang/invoke/VarHandle" ∧ (parseMethodDescriptor yX1_thingsTold.desc).map (fun d => d.parameters.length) = some 0 := by decide +kernel
theorem jX1_numberTold : znth gT mX1_numberTold = some iX1_numberTold := rfl
theorem oX1_numberTold : yX1_numberTold.cls ≠ "java/lang/invoke/MethodHandle" ∧ yX1_numberTold.cls ≠ "java/lang/invoke/VarHandle" ∧ (parseMethodDescriptor yX1_numberTold.desc).map (fun d => d.parameters.length) = some 0 := by decide +kernel
theorem jX1_takes : znth gT mX1_takes = some iX1_takes := rfl
theorem oX1_takes : yX1_takes.cls ≠ "java/lang/invoke/MethodHandle" ∧ yX1_takes.cls ≠ "java/lang/invoke/VarHandle" ∧ (parseMethodDescriptor yX1_takes.desc).map (fun d => d.parameters.length) = some 1 := by decide +kernel
theorem jX1_isDigit : znth gT mX1_isDigit = some iX1_isDigit := rfl
theorem oX1_isDigit : yX1_isDigit.cls ≠ "java/lang/invoke/MethodHandle" ∧ yX1_isDigit.cls ≠ "java/lang/invoke/VarHandle" ∧ (parseMethodDescriptor yX1_isDigit.desc).map (fun d => d.parameters.length) = some 0 := by decide +kernel
theorem jX1_must : znth gT mX1_must = some iX1_must := rfl
theorem oX1_must : yX1_must.cls ≠ "java/lang/invoke/MethodHandle" ∧ yX1_must.cls ≠ "java/lang/invoke/VarHandle" ∧ (parseMethodDescriptor yX1_must.desc).map (fun d => d.parameters.length) = some 1 := by decide +kernel
theorem jX1_wrong : znth gT mX1_wrong = some iX1_wrong := rfl
theorem oX1_wrong : yX1_wrong.cls ≠ "java/lang/invoke/MethodHandle" ∧ yX1_wrong.cls ≠ "java/lang/invoke/VarHandle" ∧ (parseMethodDescriptor yX1_wrong.desc).map (fun d => d.parameters.length) = some 0 := by decide +kernel
theorem jX1_replays : znth gT mX1_replays = some iX1_replays := rfl
theorem oX1_replays : yX1_replays.cls ≠ "java/lang/invoke/MethodHandle" ∧ yX1_replays.cls ≠ "java/lang/invoke/VarHandle" ∧ (parseMethodDescriptor yX1_replays.desc).map (fun d => d.parameters.length) = some 1 := by decide +kernel
theorem jX1_takes_2 : znth gT mX1_takes_2 = some iX1_takes_2 := rfl
theorem oX1_takes_2 : yX1_takes_2.cls ≠ "java/lang/invoke/MethodHandle" ∧ yX1_takes_2.cls ≠ "java/lang/invoke/VarHandle" ∧ (parseMethodDescriptor yX1_takes_2.desc).map (fun d => d.parameters.length) = some 2 := by decide +kernel
theorem jX1_dense : znth gT mX1_dense = some iX1_dense := rfl
theorem oX1_dense : yX1_dense.cls ≠ "java/lang/invoke/MethodHandle" ∧ yX1_dense.cls ≠ "java/lang/invoke/VarHandle" ∧ (parseMethodDescriptor yX1_dense.desc).map (fun d => d.parameters.length) = some 1 := by decide +kernel
theorem jX1_filled : znth gT mX1_filled = some iX1_filled := rfl
theorem oX1_filled : yX1_filled.cls ≠ "java/lang/invoke/MethodHandle" ∧ yX1_filled.cls ≠ "java/lang/invoke/VarHandle" ∧ (parseMethodDescriptor yX1_filled.desc).map (fun d => d.parameters.length) = some 1 := by decide +kernel
theorem jX1_folds : znth gT mX1_folds = some iX1_folds := rfl
theorem oX1_folds : yX1_folds.cls ≠ "java/lang/invoke/MethodHandle" ∧ yX1_folds.cls ≠ "java/lang/invoke/VarHandle" ∧ (parseMethodDescriptor yX1_folds.desc).map (fun d => d.parameters.length) = some 2 := by decide +kernel
theorem jX1_copies : znth gT mX1_copies = some iX1_copies := rfl
theorem oX1_copies : yX1_copies.cls ≠ "java/lang/invoke/MethodHandle" ∧ yX1_copies.cls ≠ "java/lang/invoke/VarHandle" ∧ (parseMethodDescriptor yX1_copies.desc).map (fun d => d.parameters.length) = some 2 := by decide +kernel
theorem jX1_joined : znth gT mX1_joined = some iX1_joined := rfl
theorem oX1_joined : yX1_joined.cls ≠ "java/lang/invoke/MethodHandle" ∧ yX1_joined.cls ≠ "java/lang/invoke/VarHandle" ∧ (parseMethodDescriptor yX1_joined.desc).map (fun d => d.parameters.length) = some 1 := by decide +kernel
theorem jX1_becomes : znth gT mX1_becomes = some iX1_becomes := rfl
theorem oX1_becomes : yX1_becomes.cls ≠ "java/lang/invoke/MethodHandle" ∧ yX1_becomes.cls ≠ "java/lang/invoke/VarHandle" ∧ (parseMethodDescriptor yX1_becomes.desc).map (fun d => d.parameters.length) = some 2 := by decide +kernel
theorem jX1_joins : znth gT mX1_joins = some iX1_joins := rfl
theorem oX1_joins : yX1_joins.cls ≠ "java/lang/invoke/MethodHandle" ∧ yX1_joins.cls ≠ "java/lang/invoke/VarHandle" ∧ (parseMethodDescriptor yX1_joins.desc).map (fun d => d.parameters.length) = some 3 := by decide +kernel
theorem jX1_gathers : znth gT mX1_gathers = some iX1_gathers := rfl
theorem oX1_gathers : yX1_gathers.cls ≠ "java/lang/invoke/MethodHandle" ∧ yX1_gathers.cls ≠ "java/lang/invoke/VarHandle" ∧ (parseMethodDescriptor yX1_gathers.desc).map (fun d => d.parameters.length) = some 2 := by decide +kernel
theorem jX1_isSet : znth gT mX1_isSet = some iX1_isSet := rfl
theorem oX1_isSet : yX1_isSet.cls ≠ "java/lang/invoke/MethodHandle" ∧ yX1_isSet.cls ≠ "java/lang/invoke/VarHandle" ∧ (parseMethodDescriptor yX1_isSet.desc).map (fun d => d.parameters.length) = some 1 := by decide +kernel
theorem jX1_those : znth gT mX1_those = some iX1_those := rfl
theorem oX1_those : yX1_those.cls ≠ "java/lang/invoke/MethodHandle" ∧ yX1_those.cls ≠ "java/lang/invoke/VarHandle" ∧ (parseMethodDescriptor yX1_those.desc).map (fun d => d.parameters.length) = some 1 := by decide +kernel
theorem jX1_puts : znth gT mX1_puts = some iX1_puts := rfl
theorem oX1_puts : yX1_puts.cls ≠ "java/lang/invoke/MethodHandle" ∧ yX1_puts.cls ≠ "java/lang/invoke/VarHandle" ∧ (parseMethodDescriptor yX1_puts.desc).map (fun d => d.parameters.length) = some 3 := by decide +kernel
theorem jX1_rankIn : znth gT mX1_rankIn = some iX1_rankIn := rfl
theorem oX1_rankIn : yX1_rankIn.cls ≠ "java/lang/invoke/MethodHandle" ∧ yX1_rankIn.cls ≠ "java/lang/invoke/VarHandle" ∧ (parseMethodDescriptor yX1_rankIn.desc).map (fun d => d.parameters.length) = some 2 := by decide +kernel
theorem jX1_swaps : znth gT mX1_swaps = some iX1_swaps := rfl
theorem oX1_swaps : yX1_swaps.cls ≠ "java/lang/invoke/MethodHandle" ∧ yX1_swaps.cls ≠ "java/lang/invoke/VarHandle" ∧ (parseMethodDescriptor yX1_swaps.desc).map (fun d => d.parameters.length) = some 2 := by decide +kernel
theorem jX1_keeps : znth gT mX1_keeps = some iX1_keeps := rfl
theorem oX1_keeps : yX1_keeps.cls ≠ "java/lang/invoke/MethodHandle" ∧ yX1_keeps.cls ≠ "java/lang/invoke/VarHandle" ∧ (parseMethodDescriptor yX1_keeps.desc).map (fun d => d.parameters.length) = some 3 := by decide +kernel
theorem jX1_lambda_keeps_0 : znth gT mX1_lambda_keeps_0 = some iX1_lambda_keeps_0 := rfl
theorem oX1_lambda_keeps_0 : yX1_lambda_keeps_0.cls ≠ "java/lang/invoke/MethodHandle" ∧ yX1_lambda_keeps_0.cls ≠ "java/lang/invoke/VarHandle" ∧ (parseMethodDescriptor yX1_lambda_keeps_0.desc).map (fun d => d.parameters.length) = some 2 := by decide +kernel
theorem jX1_picked : znth gT mX1_picked = some iX1_picked := rfl
theorem oX1_picked : yX1_picked.cls ≠ "java/lang/invoke/MethodHandle" ∧ yX1_picked.cls ≠ "java/lang/invoke/VarHandle" ∧ (parseMethodDescriptor yX1_picked.desc).map (fun d => d.parameters.length) = some 4 := by decide +kernel
theorem jX1_less : znth gT mX1_less = some iX1_less := rfl
theorem oX1_less : yX1_less.cls ≠ "java/lang/invoke/MethodHandle" ∧ yX1_less.cls ≠ "java/lang/invoke/VarHandle" ∧ (parseMethodDescriptor yX1_less.desc).map (fun d => d.parameters.length) = some 3 := by decide +kernel
theorem jX1_lambda_less_1 : znth gT mX1_lambda_less_1 = some iX1_lambda_less_1 := rfl
theorem oX1_lambda_less_1 : yX1_lambda_less_1.cls ≠ "java/lang/invoke/MethodHandle" ∧ yX1_lambda_less_1.cls ≠ "java/lang/invoke/VarHandle" ∧ (parseMethodDescriptor yX1_lambda_less_1.desc).map (fun d => d.parameters.length) = some 2 := by decide +kernel
theorem jX1_splits : znth gT mX1_splits = some iX1_splits := rfl
theorem oX1_splits : yX1_splits.cls ≠ "java/lang/invoke/MethodHandle" ∧ yX1_splits.cls ≠ "java/lang/invoke/VarHandle" ∧ (parseMethodDescriptor yX1_splits.desc).map (fun d => d.parameters.length) = some 3 := by decide +kernel
theorem jX1_lambda_splits_2 : znth gT mX1_lambda_splits_2 = some iX1_lambda_splits_2 := rfl
theorem oX1_lambda_splits_2 : yX1_lambda_splits_2.cls ≠ "java/lang/invoke/MethodHandle" ∧ yX1_lambda_splits_2.cls ≠ "java/lang/invoke/VarHandle" ∧ (parseMethodDescriptor yX1_lambda_splits_2.desc).map (fun d => d.parameters.length) = some 1 := by decide +kernel
theorem jX1_lambda_splits_3 : znth gT mX1_lambda_splits_3 = some iX1_lambda_splits_3 := rfl
theorem oX1_lambda_splits_3 : yX1_lambda_splits_3.cls ≠ "java/lang/invoke/MethodHandle" ∧ yX1_lambda_splits_3.cls ≠ "java/lang/invoke/VarHandle" ∧ (parseMethodDescriptor yX1_lambda_splits_3.desc).map (fun d => d.parameters.length) = some 1 := by decide +kernel
theorem jX1_guess : znth gT mX1_guess = some iX1_guess := rfl
theorem oX1_guess : yX1_guess.cls ≠ "java/lang/invoke/MethodHandle" ∧ yX1_guess.cls ≠ "java/lang/invoke/VarHandle" ∧ (parseMethodDescriptor yX1_guess.desc).map (fun d => d.parameters.length) = some 1 := by decide +kernel
theorem jX1_roughly : znth gT mX1_roughly = some iX1_roughly := rfl
theorem oX1_roughly : yX1_roughly.cls ≠ "java/lang/invoke/MethodHandle" ∧ yX1_roughly.cls ≠ "java/lang/invoke/VarHandle" ∧ (parseMethodDescriptor yX1_roughly.desc).map (fun d => d.parameters.length) = some 1 := by decide +kernel
theorem jX1_form : znth gT mX1_form = some iX1_form := rfl
theorem oX1_form : yX1_form.cls ≠ "java/lang/invoke/MethodHandle" ∧ yX1_form.cls ≠ "java/lang/invoke/VarHandle" ∧ (parseMethodDescriptor yX1_form.desc).map (fun d => d.parameters.length) = some 2 := by decide +kernel
theorem jX1_rank : znth gT mX1_rank = some iX1_rank := rfl
theorem oX1_rank : yX1_rank.cls ≠ "java/lang/invoke/MethodHandle" ∧ yX1_rank.cls ≠ "java/lang/invoke/VarHandle" ∧ (parseMethodDescriptor yX1_rank.desc).map (fun d => d.parameters.length) = some 2 := by decide +kernel
theorem jX1_isPlace : znth gT mX1_isPlace = some iX1_isPlace := rfl
theorem oX1_isPlace : yX1_isPlace.cls ≠ "java/lang/invoke/MethodHandle" ∧ yX1_isPlace.cls ≠ "java/lang/invoke/VarHandle" ∧ (parseMethodDescriptor yX1_isPlace.desc).map (fun d => d.parameters.length) = some 2 := by decide +kernel
theorem jX1_ranks : znth gT mX1_ranks = some iX1_ranks := rfl
theorem oX1_ranks : yX1_ranks.cls ≠ "java/lang/invoke/MethodHandle" ∧ yX1_ranks.cls ≠ "java/lang/invoke/VarHandle" ∧ (parseMethodDescriptor yX1_ranks.desc).map (fun d => d.parameters.length) = some 2 := by decide +kernel
theorem jX1_marked : znth gT mX1_marked = some iX1_marked := rfl
theorem oX1_marked : yX1_marked.cls ≠ "java/lang/invoke/MethodHandle" ∧ yX1_marked.cls ≠ "java/lang/invoke/VarHandle" ∧ (parseMethodDescriptor yX1_marked.desc).map (fun d => d.parameters.length) = some 2 := by decide +kernel
theorem jX1_may : znth gT mX1_may = some iX1_may := rfl
theorem oX1_may : yX1_may.cls ≠ "java/lang/invoke/MethodHandle" ∧ yX1_may.cls ≠ "java/lang/invoke/VarHandle" ∧ (parseMethodDescriptor yX1_may.desc).map (fun d => d.parameters.length) = some 2 := by decide +kernel
theorem jX1_first : znth gT mX1_first = some iX1_first := rfl
theorem oX1_first : yX1_first.cls ≠ "java/lang/invoke/MethodHandle" ∧ yX1_first.cls ≠ "java/lang/invoke/VarHandle" ∧ (parseMethodDescriptor yX1_first.desc).map (fun d => d.parameters.length) = some 4 := by decide +kernel
theorem jX1_bits : znth gT mX1_bits = some iX1_bits := rfl
theorem oX1_bits : yX1_bits.cls ≠ "java/lang/invoke/MethodHandle" ∧ yX1_bits.cls ≠ "java/lang/invoke/VarHandle" ∧ (parseMethodDescriptor yX1_bits.desc).map (fun d => d.parameters.length) = some 2 := by decide +kernel
theorem jX1_slice : znth gT mX1_slice = some iX1_slice := rfl
theorem oX1_slice : yX1_slice.cls ≠ "java/lang/invoke/MethodHandle" ∧ yX1_slice.cls ≠ "java/lang/invoke/VarHandle" ∧ (parseMethodDescriptor yX1_slice.desc).map (fun d => d.parameters.length) = some 3 := by decide +kernel
theorem jX1_lambda_slice_4 : znth gT mX1_lambda_slice_4 = some iX1_lambda_slice_4 := rfl
theorem oX1_lambda_slice_4 : yX1_lambda_slice_4.cls ≠ "java/lang/invoke/MethodHandle" ∧ yX1_lambda_slice_4.cls ≠ "java/lang/invoke/VarHandle" ∧ (parseMethodDescriptor yX1_lambda_slice_4.desc).map (fun d => d.parameters.length) = some 5 := by decide +kernel
theorem jX1_runsOf : znth gT mX1_runsOf = some iX1_runsOf := rfl
theorem oX1_runsOf : yX1_runsOf.cls ≠ "java/lang/invoke/MethodHandle" ∧ yX1_runsOf.cls ≠ "java/lang/invoke/VarHandle" ∧ (parseMethodDescriptor yX1_runsOf.desc).map (fun d => d.parameters.length) = some 1 := by decide +kernel
theorem jX1_gap : znth gT mX1_gap = some iX1_gap := rfl
theorem oX1_gap : yX1_gap.cls ≠ "java/lang/invoke/MethodHandle" ∧ yX1_gap.cls ≠ "java/lang/invoke/VarHandle" ∧ (parseMethodDescriptor yX1_gap.desc).map (fun d => d.parameters.length) = some 1 := by decide +kernel
theorem jX1_table : znth gT mX1_table = some iX1_table := rfl
theorem oX1_table : yX1_table.cls ≠ "java/lang/invoke/MethodHandle" ∧ yX1_table.cls ≠ "java/lang/invoke/VarHandle" ∧ (parseMethodDescriptor yX1_table.desc).map (fun d => d.parameters.length) = some 2 := by decide +kernel
theorem jX1_all : znth gT mX1_all = some iX1_all := rfl
theorem oX1_all : yX1_all.cls ≠ "java/lang/invoke/MethodHandle" ∧ yX1_all.cls ≠ "java/lang/invoke/VarHandle" ∧ (parseMethodDescriptor yX1_all.desc).map (fun d => d.parameters.length) = some 1 := by decide +kernel
theorem jX1_lacks : znth gT mX1_lacks = some iX1_lacks := rfl
theorem oX1_lacks : yX1_lacks.cls ≠ "java/lang/invoke/MethodHandle" ∧ yX1_lacks.cls ≠ "java/lang/invoke/VarHandle" ∧ (parseMethodDescriptor yX1_lacks.desc).map (fun d => d.parameters.length) = some 2 := by decide +kernel
theorem jX1_common : znth gT mX1_common = some iX1_common := rfl
theorem oX1_common : yX1_common.cls ≠ "java/lang/invoke/MethodHandle" ∧ yX1_common.cls ≠ "java/lang/invoke/VarHandle" ∧ (parseMethodDescriptor yX1_common.desc).map (fun d => d.parameters.length) = some 2 := by decide +kernel
theorem jX1_guessOf : znth gT mX1_guessOf = some iX1_guessOf := rfl
theorem oX1_guessOf : yX1_guessOf.cls ≠ "java/lang/invoke/MethodHandle" ∧ yX1_guessOf.cls ≠ "java/lang/invoke/VarHandle" ∧ (parseMethodDescriptor yX1_guessOf.desc).map (fun d => d.parameters.length) = some 1 := by decide +kernel
theorem jX1_commonOf : znth gT mX1_commonOf = some iX1_commonOf := rfl
theorem oX1_commonOf : yX1_commonOf.cls ≠ "java/lang/invoke/MethodHandle" ∧ yX1_commonOf.cls ≠ "java/lang/invoke/VarHandle" ∧ (parseMethodDescriptor yX1_commonOf.desc).map (fun d => d.parameters.length) = some 2 := by decide +kernel
theorem jX1_alone : znth gT mX1_alone = some iX1_alone := rfl
theorem oX1_alone : yX1_alone.cls ≠ "java/lang/invoke/MethodHandle" ∧ yX1_alone.cls ≠ "java/lang/invoke/VarHandle" ∧ (parseMethodDescriptor yX1_alone.desc).map (fun d => d.parameters.length) = some 2 := by decide +kernel
theorem jX1_alike : znth gT mX1_alike = some iX1_alike := rfl
theorem oX1_alike : yX1_alike.cls ≠ "java/lang/invoke/MethodHandle" ∧ yX1_alike.cls ≠ "java/lang/invoke/VarHandle" ∧ (parseMethodDescriptor yX1_alike.desc).map (fun d => d.parameters.length) = some 2 := by decide +kernel
theorem jX1_alikeOf : znth gT mX1_alikeOf = some iX1_alikeOf := rfl
theorem oX1_alikeOf : yX1_alikeOf.cls ≠ "java/lang/invoke/MethodHandle" ∧ yX1_alikeOf.cls ≠ "java/lang/invoke/VarHandle" ∧ (parseMethodDescriptor yX1_alikeOf.desc).map (fun d => d.parameters.length) = some 2 := by decide +kernel
theorem jX1_nearest : znth gT mX1_nearest = some iX1_nearest := rfl
theorem oX1_nearest : yX1_nearest.cls ≠ "java/lang/invoke/MethodHandle" ∧ yX1_nearest.cls ≠ "java/lang/invoke/VarHandle" ∧ (parseMethodDescriptor yX1_nearest.desc).map (fun d => d.parameters.length) = some 1 := by decide +kernel
theorem jX1_meet : znth gT mX1_meet = some iX1_meet := rfl
theorem oX1_meet : yX1_meet.cls ≠ "java/lang/invoke/MethodHandle" ∧ yX1_meet.cls ≠ "java/lang/invoke/VarHandle" ∧ (parseMethodDescriptor yX1_meet.desc).map (fun d => d.parameters.length) = some 1 := by decide +kernel
theorem jX1_lambda_meet_5 : znth gT mX1_lambda_meet_5 = some iX1_lambda_meet_5 := rfl
theorem oX1_lambda_meet_5 : yX1_lambda_meet_5.cls ≠ "java/lang/invoke/MethodHandle" ∧ yX1_lambda_meet_5.cls ≠ "java/lang/invoke/VarHandle" ∧ (parseMethodDescriptor yX1_lambda_meet_5.desc).map (fun d => d.parameters.length) = some 2 := by decide +kernel
theorem jX1_eachPart : znth gT mX1_eachPart = some iX1_eachPart := rfl
theorem oX1_eachPart : yX1_eachPart.cls ≠ "java/lang/invoke/MethodHandle" ∧ yX1_eachPart.cls ≠ "java/lang/invoke/VarHandle" ∧ (parseMethodDescriptor yX1_eachPart.desc).map (fun d => d.parameters.length) = some 2 := by decide +kernel
theorem jX1_unlike : znth gT mX1_unlike = some iX1_unlike := rfl
theorem oX1_unlike : yX1_unlike.cls ≠ "java/lang/invoke/MethodHandle" ∧ yX1_unlike.cls ≠ "java/lang/invoke/VarHandle" ∧ (parseMethodDescriptor yX1_unlike.desc).map (fun d => d.parameters.length) = some 2 := by decide +kernel
theorem jX1_foldedTo : znth gT mX1_foldedTo = some iX1_foldedTo := rfl
theorem oX1_foldedTo : yX1_foldedTo.cls ≠ "java/lang/invoke/MethodHandle" ∧ yX1_foldedTo.cls ≠ "java/lang/invoke/VarHandle" ∧ (parseMethodDescriptor yX1_foldedTo.desc).map (fun d => d.parameters.length) = some 2 := by decide +kernel
theorem jX1_apart : znth gT mX1_apart = some iX1_apart := rfl
theorem oX1_apart : yX1_apart.cls ≠ "java/lang/invoke/MethodHandle" ∧ yX1_apart.cls ≠ "java/lang/invoke/VarHandle" ∧ (parseMethodDescriptor yX1_apart.desc).map (fun d => d.parameters.length) = some 2 := by decide +kernel
theorem jX1_order : znth gT mX1_order = some iX1_order := rfl
theorem oX1_order : yX1_order.cls ≠ "java/lang/invoke/MethodHandle" ∧ yX1_order.cls ≠ "java/lang/invoke/VarHandle" ∧ (parseMethodDescriptor yX1_order.desc).map (fun d => d.parameters.length) = some 0 := by decide +kernel
theorem jX1_within : znth gT mX1_within = some iX1_within := rfl
theorem oX1_within : yX1_within.cls ≠ "java/lang/invoke/MethodHandle" ∧ yX1_within.cls ≠ "java/lang/invoke/VarHandle" ∧ (parseMethodDescriptor yX1_within.desc).map (fun d => d.parameters.length) = some 2 := by decide +kernel
theorem jX1_cover : znth gT mX1_cover = some iX1_cover := rfl
theorem oX1_cover : yX1_cover.cls ≠ "java/lang/invoke/MethodHandle" ∧ yX1_cover.cls ≠ "java/lang/invoke/VarHandle" ∧ (parseMethodDescriptor yX1_cover.desc).map (fun d => d.parameters.length) = some 1 := by decide +kernel
theorem jX1_lambda_cover_6 : znth gT mX1_lambda_cover_6 = some iX1_lambda_cover_6 := rfl
theorem oX1_lambda_cover_6 : yX1_lambda_cover_6.cls ≠ "java/lang/invoke/MethodHandle" ∧ yX1_lambda_cover_6.cls ≠ "java/lang/invoke/VarHandle" ∧ (parseMethodDescriptor yX1_lambda_cover_6.desc).map (fun d => d.parameters.length) = some 3 := by decide +kernel
theorem jX1_errs : znth gT mX1_errs = some iX1_errs := rfl
theorem oX1_errs : yX1_errs.cls ≠ "java/lang/invoke/MethodHandle" ∧ yX1_errs.cls ≠ "java/lang/invoke/VarHandle" ∧ (parseMethodDescriptor yX1_errs.desc).map (fun d => d.parameters.length) = some 4 := by decide +kernel
theorem jX1_areThings : znth gT mX1_areThings = some iX1_areThings := rfl
theorem oX1_areThings : yX1_areThings.cls ≠ "java/lang/invoke/MethodHandle" ∧ yX1_areThings.cls ≠ "java/lang/invoke/VarHandle" ∧ (parseMethodDescriptor yX1_areThings.desc).map (fun d => d.parameters.length) = some 2 := by decide +kernel
theorem jX1_empty : znth gT mX1_empty = some iX1_empty := rfl
theorem oX1_empty : yX1_empty.cls ≠ "java/lang/invoke/MethodHandle" ∧ yX1_empty.cls ≠ "java/lang/invoke/VarHandle" ∧ (parseMethodDescriptor yX1_empty.desc).map (fun d => d.parameters.length) = some 1 := by decide +kernel
theorem jX1_least : znth gT mX1_least = some iX1_least := rfl
theorem oX1_least : yX1_least.cls ≠ "java/lang/invoke/MethodHandle" ∧ yX1_least.cls ≠ "java/lang/invoke/VarHandle" ∧ (parseMethodDescriptor yX1_least.desc).map (fun d => d.parameters.length) = some 4 := by decide +kernel
theorem jX1_offBy : znth gT mX1_offBy = some iX1_offBy := rfl
theorem oX1_offBy : yX1_offBy.cls ≠ "java/lang/invoke/MethodHandle" ∧ yX1_offBy.cls ≠ "java/lang/invoke/VarHandle" ∧ (parseMethodDescriptor yX1_offBy.desc).map (fun d => d.parameters.length) = some 4 := by decide +kernel
theorem jX1_expects : znth gT mX1_expects = some iX1_expects := rfl
theorem oX1_expects : yX1_expects.cls ≠ "java/lang/invoke/MethodHandle" ∧ yX1_expects.cls ≠ "java/lang/invoke/VarHandle" ∧ (parseMethodDescriptor yX1_expects.desc).map (fun d => d.parameters.length) = some 2 := by decide +kernel
theorem jX1_things : znth gT mX1_things = some iX1_things := rfl
theorem oX1_things : yX1_things.cls ≠ "java/lang/invoke/MethodHandle" ∧ yX1_things.cls ≠ "java/lang/invoke/VarHandle" ∧ (parseMethodDescriptor yX1_things.desc).map (fun d => d.parameters.length) = some 2 := by decide +kernel
theorem jX1_would : znth gT mX1_would = some iX1_would := rfl
theorem oX1_would : yX1_would.cls ≠ "java/lang/invoke/MethodHandle" ∧ yX1_would.cls ≠ "java/lang/invoke/VarHandle" ∧ (parseMethodDescriptor yX1_would.desc).map (fun d => d.parameters.length) = some 4 := by decide +kernel
theorem jX1_reaches : znth gT mX1_reaches = some iX1_reaches := rfl
theorem oX1_reaches : yX1_reaches.cls ≠ "java/lang/invoke/MethodHandle" ∧ yX1_reaches.cls ≠ "java/lang/invoke/VarHandle" ∧ (parseMethodDescriptor yX1_reaches.desc).map (fun d => d.parameters.length) = some 4 := by decide +kernel
theorem jX1_over : znth gT mX1_over = some iX1_over := rfl
theorem oX1_over : yX1_over.cls ≠ "java/lang/invoke/MethodHandle" ∧ yX1_over.cls ≠ "java/lang/invoke/VarHandle" ∧ (parseMethodDescriptor yX1_over.desc).map (fun d => d.parameters.length) = some 1 := by decide +kernel
theorem jX1_chain : znth gT mX1_chain = some iX1_chain := rfl
theorem oX1_chain : yX1_chain.cls ≠ "java/lang/invoke/MethodHandle" ∧ yX1_chain.cls ≠ "java/lang/invoke/VarHandle" ∧ (parseMethodDescriptor yX1_chain.desc).map (fun d => d.parameters.length) = some 1 := by decide +kernel
theorem jX1_lessers : znth gT mX1_lessers = some iX1_lessers := rfl
theorem oX1_lessers : yX1_lessers.cls ≠ "java/lang/invoke/MethodHandle" ∧ yX1_lessers.cls ≠ "java/lang/invoke/VarHandle" ∧ (parseMethodDescriptor yX1_lessers.desc).map (fun d => d.parameters.length) = some 3 := by decide +kernel
theorem jX1_lambda_lessers_7 : znth gT mX1_lambda_lessers_7 = some iX1_lambda_lessers_7 := rfl
theorem oX1_lambda_lessers_7 : yX1_lambda_lessers_7.cls ≠ "java/lang/invoke/MethodHandle" ∧ yX1_lambda_lessers_7.cls ≠ "java/lang/invoke/VarHandle" ∧ (parseMethodDescriptor yX1_lambda_lessers_7.desc).map (fun d => d.parameters.length) = some 4 := by decide +kernel
theorem jX1_greedy : znth gT mX1_greedy = some iX1_greedy := rfl
theorem oX1_greedy : yX1_greedy.cls ≠ "java/lang/invoke/MethodHandle" ∧ yX1_greedy.cls ≠ "java/lang/invoke/VarHandle" ∧ (parseMethodDescriptor yX1_greedy.desc).map (fun d => d.parameters.length) = some 1 := by decide +kernel
theorem jX1_written : znth gT mX1_written = some iX1_written := rfl
theorem oX1_written : yX1_written.cls ≠ "java/lang/invoke/MethodHandle" ∧ yX1_written.cls ≠ "java/lang/invoke/VarHandle" ∧ (parseMethodDescriptor yX1_written.desc).map (fun d => d.parameters.length) = some 2 := by decide +kernel
theorem jX1_write : znth gT mX1_write = some iX1_write := rfl
theorem oX1_write : yX1_write.cls ≠ "java/lang/invoke/MethodHandle" ∧ yX1_write.cls ≠ "java/lang/invoke/VarHandle" ∧ (parseMethodDescriptor yX1_write.desc).map (fun d => d.parameters.length) = some 1 := by decide +kernel
theorem jX1_reads : znth gT mX1_reads = some iX1_reads := rfl
theorem oX1_reads : yX1_reads.cls ≠ "java/lang/invoke/MethodHandle" ∧ yX1_reads.cls ≠ "java/lang/invoke/VarHandle" ∧ (parseMethodDescriptor yX1_reads.desc).map (fun d => d.parameters.length) = some 1 := by decide +kernel
theorem jX1_signTold : znth gT mX1_signTold = some iX1_signTold := rfl
theorem oX1_signTold : yX1_signTold.cls ≠ "java/lang/invoke/MethodHandle" ∧ yX1_signTold.cls ≠ "java/lang/invoke/VarHandle" ∧ (parseMethodDescriptor yX1_signTold.desc).map (fun d => d.parameters.length) = some 1 := by decide +kernel
theorem jX1_limitTold : znth gT mX1_limitTold = some iX1_limitTold := rfl
theorem oX1_limitTold : yX1_limitTold.cls ≠ "java/lang/invoke/MethodHandle" ∧ yX1_limitTold.cls ≠ "java/lang/invoke/VarHandle" ∧ (parseMethodDescriptor yX1_limitTold.desc).map (fun d => d.parameters.length) = some 0 := by decide +kernel
theorem jX1_marksTold : znth gT mX1_marksTold = some iX1_marksTold := rfl
theorem oX1_marksTold : yX1_marksTold.cls ≠ "java/lang/invoke/MethodHandle" ∧ yX1_marksTold.cls ≠ "java/lang/invoke/VarHandle" ∧ (parseMethodDescriptor yX1_marksTold.desc).map (fun d => d.parameters.length) = some 1 := by decide +kernel
theorem jX1_count : znth gT mX1_count = some iX1_count := rfl
theorem oX1_count : yX1_count.cls ≠ "java/lang/invoke/MethodHandle" ∧ yX1_count.cls ≠ "java/lang/invoke/VarHandle" ∧ (parseMethodDescriptor yX1_count.desc).map (fun d => d.parameters.length) = some 1 := by decide +kernel
theorem jX1_lambda_count_8 : znth gT mX1_lambda_count_8 = some iX1_lambda_count_8 := rfl
theorem oX1_lambda_count_8 : yX1_lambda_count_8.cls ≠ "java/lang/invoke/MethodHandle" ∧ yX1_lambda_count_8.cls ≠ "java/lang/invoke/VarHandle" ∧ (parseMethodDescriptor yX1_lambda_count_8.desc).map (fun d => d.parameters.length) = some 1 := by decide +kernel
theorem jX1_setOf : znth gT mX1_setOf = some iX1_setOf := rfl
theorem oX1_setOf : yX1_setOf.cls ≠ "java/lang/invoke/MethodHandle" ∧ yX1_setOf.cls ≠ "java/lang/invoke/VarHandle" ∧ (parseMethodDescriptor yX1_setOf.desc).map (fun d => d.parameters.length) = some 1 := by decide +kernel
theorem jX1_lambda_count_9 : znth gT mX1_lambda_count_9 = some iX1_lambda_count_9 := rfl
theorem oX1_lambda_count_9 : yX1_lambda_count_9.cls ≠ "java/lang/invoke/MethodHandle" ∧ yX1_lambda_count_9.cls ≠ "java/lang/invoke/VarHandle" ∧ (parseMethodDescriptor yX1_lambda_count_9.desc).map (fun d => d.parameters.length) = some 1 := by decide +kernel
theorem jX1_lambda_count_10 : znth gT mX1_lambda_count_10 = some iX1_lambda_count_10 := rfl
theorem oX1_lambda_count_10 : yX1_lambda_count_10.cls ≠ "java/lang/invoke/MethodHandle" ∧ yX1_lambda_count_10.cls ≠ "java/lang/invoke/VarHandle" ∧ (parseMethodDescriptor yX1_lambda_count_10.desc).map (fun d => d.parameters.length) = some 1 := by decide +kernel
theorem jX1_sumOf : znth gT mX1_sumOf = some iX1_sumOf := rfl
theorem oX1_sumOf : yX1_sumOf.cls ≠ "java/lang/invoke/MethodHandle" ∧ yX1_sumOf.cls ≠ "java/lang/invoke/VarHandle" ∧ (parseMethodDescriptor yX1_sumOf.desc).map (fun d => d.parameters.length) = some 1 := by decide +kernel
theorem jX1_lambda_count_11 : znth gT mX1_lambda_count_11 = some iX1_lambda_count_11 := rfl
theorem oX1_lambda_count_11 : yX1_lambda_count_11.cls ≠ "java/lang/invoke/MethodHandle" ∧ yX1_lambda_count_11.cls ≠ "java/lang/invoke/VarHandle" ∧ (parseMethodDescriptor yX1_lambda_count_11.desc).map (fun d => d.parameters.length) = some 1 := by decide +kernel
theorem jX1_row : znth gT mX1_row = some iX1_row := rfl
theorem oX1_row : yX1_row.cls ≠ "java/lang/invoke/MethodHandle" ∧ yX1_row.cls ≠ "java/lang/invoke/VarHandle" ∧ (parseMethodDescriptor yX1_row.desc).map (fun d => d.parameters.length) = some 1 := by decide +kernel
theorem jX2_init : znth gT mX2_init = some iX2_init := rfl
theorem oX2_init : yX2_init.cls ≠ "java/lang/invoke/MethodHandle" ∧ yX2_init.cls ≠ "java/lang/invoke/VarHandle" ∧ (parseMethodDescriptor yX2_init.desc).map (fun d => d.parameters.length) = some 3 := by decide +kernel
theorem jX2_m : znth gT mX2_m = some iX2_m := rfl
theorem oX2_m : yX2_m.cls ≠ "java/lang/invoke/MethodHandle" ∧ yX2_m.cls ≠ "java/lang/invoke/VarHandle" ∧ (parseMethodDescriptor yX2_m.desc).map (fun d => d.parameters.length) = some 0 := by decide +kernel
theorem jX2_adds : znth gT mX2_adds = some iX2_adds := rfl
theorem oX2_adds : yX2_adds.cls ≠ "java/lang/invoke/MethodHandle" ∧ yX2_adds.cls ≠ "java/lang/invoke/VarHandle" ∧ (parseMethodDescriptor yX2_adds.desc).map (fun d => d.parameters.length) = some 1 := by decide +kernel
theorem jX2_raises : znth gT mX2_raises = some iX2_raises := rfl
theorem oX2_raises : yX2_raises.cls ≠ "java/lang/invoke/MethodHandle" ∧ yX2_raises.cls ≠ "java/lang/invoke/VarHandle" ∧ (parseMethodDescriptor yX2_raises.desc).map (fun d => d.parameters.length) = some 1 := by decide +kernel
theorem jX2_raises_2 : znth gT mX2_raises_2 = some iX2_raises_2 := rfl
theorem oX2_raises_2 : yX2_raises_2.cls ≠ "java/lang/invoke/MethodHandle" ∧ yX2_raises_2.cls ≠ "java/lang/invoke/VarHandle" ∧ (parseMethodDescriptor yX2_raises_2.desc).map (fun d => d.parameters.length) = some 2 := by decide +kernel
theorem jX2_find : znth gT mX2_find = some iX2_find := rfl
theorem oX2_find : yX2_find.cls ≠ "java/lang/invoke/MethodHandle" ∧ yX2_find.cls ≠ "java/lang/invoke/VarHandle" ∧ (parseMethodDescriptor yX2_find.desc).map (fun d => d.parameters.length) = some 1 := by decide +kernel
theorem jX2_wouldChange : znth gT mX2_wouldChange = some iX2_wouldChange := rfl
theorem oX2_wouldChange : yX2_wouldChange.cls ≠ "java/lang/invoke/MethodHandle" ∧ yX2_wouldChange.cls ≠ "java/lang/invoke/VarHandle" ∧ (parseMethodDescriptor yX2_wouldChange.desc).map (fun d => d.parameters.length) = some 1 := by decide +kernel
theorem jX2_drops : znth gT mX2_drops = some iX2_drops := rfl
theorem oX2_drops : yX2_drops.cls ≠ "java/lang/invoke/MethodHandle" ∧ yX2_drops.cls ≠ "java/lang/invoke/VarHandle" ∧ (parseMethodDescriptor yX2_drops.desc).map (fun d => d.parameters.length) = some 1 := by decide +kernel
theorem jX2_empty : znth gT mX2_empty = some iX2_empty := rfl
theorem oX2_empty : yX2_empty.cls ≠ "java/lang/invoke/MethodHandle" ∧ yX2_empty.cls ≠ "java/lang/invoke/VarHandle" ∧ (parseMethodDescriptor yX2_empty.desc).map (fun d => d.parameters.length) = some 0 := by decide +kernel
theorem jX2_init_2 : znth gT mX2_init_2 = some iX2_init_2 := rfl
theorem oX2_init_2 : yX2_init_2.cls ≠ "java/lang/invoke/MethodHandle" ∧ yX2_init_2.cls ≠ "java/lang/invoke/VarHandle" ∧ (parseMethodDescriptor yX2_init_2.desc).map (fun d => d.parameters.length) = some 3 := by decide +kernel
theorem jX2_takes : znth gT mX2_takes = some iX2_takes := rfl
theorem oX2_takes : yX2_takes.cls ≠ "java/lang/invoke/MethodHandle" ∧ yX2_takes.cls ≠ "java/lang/invoke/VarHandle" ∧ (parseMethodDescriptor yX2_takes.desc).map (fun d => d.parameters.length) = some 1 := by decide +kernel
theorem jX2_lambda_takes_0 : znth gT mX2_lambda_takes_0 = some iX2_lambda_takes_0 := rfl
theorem oX2_lambda_takes_0 : yX2_lambda_takes_0.cls ≠ "java/lang/invoke/MethodHandle" ∧ yX2_lambda_takes_0.cls ≠ "java/lang/invoke/VarHandle" ∧ (parseMethodDescriptor yX2_lambda_takes_0.desc).map (fun d => d.parameters.length) = some 3 := by decide +kernel
theorem jX2_folded : znth gT mX2_folded = some iX2_folded := rfl
theorem oX2_folded : yX2_folded.cls ≠ "java/lang/invoke/MethodHandle" ∧ yX2_folded.cls ≠ "java/lang/invoke/VarHandle" ∧ (parseMethodDescriptor yX2_folded.desc).map (fun d => d.parameters.length) = some 3 := by decide +kernel
theorem jX2_each : znth gT mX2_each = some iX2_each := rfl
theorem oX2_each : yX2_each.cls ≠ "java/lang/invoke/MethodHandle" ∧ yX2_each.cls ≠ "java/lang/invoke/VarHandle" ∧ (parseMethodDescriptor yX2_each.desc).map (fun d => d.parameters.length) = some 1 := by decide +kernel
theorem jX2_guess : znth gT mX2_guess = some iX2_guess := rfl
theorem oX2_guess : yX2_guess.cls ≠ "java/lang/invoke/MethodHandle" ∧ yX2_guess.cls ≠ "java/lang/invoke/VarHandle" ∧ (parseMethodDescriptor yX2_guess.desc).map (fun d => d.parameters.length) = some 0 := by decide +kernel
theorem jX2_roughly : znth gT mX2_roughly = some iX2_roughly := rfl
theorem oX2_roughly : yX2_roughly.cls ≠ "java/lang/invoke/MethodHandle" ∧ yX2_roughly.cls ≠ "java/lang/invoke/VarHandle" ∧ (parseMethodDescriptor yX2_roughly.desc).map (fun d => d.parameters.length) = some 0 := by decide +kernel
theorem jX2_all : znth gT mX2_all = some iX2_all := rfl
theorem oX2_all : yX2_all.cls ≠ "java/lang/invoke/MethodHandle" ∧ yX2_all.cls ≠ "java/lang/invoke/VarHandle" ∧ (parseMethodDescriptor yX2_all.desc).map (fun d => d.parameters.length) = some 0 := by decide +kernel
theorem jX2_guessBy : znth gT mX2_guessBy = some iX2_guessBy := rfl
theorem oX2_guessBy : yX2_guessBy.cls ≠ "java/lang/invoke/MethodHandle" ∧ yX2_guessBy.cls ≠ "java/lang/invoke/VarHandle" ∧ (parseMethodDescriptor yX2_guessBy.desc).map (fun d => d.parameters.length) = some 2 := by decide +kernel
theorem jX2_isByTable : znth gT mX2_isByTable = some iX2_isByTable := rfl
theorem oX2_isByTable : yX2_isByTable.cls ≠ "java/lang/invoke/MethodHandle" ∧ yX2_isByTable.cls ≠ "java/lang/invoke/VarHandle" ∧ (parseMethodDescriptor yX2_isByTable.desc).map (fun d => d.parameters.length) = some 1 := by decide +kernel
theorem jX2_how : znth gT mX2_how = some iX2_how := rfl
theorem oX2_how : yX2_how.cls ≠ "java/lang/invoke/MethodHandle" ∧ yX2_how.cls ≠ "java/lang/invoke/VarHandle" ∧ (parseMethodDescriptor yX2_how.desc).map (fun d => d.parameters.length) = some 0 := by decide +kernel
theorem jX2_greatest : znth gT mX2_greatest = some iX2_greatest := rfl
theorem oX2_greatest : yX2_greatest.cls ≠ "java/lang/invoke/MethodHandle" ∧ yX2_greatest.cls ≠ "java/lang/invoke/VarHandle" ∧ (parseMethodDescriptor yX2_greatest.desc).map (fun d => d.parameters.length) = some 0 := by decide +kernel
theorem jX3_init : znth gT mX3_init = some iX3_init := rfl
theorem oX3_init : yX3_init.cls ≠ "java/lang/invoke/MethodHandle" ∧ yX3_init.cls ≠ "java/lang/invoke/VarHandle" ∧ (parseMethodDescriptor yX3_init.desc).map (fun d => d.parameters.length) = some 0 := by decide +kernel
theorem jX3_opensSlot : znth gT mX3_opensSlot = some iX3_opensSlot := rfl
theorem oX3_opensSlot : yX3_opensSlot.cls ≠ "java/lang/invoke/MethodHandle" ∧ yX3_opensSlot.cls ≠ "java/lang/invoke/VarHandle" ∧ (parseMethodDescriptor yX3_opensSlot.desc).map (fun d => d.parameters.length) = some 3 := by decide +kernel
theorem jX3_at : znth gT mX3_at = some iX3_at := rfl
theorem oX3_at : yX3_at.cls ≠ "java/lang/invoke/MethodHandle" ∧ yX3_at.cls ≠ "java/lang/invoke/VarHandle" ∧ (parseMethodDescriptor yX3_at.desc).map (fun d => d.parameters.length) = some 2 := by decide +kernel
theorem jX3_thrown : znth gT mX3_thrown = some iX3_thrown := rfl
theorem oX3_thrown : yX3_thrown.cls ≠ "java/lang/invoke/MethodHandle" ∧ yX3_thrown.cls ≠ "java/lang/invoke/VarHandle" ∧ (parseMethodDescriptor yX3_thrown.desc).map (fun d => d.parameters.length) = some 0 := by decide +kernel
theorem jX3_sign : znth gT mX3_sign = some iX3_sign := rfl
theorem oX3_sign : yX3_sign.cls ≠ "java/lang/invoke/MethodHandle" ∧ yX3_sign.cls ≠ "java/lang/invoke/VarHandle" ∧ (parseMethodDescriptor yX3_sign.desc).map (fun d => d.parameters.length) = some 1 := by decide +kernel
theorem jX3_end : znth gT mX3_end = some iX3_end := rfl
theorem oX3_end : yX3_end.cls ≠ "java/lang/invoke/MethodHandle" ∧ yX3_end.cls ≠ "java/lang/invoke/VarHandle" ∧ (parseMethodDescriptor yX3_end.desc).map (fun d => d.parameters.length) = some 1 := by decide +kernel
theorem jX3_in : znth gT mX3_in = some iX3_in := rfl
theorem oX3_in : yX3_in.cls ≠ "java/lang/invoke/MethodHandle" ∧ yX3_in.cls ≠ "java/lang/invoke/VarHandle" ∧ (parseMethodDescriptor yX3_in.desc).map (fun d => d.parameters.length) = some 3 := by decide +kernel
theorem jX3_mixes : znth gT mX3_mixes = some iX3_mixes := rfl
theorem oX3_mixes : yX3_mixes.cls ≠ "java/lang/invoke/MethodHandle" ∧ yX3_mixes.cls ≠ "java/lang/invoke/VarHandle" ∧ (parseMethodDescriptor yX3_mixes.desc).map (fun d => d.parameters.length) = some 2 := by decide +kernel
theorem jX3_mark : znth gT mX3_mark = some iX3_mark := rfl
theorem oX3_mark : yX3_mark.cls ≠ "java/lang/invoke/MethodHandle" ∧ yX3_mark.cls ≠ "java/lang/invoke/VarHandle" ∧ (parseMethodDescriptor yX3_mark.desc).map (fun d => d.parameters.length) = some 1 := by decide +kernel
theorem jX3_markOf : znth gT mX3_markOf = some iX3_markOf := rfl
theorem oX3_markOf : yX3_markOf.cls ≠ "java/lang/invoke/MethodHandle" ∧ yX3_markOf.cls ≠ "java/lang/invoke/VarHandle" ∧ (parseMethodDescriptor yX3_markOf.desc).map (fun d => d.parameters.length) = some 1 := by decide +kernel
theorem jX3_place : znth gT mX3_place = some iX3_place := rfl
theorem oX3_place : yX3_place.cls ≠ "java/lang/invoke/MethodHandle" ∧ yX3_place.cls ≠ "java/lang/invoke/VarHandle" ∧ (parseMethodDescriptor yX3_place.desc).map (fun d => d.parameters.length) = some 2 := by decide +kernel
theorem jX3_rankOf : znth gT mX3_rankOf = some iX3_rankOf := rfl
theorem oX3_rankOf : yX3_rankOf.cls ≠ "java/lang/invoke/MethodHandle" ∧ yX3_rankOf.cls ≠ "java/lang/invoke/VarHandle" ∧ (parseMethodDescriptor yX3_rankOf.desc).map (fun d => d.parameters.length) = some 2 := by decide +kernel
theorem jX3_tell : znth gT mX3_tell = some iX3_tell := rfl
theorem oX3_tell : yX3_tell.cls ≠ "java/lang/invoke/MethodHandle" ∧ yX3_tell.cls ≠ "java/lang/invoke/VarHandle" ∧ (parseMethodDescriptor yX3_tell.desc).map (fun d => d.parameters.length) = some 1 := by decide +kernel
theorem jX3_placeOf : znth gT mX3_placeOf = some iX3_placeOf := rfl
theorem oX3_placeOf : yX3_placeOf.cls ≠ "java/lang/invoke/MethodHandle" ∧ yX3_placeOf.cls ≠ "java/lang/invoke/VarHandle" ∧ (parseMethodDescriptor yX3_placeOf.desc).map (fun d => d.parameters.length) = some 2 := by decide +kernel
theorem jX3_opens : znth gT mX3_opens = some iX3_opens := rfl
theorem oX3_opens : yX3_opens.cls ≠ "java/lang/invoke/MethodHandle" ∧ yX3_opens.cls ≠ "java/lang/invoke/VarHandle" ∧ (parseMethodDescriptor yX3_opens.desc).map (fun d => d.parameters.length) = some 3 := by decide +kernel
theorem jX3_isCounter : znth gT mX3_isCounter = some iX3_isCounter := rfl
theorem oX3_isCounter : yX3_isCounter.cls ≠ "java/lang/invoke/MethodHandle" ∧ yX3_isCounter.cls ≠ "java/lang/invoke/VarHandle" ∧ (parseMethodDescriptor yX3_isCounter.desc).map (fun d => d.parameters.length) = some 1 := by decide +kernel
theorem jX3_places : znth gT mX3_places = some iX3_places := rfl
theorem oX3_places : yX3_places.cls ≠ "java/lang/invoke/MethodHandle" ∧ yX3_places.cls ≠ "java/lang/invoke/VarHandle" ∧ (parseMethodDescriptor yX3_places.desc).map (fun d => d.parameters.length) = some 1 := by decide +kernel
theorem jX3_adds : znth gT mX3_adds = some iX3_adds := rfl
theorem oX3_adds : yX3_adds.cls ≠ "java/lang/invoke/MethodHandle" ∧ yX3_adds.cls ≠ "java/lang/invoke/VarHandle" ∧ (parseMethodDescriptor yX3_adds.desc).map (fun d => d.parameters.length) = some 2 := by decide +kernel
theorem jX3_comes : znth gT mX3_comes = some iX3_comes := rfl
theorem oX3_comes : yX3_comes.cls ≠ "java/lang/invoke/MethodHandle" ∧ yX3_comes.cls ≠ "java/lang/invoke/VarHandle" ∧ (parseMethodDescriptor yX3_comes.desc).map (fun d => d.parameters.length) = some 2 := by decide +kernel
theorem jX3_raises : znth gT mX3_raises = some iX3_raises := rfl
theorem oX3_raises : yX3_raises.cls ≠ "java/lang/invoke/MethodHandle" ∧ yX3_raises.cls ≠ "java/lang/invoke/VarHandle" ∧ (parseMethodDescriptor yX3_raises.desc).map (fun d => d.parameters.length) = some 2 := by decide +kernel
theorem jX3_hasMark : znth gT mX3_hasMark = some iX3_hasMark := rfl
theorem oX3_hasMark : yX3_hasMark.cls ≠ "java/lang/invoke/MethodHandle" ∧ yX3_hasMark.cls ≠ "java/lang/invoke/VarHandle" ∧ (parseMethodDescriptor yX3_hasMark.desc).map (fun d => d.parameters.length) = some 2 := by decide +kernel
theorem jX3_insert : znth gT mX3_insert = some iX3_insert := rfl
theorem oX3_insert : yX3_insert.cls ≠ "java/lang/invoke/MethodHandle" ∧ yX3_insert.cls ≠ "java/lang/invoke/VarHandle" ∧ (parseMethodDescriptor yX3_insert.desc).map (fun d => d.parameters.length) = some 2 := by decide +kernel
theorem jX3_becomesDense : znth gT mX3_becomesDense = some iX3_becomesDense := rfl
theorem oX3_becomesDense : yX3_becomesDense.cls ≠ "java/lang/invoke/MethodHandle" ∧ yX3_becomesDense.cls ≠ "java/lang/invoke/VarHandle" ∧ (parseMethodDescriptor yX3_becomesDense.desc).map (fun d => d.parameters.length) = some 1 := by decide +kernel
theorem jX3_runs : znth gT mX3_runs = some iX3_runs := rfl
theorem oX3_runs : yX3_runs.cls ≠ "java/lang/invoke/MethodHandle" ∧ yX3_runs.cls ≠ "java/lang/invoke/VarHandle" ∧ (parseMethodDescriptor yX3_runs.desc).map (fun d => d.parameters.length) = some 4 := by decide +kernel
theorem jX3_runsInto : znth gT mX3_runsInto = some iX3_runsInto := rfl
theorem oX3_runsInto : yX3_runsInto.cls ≠ "java/lang/invoke/MethodHandle" ∧ yX3_runsInto.cls ≠ "java/lang/invoke/VarHandle" ∧ (parseMethodDescriptor yX3_runsInto.desc).map (fun d => d.parameters.length) = some 4 := by decide +kernel
theorem jX3_tells : znth gT mX3_tells = some iX3_tells := rfl
theorem oX3_tells : yX3_tells.cls ≠ "java/lang/invoke/MethodHandle" ∧ yX3_tells.cls ≠ "java/lang/invoke/VarHandle" ∧ (parseMethodDescriptor yX3_tells.desc).map (fun d => d.parameters.length) = some 1 := by decide +kernel
theorem jX3_begin : znth gT mX3_begin = some iX3_begin := rfl
theorem oX3_begin : yX3_begin.cls ≠ "java/lang/invoke/MethodHandle" ∧ yX3_begin.cls ≠ "java/lang/invoke/VarHandle" ∧ (parseMethodDescriptor yX3_begin.desc).map (fun d => d.parameters.length) = some 0 := by decide +kernel
theorem jX3_readsThings : znth gT mX3_readsThings = some iX3_readsThings := rfl
theorem oX3_readsThings : yX3_readsThings.cls ≠ "java/lang/invoke/MethodHandle" ∧ yX3_readsThings.cls ≠ "java/lang/invoke/VarHandle" ∧ (parseMethodDescriptor yX3_readsThings.desc).map (fun d => d.parameters.length) = some 0 := by decide +kernel
theorem jX3_readsNumber : znth gT mX3_readsNumber = some iX3_readsNumber := rfl
theorem oX3_readsNumber : yX3_readsNumber.cls ≠ "java/lang/invoke/MethodHandle" ∧ yX3_readsNumber.cls ≠ "java/lang/invoke/VarHandle" ∧ (parseMethodDescriptor yX3_readsNumber.desc).map (fun d => d.parameters.length) = some 0 := by decide +kernel
theorem jX3_sees : znth gT mX3_sees = some iX3_sees := rfl
theorem oX3_sees : yX3_sees.cls ≠ "java/lang/invoke/MethodHandle" ∧ yX3_sees.cls ≠ "java/lang/invoke/VarHandle" ∧ (parseMethodDescriptor yX3_sees.desc).map (fun d => d.parameters.length) = some 0 := by decide +kernel
theorem jX3_takes : znth gT mX3_takes = some iX3_takes := rfl
theorem oX3_takes : yX3_takes.cls ≠ "java/lang/invoke/MethodHandle" ∧ yX3_takes.cls ≠ "java/lang/invoke/VarHandle" ∧ (parseMethodDescriptor yX3_takes.desc).map (fun d => d.parameters.length) = some 2 := by decide +kernel
theorem jX3_laysRanks : znth gT mX3_laysRanks = some iX3_laysRanks := rfl
theorem oX3_laysRanks : yX3_laysRanks.cls ≠ "java/lang/invoke/MethodHandle" ∧ yX3_laysRanks.cls ≠ "java/lang/invoke/VarHandle" ∧ (parseMethodDescriptor yX3_laysRanks.desc).map (fun d => d.parameters.length) = some 1 := by decide +kernel
theorem jX3_dense : znth gT mX3_dense = some iX3_dense := rfl
theorem oX3_dense : yX3_dense.cls ≠ "java/lang/invoke/MethodHandle" ∧ yX3_dense.cls ≠ "java/lang/invoke/VarHandle" ∧ (parseMethodDescriptor yX3_dense.desc).map (fun d => d.parameters.length) = some 1 := by decide +kernel
theorem jX3_ranked : znth gT mX3_ranked = some iX3_ranked := rfl
theorem oX3_ranked : yX3_ranked.cls ≠ "java/lang/invoke/MethodHandle" ∧ yX3_ranked.cls ≠ "java/lang/invoke/VarHandle" ∧ (parseMethodDescriptor yX3_ranked.desc).map (fun d => d.parameters.length) = some 1 := by decide +kernel
theorem jX3_folds : znth gT mX3_folds = some iX3_folds := rfl
theorem oX3_folds : yX3_folds.cls ≠ "java/lang/invoke/MethodHandle" ∧ yX3_folds.cls ≠ "java/lang/invoke/VarHandle" ∧ (parseMethodDescriptor yX3_folds.desc).map (fun d => d.parameters.length) = some 2 := by decide +kernel
theorem jX3_foldsSlot : znth gT mX3_foldsSlot = some iX3_foldsSlot := rfl
theorem oX3_foldsSlot : yX3_foldsSlot.cls ≠ "java/lang/invoke/MethodHandle" ∧ yX3_foldsSlot.cls ≠ "java/lang/invoke/VarHandle" ∧ (parseMethodDescriptor yX3_foldsSlot.desc).map (fun d => d.parameters.length) = some 2 := by decide +kernel
theorem jX3_copies : znth gT mX3_copies = some iX3_copies := rfl
theorem oX3_copies : yX3_copies.cls ≠ "java/lang/invoke/MethodHandle" ∧ yX3_copies.cls ≠ "java/lang/invoke/VarHandle" ∧ (parseMethodDescriptor yX3_copies.desc).map (fun d => d.parameters.length) = some 2 := by decide +kernel
theorem jX3_copiesSlot : znth gT mX3_copiesSlot = some iX3_copiesSlot := rfl
theorem oX3_copiesSlot : yX3_copiesSlot.cls ≠ "java/lang/invoke/MethodHandle" ∧ yX3_copiesSlot.cls ≠ "java/lang/invoke/VarHandle" ∧ (parseMethodDescriptor yX3_copiesSlot.desc).map (fun d => d.parameters.length) = some 2 := by decide +kernel
theorem jX3_guessOf : znth gT mX3_guessOf = some iX3_guessOf := rfl
theorem oX3_guessOf : yX3_guessOf.cls ≠ "java/lang/invoke/MethodHandle" ∧ yX3_guessOf.cls ≠ "java/lang/invoke/VarHandle" ∧ (parseMethodDescriptor yX3_guessOf.desc).map (fun d => d.parameters.length) = some 1 := by decide +kernel
theorem jX3_denseGuess : znth gT mX3_denseGuess = some iX3_denseGuess := rfl
theorem oX3_denseGuess : yX3_denseGuess.cls ≠ "java/lang/invoke/MethodHandle" ∧ yX3_denseGuess.cls ≠ "java/lang/invoke/VarHandle" ∧ (parseMethodDescriptor yX3_denseGuess.desc).map (fun d => d.parameters.length) = some 1 := by decide +kernel
theorem jX3_zeros : znth gT mX3_zeros = some iX3_zeros := rfl
theorem oX3_zeros : yX3_zeros.cls ≠ "java/lang/invoke/MethodHandle" ∧ yX3_zeros.cls ≠ "java/lang/invoke/VarHandle" ∧ (parseMethodDescriptor yX3_zeros.desc).map (fun d => d.parameters.length) = some 1 := by decide +kernel
theorem jX3_allOf : znth gT mX3_allOf = some iX3_allOf := rfl
theorem oX3_allOf : yX3_allOf.cls ≠ "java/lang/invoke/MethodHandle" ∧ yX3_allOf.cls ≠ "java/lang/invoke/VarHandle" ∧ (parseMethodDescriptor yX3_allOf.desc).map (fun d => d.parameters.length) = some 1 := by decide +kernel
theorem jX3_guessBy : znth gT mX3_guessBy = some iX3_guessBy := rfl
theorem oX3_guessBy : yX3_guessBy.cls ≠ "java/lang/invoke/MethodHandle" ∧ yX3_guessBy.cls ≠ "java/lang/invoke/VarHandle" ∧ (parseMethodDescriptor yX3_guessBy.desc).map (fun d => d.parameters.length) = some 3 := by decide +kernel
theorem jX3_tableOf : znth gT mX3_tableOf = some iX3_tableOf := rfl
theorem oX3_tableOf : yX3_tableOf.cls ≠ "java/lang/invoke/MethodHandle" ∧ yX3_tableOf.cls ≠ "java/lang/invoke/VarHandle" ∧ (parseMethodDescriptor yX3_tableOf.desc).map (fun d => d.parameters.length) = some 2 := by decide +kernel
theorem jX3_alpha : znth gT mX3_alpha = some iX3_alpha := rfl
theorem oX3_alpha : yX3_alpha.cls ≠ "java/lang/invoke/MethodHandle" ∧ yX3_alpha.cls ≠ "java/lang/invoke/VarHandle" ∧ (parseMethodDescriptor yX3_alpha.desc).map (fun d => d.parameters.length) = some 1 := by decide +kernel
theorem jX3_joins : znth gT mX3_joins = some iX3_joins := rfl
theorem oX3_joins : yX3_joins.cls ≠ "java/lang/invoke/MethodHandle" ∧ yX3_joins.cls ≠ "java/lang/invoke/VarHandle" ∧ (parseMethodDescriptor yX3_joins.desc).map (fun d => d.parameters.length) = some 3 := by decide +kernel
theorem jX3_joinsTwo : znth gT mX3_joinsTwo = some iX3_joinsTwo := rfl
theorem oX3_joinsTwo : yX3_joinsTwo.cls ≠ "java/lang/invoke/MethodHandle" ∧ yX3_joinsTwo.cls ≠ "java/lang/invoke/VarHandle" ∧ (parseMethodDescriptor yX3_joinsTwo.desc).map (fun d => d.parameters.length) = some 2 := by decide +kernel
theorem jX3_joinsInto : znth gT mX3_joinsInto = some iX3_joinsInto := rfl
theorem oX3_joinsInto : yX3_joinsInto.cls ≠ "java/lang/invoke/MethodHandle" ∧ yX3_joinsInto.cls ≠ "java/lang/invoke/VarHandle" ∧ (parseMethodDescriptor yX3_joinsInto.desc).map (fun d => d.parameters.length) = some 2 := by decide +kernel
theorem jX3_gathers : znth gT mX3_gathers = some iX3_gathers := rfl
theorem oX3_gathers : yX3_gathers.cls ≠ "java/lang/invoke/MethodHandle" ∧ yX3_gathers.cls ≠ "java/lang/invoke/VarHandle" ∧ (parseMethodDescriptor yX3_gathers.desc).map (fun d => d.parameters.length) = some 2 := by decide +kernel
theorem jX3_isSet : znth gT mX3_isSet = some iX3_isSet := rfl
theorem oX3_isSet : yX3_isSet.cls ≠ "java/lang/invoke/MethodHandle" ∧ yX3_isSet.cls ≠ "java/lang/invoke/VarHandle" ∧ (parseMethodDescriptor yX3_isSet.desc).map (fun d => d.parameters.length) = some 1 := by decide +kernel
theorem jX3_joinsSet : znth gT mX3_joinsSet = some iX3_joinsSet := rfl
theorem oX3_joinsSet : yX3_joinsSet.cls ≠ "java/lang/invoke/MethodHandle" ∧ yX3_joinsSet.cls ≠ "java/lang/invoke/VarHandle" ∧ (parseMethodDescriptor yX3_joinsSet.desc).map (fun d => d.parameters.length) = some 1 := by decide +kernel
theorem jX3_puts : znth gT mX3_puts = some iX3_puts := rfl
theorem oX3_puts : yX3_puts.cls ≠ "java/lang/invoke/MethodHandle" ∧ yX3_puts.cls ≠ "java/lang/invoke/VarHandle" ∧ (parseMethodDescriptor yX3_puts.desc).map (fun d => d.parameters.length) = some 3 := by decide +kernel
theorem jX3_isRow : znth gT mX3_isRow = some iX3_isRow := rfl
theorem oX3_isRow : yX3_isRow.cls ≠ "java/lang/invoke/MethodHandle" ∧ yX3_isRow.cls ≠ "java/lang/invoke/VarHandle" ∧ (parseMethodDescriptor yX3_isRow.desc).map (fun d => d.parameters.length) = some 2 := by decide +kernel
theorem jX3_swaps : znth gT mX3_swaps = some iX3_swaps := rfl
theorem oX3_swaps : yX3_swaps.cls ≠ "java/lang/invoke/MethodHandle" ∧ yX3_swaps.cls ≠ "java/lang/invoke/VarHandle" ∧ (parseMethodDescriptor yX3_swaps.desc).map (fun d => d.parameters.length) = some 2 := by decide +kernel
theorem jX3_keeps : znth gT mX3_keeps = some iX3_keeps := rfl
theorem oX3_keeps : yX3_keeps.cls ≠ "java/lang/invoke/MethodHandle" ∧ yX3_keeps.cls ≠ "java/lang/invoke/VarHandle" ∧ (parseMethodDescriptor yX3_keeps.desc).map (fun d => d.parameters.length) = some 3 := by decide +kernel
theorem jX3_sieves : znth gT mX3_sieves = some iX3_sieves := rfl
theorem oX3_sieves : yX3_sieves.cls ≠ "java/lang/invoke/MethodHandle" ∧ yX3_sieves.cls ≠ "java/lang/invoke/VarHandle" ∧ (parseMethodDescriptor yX3_sieves.desc).map (fun d => d.parameters.length) = some 5 := by decide +kernel
theorem jX3_less : znth gT mX3_less = some iX3_less := rfl
theorem oX3_less : yX3_less.cls ≠ "java/lang/invoke/MethodHandle" ∧ yX3_less.cls ≠ "java/lang/invoke/VarHandle" ∧ (parseMethodDescriptor yX3_less.desc).map (fun d => d.parameters.length) = some 3 := by decide +kernel
theorem jX3_splits : znth gT mX3_splits = some iX3_splits := rfl
theorem oX3_splits : yX3_splits.cls ≠ "java/lang/invoke/MethodHandle" ∧ yX3_splits.cls ≠ "java/lang/invoke/VarHandle" ∧ (parseMethodDescriptor yX3_splits.desc).map (fun d => d.parameters.length) = some 3 := by decide +kernel
theorem jX3_guess : znth gT mX3_guess = some iX3_guess := rfl
theorem oX3_guess : yX3_guess.cls ≠ "java/lang/invoke/MethodHandle" ∧ yX3_guess.cls ≠ "java/lang/invoke/VarHandle" ∧ (parseMethodDescriptor yX3_guess.desc).map (fun d => d.parameters.length) = some 1 := by decide +kernel
theorem jX3_roughly : znth gT mX3_roughly = some iX3_roughly := rfl
theorem oX3_roughly : yX3_roughly.cls ≠ "java/lang/invoke/MethodHandle" ∧ yX3_roughly.cls ≠ "java/lang/invoke/VarHandle" ∧ (parseMethodDescriptor yX3_roughly.desc).map (fun d => d.parameters.length) = some 1 := by decide +kernel
theorem jX3_form : znth gT mX3_form = some iX3_form := rfl
theorem oX3_form : yX3_form.cls ≠ "java/lang/invoke/MethodHandle" ∧ yX3_form.cls ≠ "java/lang/invoke/VarHandle" ∧ (parseMethodDescriptor yX3_form.desc).map (fun d => d.parameters.length) = some 2 := by decide +kernel
theorem jX3_greatest : znth gT mX3_greatest = some iX3_greatest := rfl
theorem oX3_greatest : yX3_greatest.cls ≠ "java/lang/invoke/MethodHandle" ∧ yX3_greatest.cls ≠ "java/lang/invoke/VarHandle" ∧ (parseMethodDescriptor yX3_greatest.desc).map (fun d => d.parameters.length) = some 1 := by decide +kernel
theorem jX3_rank : znth gT mX3_rank = some iX3_rank := rfl
theorem oX3_rank : yX3_rank.cls ≠ "java/lang/invoke/MethodHandle" ∧ yX3_rank.cls ≠ "java/lang/invoke/VarHandle" ∧ (parseMethodDescriptor yX3_rank.desc).map (fun d => d.parameters.length) = some 2 := by decide +kernel
theorem jX3_ranks : znth gT mX3_ranks = some iX3_ranks := rfl
theorem oX3_ranks : yX3_ranks.cls ≠ "java/lang/invoke/MethodHandle" ∧ yX3_ranks.cls ≠ "java/lang/invoke/VarHandle" ∧ (parseMethodDescriptor yX3_ranks.desc).map (fun d => d.parameters.length) = some 2 := by decide +kernel
theorem jX3_marked : znth gT mX3_marked = some iX3_marked := rfl
theorem oX3_marked : yX3_marked.cls ≠ "java/lang/invoke/MethodHandle" ∧ yX3_marked.cls ≠ "java/lang/invoke/VarHandle" ∧ (parseMethodDescriptor yX3_marked.desc).map (fun d => d.parameters.length) = some 2 := by decide +kernel
theorem jX3_may : znth gT mX3_may = some iX3_may := rfl
theorem oX3_may : yX3_may.cls ≠ "java/lang/invoke/MethodHandle" ∧ yX3_may.cls ≠ "java/lang/invoke/VarHandle" ∧ (parseMethodDescriptor yX3_may.desc).map (fun d => d.parameters.length) = some 2 := by decide +kernel
theorem jX3_wouldChange : znth gT mX3_wouldChange = some iX3_wouldChange := rfl
theorem oX3_wouldChange : yX3_wouldChange.cls ≠ "java/lang/invoke/MethodHandle" ∧ yX3_wouldChange.cls ≠ "java/lang/invoke/VarHandle" ∧ (parseMethodDescriptor yX3_wouldChange.desc).map (fun d => d.parameters.length) = some 2 := by decide +kernel
theorem jX3_first : znth gT mX3_first = some iX3_first := rfl
theorem oX3_first : yX3_first.cls ≠ "java/lang/invoke/MethodHandle" ∧ yX3_first.cls ≠ "java/lang/invoke/VarHandle" ∧ (parseMethodDescriptor yX3_first.desc).map (fun d => d.parameters.length) = some 4 := by decide +kernel
theorem jX3_bits : znth gT mX3_bits = some iX3_bits := rfl
theorem oX3_bits : yX3_bits.cls ≠ "java/lang/invoke/MethodHandle" ∧ yX3_bits.cls ≠ "java/lang/invoke/VarHandle" ∧ (parseMethodDescriptor yX3_bits.desc).map (fun d => d.parameters.length) = some 2 := by decide +kernel
theorem jX3_slice : znth gT mX3_slice = some iX3_slice := rfl
theorem oX3_slice : yX3_slice.cls ≠ "java/lang/invoke/MethodHandle" ∧ yX3_slice.cls ≠ "java/lang/invoke/VarHandle" ∧ (parseMethodDescriptor yX3_slice.desc).map (fun d => d.parameters.length) = some 3 := by decide +kernel
theorem jX3_runsOf : znth gT mX3_runsOf = some iX3_runsOf := rfl
theorem oX3_runsOf : yX3_runsOf.cls ≠ "java/lang/invoke/MethodHandle" ∧ yX3_runsOf.cls ≠ "java/lang/invoke/VarHandle" ∧ (parseMethodDescriptor yX3_runsOf.desc).map (fun d => d.parameters.length) = some 1 := by decide +kernel
theorem jX3_replays : znth gT mX3_replays = some iX3_replays := rfl
theorem oX3_replays : yX3_replays.cls ≠ "java/lang/invoke/MethodHandle" ∧ yX3_replays.cls ≠ "java/lang/invoke/VarHandle" ∧ (parseMethodDescriptor yX3_replays.desc).map (fun d => d.parameters.length) = some 1 := by decide +kernel
theorem jX3_gap : znth gT mX3_gap = some iX3_gap := rfl
theorem oX3_gap : yX3_gap.cls ≠ "java/lang/invoke/MethodHandle" ∧ yX3_gap.cls ≠ "java/lang/invoke/VarHandle" ∧ (parseMethodDescriptor yX3_gap.desc).map (fun d => d.parameters.length) = some 1 := by decide +kernel
theorem jX3_chain : znth gT mX3_chain = some iX3_chain := rfl
theorem oX3_chain : yX3_chain.cls ≠ "java/lang/invoke/MethodHandle" ∧ yX3_chain.cls ≠ "java/lang/invoke/VarHandle" ∧ (parseMethodDescriptor yX3_chain.desc).map (fun d => d.parameters.length) = some 1 := by decide +kernel
theorem jX3_jointGuess : znth gT mX3_jointGuess = some iX3_jointGuess := rfl
theorem oX3_jointGuess : yX3_jointGuess.cls ≠ "java/lang/invoke/MethodHandle" ∧ yX3_jointGuess.cls ≠ "java/lang/invoke/VarHandle" ∧ (parseMethodDescriptor yX3_jointGuess.desc).map (fun d => d.parameters.length) = some 1 := by decide +kernel
theorem jX3_lessers : znth gT mX3_lessers = some iX3_lessers := rfl
theorem oX3_lessers : yX3_lessers.cls ≠ "java/lang/invoke/MethodHandle" ∧ yX3_lessers.cls ≠ "java/lang/invoke/VarHandle" ∧ (parseMethodDescriptor yX3_lessers.desc).map (fun d => d.parameters.length) = some 3 := by decide +kernel
theorem jX3_foldsBoth : znth gT mX3_foldsBoth = some iX3_foldsBoth := rfl
theorem oX3_foldsBoth : yX3_foldsBoth.cls ≠ "java/lang/invoke/MethodHandle" ∧ yX3_foldsBoth.cls ≠ "java/lang/invoke/VarHandle" ∧ (parseMethodDescriptor yX3_foldsBoth.desc).map (fun d => d.parameters.length) = some 2 := by decide +kernel
theorem jX3_table : znth gT mX3_table = some iX3_table := rfl
theorem oX3_table : yX3_table.cls ≠ "java/lang/invoke/MethodHandle" ∧ yX3_table.cls ≠ "java/lang/invoke/VarHandle" ∧ (parseMethodDescriptor yX3_table.desc).map (fun d => d.parameters.length) = some 2 := by decide +kernel
theorem jX3_all : znth gT mX3_all = some iX3_all := rfl
theorem oX3_all : yX3_all.cls ≠ "java/lang/invoke/MethodHandle" ∧ yX3_all.cls ≠ "java/lang/invoke/VarHandle" ∧ (parseMethodDescriptor yX3_all.desc).map (fun d => d.parameters.length) = some 1 := by decide +kernel
theorem jX3_lacks : znth gT mX3_lacks = some iX3_lacks := rfl
theorem oX3_lacks : yX3_lacks.cls ≠ "java/lang/invoke/MethodHandle" ∧ yX3_lacks.cls ≠ "java/lang/invoke/VarHandle" ∧ (parseMethodDescriptor yX3_lacks.desc).map (fun d => d.parameters.length) = some 2 := by decide +kernel
theorem jX3_common : znth gT mX3_common = some iX3_common := rfl
theorem oX3_common : yX3_common.cls ≠ "java/lang/invoke/MethodHandle" ∧ yX3_common.cls ≠ "java/lang/invoke/VarHandle" ∧ (parseMethodDescriptor yX3_common.desc).map (fun d => d.parameters.length) = some 2 := by decide +kernel
theorem jX3_commonOf : znth gT mX3_commonOf = some iX3_commonOf := rfl
theorem oX3_commonOf : yX3_commonOf.cls ≠ "java/lang/invoke/MethodHandle" ∧ yX3_commonOf.cls ≠ "java/lang/invoke/VarHandle" ∧ (parseMethodDescriptor yX3_commonOf.desc).map (fun d => d.parameters.length) = some 2 := by decide +kernel
theorem jX3_bothGuess : znth gT mX3_bothGuess = some iX3_bothGuess := rfl
theorem oX3_bothGuess : yX3_bothGuess.cls ≠ "java/lang/invoke/MethodHandle" ∧ yX3_bothGuess.cls ≠ "java/lang/invoke/VarHandle" ∧ (parseMethodDescriptor yX3_bothGuess.desc).map (fun d => d.parameters.length) = some 2 := by decide +kernel
theorem jX3_alone : znth gT mX3_alone = some iX3_alone := rfl
theorem oX3_alone : yX3_alone.cls ≠ "java/lang/invoke/MethodHandle" ∧ yX3_alone.cls ≠ "java/lang/invoke/VarHandle" ∧ (parseMethodDescriptor yX3_alone.desc).map (fun d => d.parameters.length) = some 2 := by decide +kernel
theorem jX3_alike : znth gT mX3_alike = some iX3_alike := rfl
theorem oX3_alike : yX3_alike.cls ≠ "java/lang/invoke/MethodHandle" ∧ yX3_alike.cls ≠ "java/lang/invoke/VarHandle" ∧ (parseMethodDescriptor yX3_alike.desc).map (fun d => d.parameters.length) = some 2 := by decide +kernel
theorem jX3_alikeOf : znth gT mX3_alikeOf = some iX3_alikeOf := rfl
theorem oX3_alikeOf : yX3_alikeOf.cls ≠ "java/lang/invoke/MethodHandle" ∧ yX3_alikeOf.cls ≠ "java/lang/invoke/VarHandle" ∧ (parseMethodDescriptor yX3_alikeOf.desc).map (fun d => d.parameters.length) = some 2 := by decide +kernel
theorem jX3_nearest : znth gT mX3_nearest = some iX3_nearest := rfl
theorem oX3_nearest : yX3_nearest.cls ≠ "java/lang/invoke/MethodHandle" ∧ yX3_nearest.cls ≠ "java/lang/invoke/VarHandle" ∧ (parseMethodDescriptor yX3_nearest.desc).map (fun d => d.parameters.length) = some 1 := by decide +kernel
theorem jX3_meet : znth gT mX3_meet = some iX3_meet := rfl
theorem oX3_meet : yX3_meet.cls ≠ "java/lang/invoke/MethodHandle" ∧ yX3_meet.cls ≠ "java/lang/invoke/VarHandle" ∧ (parseMethodDescriptor yX3_meet.desc).map (fun d => d.parameters.length) = some 1 := by decide +kernel
theorem jX3_ones : znth gT mX3_ones = some iX3_ones := rfl
theorem oX3_ones : yX3_ones.cls ≠ "java/lang/invoke/MethodHandle" ∧ yX3_ones.cls ≠ "java/lang/invoke/VarHandle" ∧ (parseMethodDescriptor yX3_ones.desc).map (fun d => d.parameters.length) = some 1 := by decide +kernel
theorem jX3_unlike : znth gT mX3_unlike = some iX3_unlike := rfl
theorem oX3_unlike : yX3_unlike.cls ≠ "java/lang/invoke/MethodHandle" ∧ yX3_unlike.cls ≠ "java/lang/invoke/VarHandle" ∧ (parseMethodDescriptor yX3_unlike.desc).map (fun d => d.parameters.length) = some 2 := by decide +kernel
theorem jX3_apart : znth gT mX3_apart = some iX3_apart := rfl
theorem oX3_apart : yX3_apart.cls ≠ "java/lang/invoke/MethodHandle" ∧ yX3_apart.cls ≠ "java/lang/invoke/VarHandle" ∧ (parseMethodDescriptor yX3_apart.desc).map (fun d => d.parameters.length) = some 2 := by decide +kernel
theorem jX3_order : znth gT mX3_order = some iX3_order := rfl
theorem oX3_order : yX3_order.cls ≠ "java/lang/invoke/MethodHandle" ∧ yX3_order.cls ≠ "java/lang/invoke/VarHandle" ∧ (parseMethodDescriptor yX3_order.desc).map (fun d => d.parameters.length) = some 0 := by decide +kernel
theorem jX3_within : znth gT mX3_within = some iX3_within := rfl
theorem oX3_within : yX3_within.cls ≠ "java/lang/invoke/MethodHandle" ∧ yX3_within.cls ≠ "java/lang/invoke/VarHandle" ∧ (parseMethodDescriptor yX3_within.desc).map (fun d => d.parameters.length) = some 2 := by decide +kernel
theorem jX3_cover : znth gT mX3_cover = some iX3_cover := rfl
theorem oX3_cover : yX3_cover.cls ≠ "java/lang/invoke/MethodHandle" ∧ yX3_cover.cls ≠ "java/lang/invoke/VarHandle" ∧ (parseMethodDescriptor yX3_cover.desc).map (fun d => d.parameters.length) = some 1 := by decide +kernel
theorem jX3_errs : znth gT mX3_errs = some iX3_errs := rfl
theorem oX3_errs : yX3_errs.cls ≠ "java/lang/invoke/MethodHandle" ∧ yX3_errs.cls ≠ "java/lang/invoke/VarHandle" ∧ (parseMethodDescriptor yX3_errs.desc).map (fun d => d.parameters.length) = some 4 := by decide +kernel
theorem jX3_isRun : znth gT mX3_isRun = some iX3_isRun := rfl
theorem oX3_isRun : yX3_isRun.cls ≠ "java/lang/invoke/MethodHandle" ∧ yX3_isRun.cls ≠ "java/lang/invoke/VarHandle" ∧ (parseMethodDescriptor yX3_isRun.desc).map (fun d => d.parameters.length) = some 2 := by decide +kernel
theorem jX3_opensTrial : znth gT mX3_opensTrial = some iX3_opensTrial := rfl
theorem oX3_opensTrial : yX3_opensTrial.cls ≠ "java/lang/invoke/MethodHandle" ∧ yX3_opensTrial.cls ≠ "java/lang/invoke/VarHandle" ∧ (parseMethodDescriptor yX3_opensTrial.desc).map (fun d => d.parameters.length) = some 1 := by decide +kernel
theorem jX3_least : znth gT mX3_least = some iX3_least := rfl
theorem oX3_least : yX3_least.cls ≠ "java/lang/invoke/MethodHandle" ∧ yX3_least.cls ≠ "java/lang/invoke/VarHandle" ∧ (parseMethodDescriptor yX3_least.desc).map (fun d => d.parameters.length) = some 4 := by decide +kernel
theorem jX3_expects : znth gT mX3_expects = some iX3_expects := rfl
theorem oX3_expects : yX3_expects.cls ≠ "java/lang/invoke/MethodHandle" ∧ yX3_expects.cls ≠ "java/lang/invoke/VarHandle" ∧ (parseMethodDescriptor yX3_expects.desc).map (fun d => d.parameters.length) = some 2 := by decide +kernel
theorem jX3_things : znth gT mX3_things = some iX3_things := rfl
theorem oX3_things : yX3_things.cls ≠ "java/lang/invoke/MethodHandle" ∧ yX3_things.cls ≠ "java/lang/invoke/VarHandle" ∧ (parseMethodDescriptor yX3_things.desc).map (fun d => d.parameters.length) = some 2 := by decide +kernel
theorem jX3_would : znth gT mX3_would = some iX3_would := rfl
theorem oX3_would : yX3_would.cls ≠ "java/lang/invoke/MethodHandle" ∧ yX3_would.cls ≠ "java/lang/invoke/VarHandle" ∧ (parseMethodDescriptor yX3_would.desc).map (fun d => d.parameters.length) = some 4 := by decide +kernel
theorem jX3_reaches : znth gT mX3_reaches = some iX3_reaches := rfl
theorem oX3_reaches : yX3_reaches.cls ≠ "java/lang/invoke/MethodHandle" ∧ yX3_reaches.cls ≠ "java/lang/invoke/VarHandle" ∧ (parseMethodDescriptor yX3_reaches.desc).map (fun d => d.parameters.length) = some 4 := by decide +kernel
theorem jX3_over : znth gT mX3_over = some iX3_over := rfl
theorem oX3_over : yX3_over.cls ≠ "java/lang/invoke/MethodHandle" ∧ yX3_over.cls ≠ "java/lang/invoke/VarHandle" ∧ (parseMethodDescriptor yX3_over.desc).map (fun d => d.parameters.length) = some 1 := by decide +kernel
theorem jX3_greedy : znth gT mX3_greedy = some iX3_greedy := rfl
theorem oX3_greedy : yX3_greedy.cls ≠ "java/lang/invoke/MethodHandle" ∧ yX3_greedy.cls ≠ "java/lang/invoke/VarHandle" ∧ (parseMethodDescriptor yX3_greedy.desc).map (fun d => d.parameters.length) = some 1 := by decide +kernel
theorem jX3_written : znth gT mX3_written = some iX3_written := rfl
theorem oX3_written : yX3_written.cls ≠ "java/lang/invoke/MethodHandle" ∧ yX3_written.cls ≠ "java/lang/invoke/VarHandle" ∧ (parseMethodDescriptor yX3_written.desc).map (fun d => d.parameters.length) = some 2 := by decide +kernel
theorem jX3_headSigns : znth gT mX3_headSigns = some iX3_headSigns := rfl
theorem oX3_headSigns : yX3_headSigns.cls ≠ "java/lang/invoke/MethodHandle" ∧ yX3_headSigns.cls ≠ "java/lang/invoke/VarHandle" ∧ (parseMethodDescriptor yX3_headSigns.desc).map (fun d => d.parameters.length) = some 1 := by decide +kernel
theorem jX3_signAt : znth gT mX3_signAt = some iX3_signAt := rfl
theorem oX3_signAt : yX3_signAt.cls ≠ "java/lang/invoke/MethodHandle" ∧ yX3_signAt.cls ≠ "java/lang/invoke/VarHandle" ∧ (parseMethodDescriptor yX3_signAt.desc).map (fun d => d.parameters.length) = some 2 := by decide +kernel
theorem jX3_signOf : znth gT mX3_signOf = some iX3_signOf := rfl
theorem oX3_signOf : yX3_signOf.cls ≠ "java/lang/invoke/MethodHandle" ∧ yX3_signOf.cls ≠ "java/lang/invoke/VarHandle" ∧ (parseMethodDescriptor yX3_signOf.desc).map (fun d => d.parameters.length) = some 1 := by decide +kernel
theorem jX3_reads : znth gT mX3_reads = some iX3_reads := rfl
theorem oX3_reads : yX3_reads.cls ≠ "java/lang/invoke/MethodHandle" ∧ yX3_reads.cls ≠ "java/lang/invoke/VarHandle" ∧ (parseMethodDescriptor yX3_reads.desc).map (fun d => d.parameters.length) = some 1 := by decide +kernel
theorem jX3_readsCounter : znth gT mX3_readsCounter = some iX3_readsCounter := rfl
theorem oX3_readsCounter : yX3_readsCounter.cls ≠ "java/lang/invoke/MethodHandle" ∧ yX3_readsCounter.cls ≠ "java/lang/invoke/VarHandle" ∧ (parseMethodDescriptor yX3_readsCounter.desc).map (fun d => d.parameters.length) = some 0 := by decide +kernel
theorem jX3_readsMarks : znth gT mX3_readsMarks = some iX3_readsMarks := rfl
theorem oX3_readsMarks : yX3_readsMarks.cls ≠ "java/lang/invoke/MethodHandle" ∧ yX3_readsMarks.cls ≠ "java/lang/invoke/VarHandle" ∧ (parseMethodDescriptor yX3_readsMarks.desc).map (fun d => d.parameters.length) = some 0 := by decide +kernel
theorem jX3_readsSign : znth gT mX3_readsSign = some iX3_readsSign := rfl
theorem oX3_readsSign : yX3_readsSign.cls ≠ "java/lang/invoke/MethodHandle" ∧ yX3_readsSign.cls ≠ "java/lang/invoke/VarHandle" ∧ (parseMethodDescriptor yX3_readsSign.desc).map (fun d => d.parameters.length) = some 1 := by decide +kernel
theorem jX3_readsRanks : znth gT mX3_readsRanks = some iX3_readsRanks := rfl
theorem oX3_readsRanks : yX3_readsRanks.cls ≠ "java/lang/invoke/MethodHandle" ∧ yX3_readsRanks.cls ≠ "java/lang/invoke/VarHandle" ∧ (parseMethodDescriptor yX3_readsRanks.desc).map (fun d => d.parameters.length) = some 0 := by decide +kernel
theorem jX3_count : znth gT mX3_count = some iX3_count := rfl
theorem oX3_count : yX3_count.cls ≠ "java/lang/invoke/MethodHandle" ∧ yX3_count.cls ≠ "java/lang/invoke/VarHandle" ∧ (parseMethodDescriptor yX3_count.desc).map (fun d => d.parameters.length) = some 1 := by decide +kernel
theorem jX3_denseBits : znth gT mX3_denseBits = some iX3_denseBits := rfl
theorem oX3_denseBits : yX3_denseBits.cls ≠ "java/lang/invoke/MethodHandle" ∧ yX3_denseBits.cls ≠ "java/lang/invoke/VarHandle" ∧ (parseMethodDescriptor yX3_denseBits.desc).map (fun d => d.parameters.length) = some 0 := by decide +kernel
theorem jX3_rankedBits : znth gT mX3_rankedBits = some iX3_rankedBits := rfl
theorem oX3_rankedBits : yX3_rankedBits.cls ≠ "java/lang/invoke/MethodHandle" ∧ yX3_rankedBits.cls ≠ "java/lang/invoke/VarHandle" ∧ (parseMethodDescriptor yX3_rankedBits.desc).map (fun d => d.parameters.length) = some 0 := by decide +kernel
theorem jX3_markSum : znth gT mX3_markSum = some iX3_markSum := rfl
theorem oX3_markSum : yX3_markSum.cls ≠ "java/lang/invoke/MethodHandle" ∧ yX3_markSum.cls ≠ "java/lang/invoke/VarHandle" ∧ (parseMethodDescriptor yX3_markSum.desc).map (fun d => d.parameters.length) = some 0 := by decide +kernel
theorem jX3_placeSum : znth gT mX3_placeSum = some iX3_placeSum := rfl
theorem oX3_placeSum : yX3_placeSum.cls ≠ "java/lang/invoke/MethodHandle" ∧ yX3_placeSum.cls ≠ "java/lang/invoke/VarHandle" ∧ (parseMethodDescriptor yX3_placeSum.desc).map (fun d => d.parameters.length) = some 0 := by decide +kernel
theorem jX3_row : znth gT mX3_row = some iX3_row := rfl
theorem oX3_row : yX3_row.cls ≠ "java/lang/invoke/MethodHandle" ∧ yX3_row.cls ≠ "java/lang/invoke/VarHandle" ∧ (parseMethodDescriptor yX3_row.desc).map (fun d => d.parameters.length) = some 1 := by decide +kernel
theorem jX3_lost : znth gT mX3_lost = some iX3_lost := rfl
theorem oX3_lost : yX3_lost.cls ≠ "java/lang/invoke/MethodHandle" ∧ yX3_lost.cls ≠ "java/lang/invoke/VarHandle" ∧ (parseMethodDescriptor yX3_lost.desc).map (fun d => d.parameters.length) = some 0 := by decide +kernel
theorem jX4_init : znth gT mX4_init = some iX4_init := rfl
theorem oX4_init : yX4_init.cls ≠ "java/lang/invoke/MethodHandle" ∧ yX4_init.cls ≠ "java/lang/invoke/VarHandle" ∧ (parseMethodDescriptor yX4_init.desc).map (fun d => d.parameters.length) = some 0 := by decide +kernel
theorem gRm_ok {G : gG} {I J : gMI} {p : Program} {l : Launch} {e : Env} {R : Room} {s : State} {m : MethodId} {args : Array Value} {below : List Frame} {meth : Method} {c : Code} {h0 : zH} (C : gCx G I p l e R s m args below meth c h0) (mc ms : Nat) (h1 : J.2.2.2.2.2.1 + 1 ≤ I.2.2.2.2.2.1) (h2 : 8 + (J.2.2.2.1 + 11) + J.2.2.2.2.2.2 ≤ I.2.2.2.2.2.2) : (gRm J mc ms).frames + 1 ≤ R.frames ∧ 8 + (J.2.2.2.1 + 11) + (gRm J mc ms).locals ≤ R.locals := by
  rw [C.fr.1, C.fr.2]
  exact ⟨h1, h2⟩
