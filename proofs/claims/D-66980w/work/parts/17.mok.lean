/-! evidence of the tables of WordTongueModel: by gen/mok.py -/
set_option maxRecDepth 100000
def my_ : Nat → MethodName := fun k => match k with
  | 1 => yX8_thrown
  | 2 => yX8_nameOf
  | 3 => yX8_isText
  | 4 => yX8_keyword
  | 5 => yX8_isLetter
  | 6 => yX8_isDigit
  | 7 => yX8_isRest
  | 8 => yX8_look
  | 9 => yX8_endsLine
  | 10 => yX8_isBeginning
  | 11 => yX8_isDoless
  | 12 => yX8_token
  | 13 => yX8_oneC
  | 14 => yX8_stringAt
  | 15 => yX8_digits
  | 16 => yX8_isPair
  | 17 => yX8_signAt
  | 18 => yX8_scan
  | 19 => yX8_one
  | 20 => yX8_node
  | 21 => yX8_leaf
  | 22 => yX8_shut
  | 23 => yX8_pairs
  | 24 => yX8_goal
  | 25 => yX8_tk
  | 26 => yX8_tkNext
  | 27 => yX8_take
  | 28 => yX8_deeper
  | 29 => yX8_isD
  | 30 => yX8_openSection
  | 31 => yX8_shutSection
  | 32 => yX8_parse
  | 33 => yX8_reach
  | 34 => yX8_reachD
  | 35 => yX8_reachP
  | 36 => yX8_beginsE
  | 37 => yX8_reachC
  | 38 => yX8_labels
  | 39 => yX8_command
  | 40 => yX8_levelOf
  | 41 => yX8_reachE
  | 42 => yX8_calls
  | 43 => yX8_primary
  | 44 => yX8_binary
  | 45 => yX8_fault
  | 46 => yX8_place
  | 47 => yX8_means
  | 48 => yX8_entry
  | 49 => yX8_declare
  | 50 => yX8_tokenOfTwice
  | 51 => yX8_isK
  | 52 => yX8_isKName
  | 53 => yX8_shifted
  | 54 => yX8_quotient
  | 55 => yX8_remainder
  | 56 => yX8_worked
  | 57 => yX8_related
  | 58 => yX8_signed
  | 59 => yX8_constant
  | 60 => yX8_later
  | 61 => yX8_task
  | 62 => yX8_put
  | 63 => yX8_pull
  | 64 => yX8_init_2
  | 65 => yX8_children
  | 66 => yX8_turn
  | 67 => yX8_library
  | 68 => yX8_lib
  | 69 => yX8_check
  | 70 => yX8_go
  | 71 => yX8_nameToken
  | 72 => yX8_declaration
  | 73 => yX8_letRoutines
  | 74 => yX8_routineOf
  | 75 => yX8_routineEnds
  | 76 => yX8_uses
  | 77 => yX8_varsEnd
  | 78 => yX8_blockEnds
  | 79 => yX8_beginBlock
  | 80 => yX8_labelsOf
  | 81 => yX8_forName
  | 82 => yX8_switchOf
  | 83 => yX8_isTwice
  | 84 => yX8_part
  | 85 => yX8_commandOf
  | 86 => yX8_goesTo
  | 87 => yX8_named
  | 88 => yX8_placeOf
  | 89 => yX8_expressionOf
  | 90 => yX8_string
  | 92 => yX8_todoTask
  | 93 => yX8_err
  | 94 => yX8_burns
  | 95 => yX8_push
  | 96 => yX8_pop
  | 97 => yX8_read
  | 98 => yX8_write
  | 99 => yX8_wordOf
  | 100 => yX8_evaluate
  | 101 => yX8_turnTodo
  | 102 => yX8_address
  | 103 => yX8_bin
  | 104 => yX8_rel
  | 105 => yX8_limit
  | 106 => yX8_enter
  | 107 => yX8_call
  | 108 => yX8_arg
  | 109 => yX8_outByte
  | 110 => yX8_decimal
  | 111 => yX8_nextByte
  | 112 => yX8_peek
  | 113 => yX8_readNumber
  | 114 => yX8_isBlank
  | 115 => yX8_rowsOf
  | 116 => yX8_writeString
  | 117 => yX8_getVector
  | 118 => yX8_layVector
  | 119 => yX8_freeVector
  | 120 => yX8_toVector
  | 121 => yX8_libraryCall
  | 122 => yX8_perform
  | 123 => yX8_assign
  | 124 => yX8_stores
  | 125 => yX8_loop
  | 126 => yX8_isStep
  | 127 => yX8_asked
  | 128 => yX8_section
  | 129 => yX8_variables
  | 130 => yX8_choose
  | 131 => yX8_doNext
  | 132 => yX8_returns
  | 133 => yX8_feed
  | 134 => yX8_end
  | 135 => yX8_compile
  | 136 => yX8_fault_2
  | 137 => yX8_store
  | 138 => yX8_input
  | 139 => yX8_run
  | 140 => yX8_value
  | 141 => yX8_out
  | 142 => yX8_outAt
  | 143 => yX8_word
  | 144 => yX8_fuel
  | _ => yX8_thrown
def mby_ : Nat → ByteArray := fun k => match k with
  | 1 => cX8_thrown
  | 2 => cX8_nameOf
  | 3 => cX8_isText
  | 4 => cX8_keyword
  | 5 => cX8_isLetter
  | 6 => cX8_isDigit
  | 7 => cX8_isRest
  | 8 => cX8_look
  | 9 => cX8_endsLine
  | 10 => cX8_isBeginning
  | 11 => cX8_isDoless
  | 12 => cX8_token
  | 13 => cX8_oneC
  | 14 => cX8_stringAt
  | 15 => cX8_digits
  | 16 => cX8_isPair
  | 17 => cX8_signAt
  | 18 => cX8_scan
  | 19 => cX8_one
  | 20 => cX8_node
  | 21 => cX8_leaf
  | 22 => cX8_shut
  | 23 => cX8_pairs
  | 24 => cX8_goal
  | 25 => cX8_tk
  | 26 => cX8_tkNext
  | 27 => cX8_take
  | 28 => cX8_deeper
  | 29 => cX8_isD
  | 30 => cX8_openSection
  | 31 => cX8_shutSection
  | 32 => cX8_parse
  | 33 => cX8_reach
  | 34 => cX8_reachD
  | 35 => cX8_reachP
  | 36 => cX8_beginsE
  | 37 => cX8_reachC
  | 38 => cX8_labels
  | 39 => cX8_command
  | 40 => cX8_levelOf
  | 41 => cX8_reachE
  | 42 => cX8_calls
  | 43 => cX8_primary
  | 44 => cX8_binary
  | 45 => cX8_fault
  | 46 => cX8_place
  | 47 => cX8_means
  | 48 => cX8_entry
  | 49 => cX8_declare
  | 50 => cX8_tokenOfTwice
  | 51 => cX8_isK
  | 52 => cX8_isKName
  | 53 => cX8_shifted
  | 54 => cX8_quotient
  | 55 => cX8_remainder
  | 56 => cX8_worked
  | 57 => cX8_related
  | 58 => cX8_signed
  | 59 => cX8_constant
  | 60 => cX8_later
  | 61 => cX8_task
  | 62 => cX8_put
  | 63 => cX8_pull
  | 64 => cX8_init_2
  | 65 => cX8_children
  | 66 => cX8_turn
  | 67 => cX8_library
  | 68 => cX8_lib
  | 69 => cX8_check
  | 70 => cX8_go
  | 71 => cX8_nameToken
  | 72 => cX8_declaration
  | 73 => cX8_letRoutines
  | 74 => cX8_routineOf
  | 75 => cX8_routineEnds
  | 76 => cX8_uses
  | 77 => cX8_varsEnd
  | 78 => cX8_blockEnds
  | 79 => cX8_beginBlock
  | 80 => cX8_labelsOf
  | 81 => cX8_forName
  | 82 => cX8_switchOf
  | 83 => cX8_isTwice
  | 84 => cX8_part
  | 85 => cX8_commandOf
  | 86 => cX8_goesTo
  | 87 => cX8_named
  | 88 => cX8_placeOf
  | 89 => cX8_expressionOf
  | 90 => cX8_string
  | 92 => cX8_todoTask
  | 93 => cX8_err
  | 94 => cX8_burns
  | 95 => cX8_push
  | 96 => cX8_pop
  | 97 => cX8_read
  | 98 => cX8_write
  | 99 => cX8_wordOf
  | 100 => cX8_evaluate
  | 101 => cX8_turnTodo
  | 102 => cX8_address
  | 103 => cX8_bin
  | 104 => cX8_rel
  | 105 => cX8_limit
  | 106 => cX8_enter
  | 107 => cX8_call
  | 108 => cX8_arg
  | 109 => cX8_outByte
  | 110 => cX8_decimal
  | 111 => cX8_nextByte
  | 112 => cX8_peek
  | 113 => cX8_readNumber
  | 114 => cX8_isBlank
  | 115 => cX8_rowsOf
  | 116 => cX8_writeString
  | 117 => cX8_getVector
  | 118 => cX8_layVector
  | 119 => cX8_freeVector
  | 120 => cX8_toVector
  | 121 => cX8_libraryCall
  | 122 => cX8_perform
  | 123 => cX8_assign
  | 124 => cX8_stores
  | 125 => cX8_loop
  | 126 => cX8_isStep
  | 127 => cX8_asked
  | 128 => cX8_section
  | 129 => cX8_variables
  | 130 => cX8_choose
  | 131 => cX8_doNext
  | 132 => cX8_returns
  | 133 => cX8_feed
  | 134 => cX8_end
  | 135 => cX8_compile
  | 136 => cX8_fault_2
  | 137 => cX8_store
  | 138 => cX8_input
  | 139 => cX8_run
  | 140 => cX8_value
  | 141 => cX8_out
  | 142 => cX8_outAt
  | 143 => cX8_word
  | 144 => cX8_fuel
  | _ => cX8_thrown
def mrt_ : Nat → Option FieldType := fun k => match k with
  | 1 => some .int
  | 2 => some .int
  | 3 => some .boolean
  | 4 => some .int
  | 5 => some .boolean
  | 6 => some .boolean
  | 7 => some .boolean
  | 8 => some .int
  | 9 => some .boolean
  | 10 => some .boolean
  | 11 => some .boolean
  | 12 => none
  | 13 => some .int
  | 14 => some .int
  | 15 => some .int
  | 16 => some .boolean
  | 17 => some .int
  | 18 => some .int
  | 19 => some .int
  | 20 => some .int
  | 21 => none
  | 22 => some .int
  | 23 => none
  | 24 => none
  | 25 => some .int
  | 26 => some .int
  | 27 => some .boolean
  | 28 => some .boolean
  | 29 => some .boolean
  | 30 => some .boolean
  | 31 => some .boolean
  | 32 => some .boolean
  | 33 => some .boolean
  | 34 => some .boolean
  | 35 => some .boolean
  | 36 => some .boolean
  | 37 => some .boolean
  | 38 => none
  | 39 => some .boolean
  | 40 => some .int
  | 41 => some .boolean
  | 42 => some .boolean
  | 43 => some .boolean
  | 44 => none
  | 45 => none
  | 46 => some .int
  | 47 => some .int
  | 48 => some .int
  | 49 => some .int
  | 50 => some .int
  | 51 => some .boolean
  | 52 => some .boolean
  | 53 => some .int
  | 54 => some .int
  | 55 => some .int
  | 56 => some .int
  | 57 => some .boolean
  | 58 => some .int
  | 59 => none
  | 60 => some .int
  | 61 => none
  | 62 => none
  | 63 => some .int
  | 64 => none
  | 65 => none
  | 66 => none
  | 67 => none
  | 68 => none
  | 69 => none
  | 70 => none
  | 71 => some .int
  | 72 => none
  | 73 => none
  | 74 => none
  | 75 => none
  | 76 => none
  | 77 => none
  | 78 => none
  | 79 => none
  | 80 => none
  | 81 => none
  | 82 => none
  | 83 => some .boolean
  | 84 => none
  | 85 => none
  | 86 => none
  | 87 => some .int
  | 88 => none
  | 89 => none
  | 90 => none
  | 92 => none
  | 93 => none
  | 94 => some .boolean
  | 95 => none
  | 96 => some .int
  | 97 => some .int
  | 98 => none
  | 99 => some .int
  | 100 => none
  | 101 => none
  | 102 => none
  | 103 => none
  | 104 => none
  | 105 => some .int
  | 106 => none
  | 107 => none
  | 108 => some .int
  | 109 => none
  | 110 => none
  | 111 => some .int
  | 112 => some .int
  | 113 => some .int
  | 114 => some .boolean
  | 115 => none
  | 116 => none
  | 117 => some .int
  | 118 => some .int
  | 119 => none
  | 120 => none
  | 121 => none
  | 122 => none
  | 123 => none
  | 124 => none
  | 125 => none
  | 126 => some .boolean
  | 127 => none
  | 128 => none
  | 129 => none
  | 130 => none
  | 131 => none
  | 132 => none
  | 133 => some .boolean
  | 134 => some .boolean
  | 135 => some .int
  | 136 => some .int
  | 137 => some .boolean
  | 138 => some .int
  | 139 => some .int
  | 140 => some .int
  | 141 => some .int
  | 142 => some .int
  | 143 => some .int
  | 144 => some .int
  | _ => none
def mf_fi : List (Nat × Nat) := [(7, 0), (13, 1), (17, 2), (20, 3), (23, 4), (26, 5), (29, 6), (33, 7), (36, 8), (39, 9), (42, 10), (45, 11), (48, 12), (51, 13), (54, 14), (57, 15), (60, 16), (63, 17), (66, 18), (69, 19), (72, 20), (75, 21), (78, 22), (81, 23), (84, 24), (87, 25), (90, 26), (93, 27), (96, 28), (99, 29), (102, 30), (105, 31), (108, 32), (111, 33), (114, 34), (117, 35), (121, 36), (124, 37), (127, 38), (130, 39), (133, 40), (136, 41), (139, 42), (142, 43), (145, 44), (148, 45), (151, 46), (154, 47), (157, 48), (160, 49), (163, 50), (166, 51), (169, 52), (172, 53), (175, 54), (178, 55), (181, 56), (184, 57), (187, 58), (191, 59), (194, 60), (197, 61), (200, 62), (203, 63), (206, 64), (209, 65), (212, 66), (215, 67), (219, 68), (222, 69), (225, 70), (228, 71), (231, 72), (234, 73), (237, 74), (240, 75), (243, 76), (246, 77), (249, 78), (252, 79), (255, 80), (258, 81), (261, 82), (264, 83), (267, 84), (270, 85), (273, 86), (276, 87), (280, 88), (283, 89), (286, 90), (289, 91), (293, 92), (296, 93), (299, 94), (302, 95), (305, 96), (308, 97), (312, 98), (315, 99), (318, 100), (321, 101), (324, 102), (327, 103), (330, 104), (333, 105), (336, 106), (339, 107), (342, 108), (345, 109), (348, 110), (351, 111), (354, 112), (357, 113), (360, 114), (363, 115), (366, 116), (369, 117), (372, 118)]
def mf_mi : List (Nat × Nat) := [(377, 3), (467, 5), (471, 6), (474, 11), (477, 9), (480, 10), (483, 8), (487, 13), (493, 16), (497, 19), (500, 7), (503, 4), (506, 2), (509, 12), (513, 15), (516, 14), (519, 17), (522, 20), (526, 25), (530, 28), (534, 24), (538, 33), (542, 22), (546, 41), (549, 27), (552, 30), (555, 34), (558, 37), (561, 29), (564, 31), (567, 35), (570, 21), (573, 39), (576, 38), (580, 23), (583, 26), (586, 36), (589, 40), (592, 44), (595, 42), (598, 43), (602, 50), (605, 45), (609, 48), (613, 46), (616, 52), (619, 47), (622, 54), (625, 55), (628, 53), (632, 51), (635, 60), (638, 58), (641, 57), (644, 56), (647, 61), (650, 66), (655, 68), (698, 67), (703, 65), (706, 70), (709, 72), (712, 85), (715, 89), (718, 88), (722, 74), (725, 75), (728, 77), (731, 78), (734, 81), (737, 82), (740, 84), (743, 63), (746, 73), (749, 71), (752, 49), (756, 59), (759, 64), (763, 62), (767, 76), (770, 79), (773, 80), (776, 83), (779, 86), (782, 87), (785, 90), (792, 93), (795, 95), (798, 99), (801, 92), (804, 102), (807, 101), (810, 96), (813, 97), (817, 94), (820, 105), (824, 121), (827, 106), (834, 109), (837, 112), (840, 114), (843, 111), (846, 118), (850, 108), (853, 110), (856, 116), (859, 117), (862, 119), (865, 113), (868, 120), (871, 123), (874, 98), (878, 126), (881, 100), (884, 103), (887, 104), (890, 107), (893, 122), (896, 124), (899, 125), (902, 127), (905, 128), (908, 132), (911, 129), (914, 130), (917, 18), (920, 32), (923, 69), (927, 115), (931, 131)]
def mf_ci : List (Nat × Int32) := [(218, 60000), (279, 620000), (292, 300000), (311, 65536), (697, 2000000), (762, 1000000), (766, 40000), (823, 2000018), (926, 32768), (930, 100000)]
def mf_li : List (Nat × Int64) := [(375, 78393072828748), (381, 5566816691025171284), (383, 91621338401091), (385, 4998484), (387, 4279876), (389, 16965), (391, 5653827), (393, 18758), (395, 17487), (397, 93794775421779), (399, 1413829460), (401, 20306), (403, 374874917957), (405, 366386366796), (407, 4607826), (409, 21583), (411, 16985), (413, 6005349254376738638), (415, 1229870159), (417, 1128354629), (419, 19216466462461012), (421, 284848111947), (423, 1280266064), (425, 19507828486132549), (427, 90457721098830), (429, 5928236110321043795), (431, 77280659985224), (433, 1196381263), (435, 90457652937044), (437, 5928232742882137928), (439, 4803653), (441, 5928232742882137422), (443, 5523788), (445, 4542806), (447, 1313165654), (449, 5391693), (451, 1414681925), (453, 301743231813), (455, 370462707526), (457, 361872116805), (459, 4670804), (461, 1414022478), (463, 1162629957), (465, 5132116), (491, 4294967296), (653, 96010929194318), (659, 96010929194323), (661, 1465008968), (663, 22031289427775045), (665, 1380205384), (667, 1398034256), (669, 4276819), (671, 93794876015432), (673, 6000285938907105614), (675, 5264724), (677, 6000285938907107157), (679, 1414550868), (681, 90457770643012), (683, 78363093255491), (685, 19793705839248707), (687, 18384196524721475), (689, 85028747102550), (691, 96010929194308), (693, 6292172255678448984), (695, 353349223502), (701, 357895852628), (830, 48), (832, 10)]
theorem mf_fi_ok : ∀ q ∈ mf_fi, q.2 < 119 ∧ Cond.fieldLink RX8 q.1 RX8 (TX8 q.2).2.1 (TX8 q.2).2.2.1 ∈ lw_all := List.forall_mem_cons.mpr ⟨⟨by decide, q3316⟩, List.forall_mem_cons.mpr ⟨⟨by decide, q3317⟩, List.forall_mem_cons.mpr ⟨⟨by decide, q3318⟩, List.forall_mem_cons.mpr ⟨⟨by decide, q3319⟩, List.forall_mem_cons.mpr ⟨⟨by decide, q3320⟩, List.forall_mem_cons.mpr ⟨⟨by decide, q3321⟩, List.forall_mem_cons.mpr ⟨⟨by decide, q3322⟩, List.forall_mem_cons.mpr ⟨⟨by decide, q3323⟩, List.forall_mem_cons.mpr ⟨⟨by decide, q3324⟩, List.forall_mem_cons.mpr ⟨⟨by decide, q3325⟩, List.forall_mem_cons.mpr ⟨⟨by decide, q3326⟩, List.forall_mem_cons.mpr ⟨⟨by decide, q3327⟩, List.forall_mem_cons.mpr ⟨⟨by decide, q3328⟩, List.forall_mem_cons.mpr ⟨⟨by decide, q3329⟩, List.forall_mem_cons.mpr ⟨⟨by decide, q3330⟩, List.forall_mem_cons.mpr ⟨⟨by decide, q3331⟩, List.forall_mem_cons.mpr ⟨⟨by decide, q3332⟩, List.forall_mem_cons.mpr ⟨⟨by decide, q3333⟩, List.forall_mem_cons.mpr ⟨⟨by decide, q3334⟩, List.forall_mem_cons.mpr ⟨⟨by decide, q3335⟩, List.forall_mem_cons.mpr ⟨⟨by decide, q3336⟩, List.forall_mem_cons.mpr ⟨⟨by decide, q3337⟩, List.forall_mem_cons.mpr ⟨⟨by decide, q3338⟩, List.forall_mem_cons.mpr ⟨⟨by decide, q3339⟩, List.forall_mem_cons.mpr ⟨⟨by decide, q3340⟩, List.forall_mem_cons.mpr ⟨⟨by decide, q3341⟩, List.forall_mem_cons.mpr ⟨⟨by decide, q3342⟩, List.forall_mem_cons.mpr ⟨⟨by decide, q3343⟩, List.forall_mem_cons.mpr ⟨⟨by decide, q3344⟩, List.forall_mem_cons.mpr ⟨⟨by decide, q3345⟩, List.forall_mem_cons.mpr ⟨⟨by decide, q3346⟩, List.forall_mem_cons.mpr ⟨⟨by decide, q3347⟩, List.forall_mem_cons.mpr ⟨⟨by decide, q3348⟩, List.forall_mem_cons.mpr ⟨⟨by decide, q3349⟩, List.forall_mem_cons.mpr ⟨⟨by decide, q3350⟩, List.forall_mem_cons.mpr ⟨⟨by decide, q3351⟩, List.forall_mem_cons.mpr ⟨⟨by decide, q3352⟩, List.forall_mem_cons.mpr ⟨⟨by decide, q3353⟩, List.forall_mem_cons.mpr ⟨⟨by decide, q3354⟩, List.forall_mem_cons.mpr ⟨⟨by decide, q3355⟩, List.forall_mem_cons.mpr ⟨⟨by decide, q3356⟩, List.forall_mem_cons.mpr ⟨⟨by decide, q3357⟩, List.forall_mem_cons.mpr ⟨⟨by decide, q3358⟩, List.forall_mem_cons.mpr ⟨⟨by decide, q3359⟩, List.forall_mem_cons.mpr ⟨⟨by decide, q3360⟩, List.forall_mem_cons.mpr ⟨⟨by decide, q3361⟩, List.forall_mem_cons.mpr ⟨⟨by decide, q3362⟩, List.forall_mem_cons.mpr ⟨⟨by decide, q3363⟩, List.forall_mem_cons.mpr ⟨⟨by decide, q3364⟩, List.forall_mem_cons.mpr ⟨⟨by decide, q3365⟩, List.forall_mem_cons.mpr ⟨⟨by decide, q3366⟩, List.forall_mem_cons.mpr ⟨⟨by decide, q3367⟩, List.forall_mem_cons.mpr ⟨⟨by decide, q3368⟩, List.forall_mem_cons.mpr ⟨⟨by decide, q3369⟩, List.forall_mem_cons.mpr ⟨⟨by decide, q3370⟩, List.forall_mem_cons.mpr ⟨⟨by decide, q3371⟩, List.forall_mem_cons.mpr ⟨⟨by decide, q3372⟩, List.forall_mem_cons.mpr ⟨⟨by decide, q3373⟩, List.forall_mem_cons.mpr ⟨⟨by decide, q3374⟩, List.forall_mem_cons.mpr ⟨⟨by decide, q3375⟩, List.forall_mem_cons.mpr ⟨⟨by decide, q3376⟩, List.forall_mem_cons.mpr ⟨⟨by decide, q3377⟩, List.forall_mem_cons.mpr ⟨⟨by decide, q3378⟩, List.forall_mem_cons.mpr ⟨⟨by decide, q3379⟩, List.forall_mem_cons.mpr ⟨⟨by decide, q3380⟩, List.forall_mem_cons.mpr ⟨⟨by decide, q3381⟩, List.forall_mem_cons.mpr ⟨⟨by decide, q3382⟩, List.forall_mem_cons.mpr ⟨⟨by decide, q3383⟩, List.forall_mem_cons.mpr ⟨⟨by decide, q3384⟩, List.forall_mem_cons.mpr ⟨⟨by decide, q3385⟩, List.forall_mem_cons.mpr ⟨⟨by decide, q3386⟩, List.forall_mem_cons.mpr ⟨⟨by decide, q3387⟩, List.forall_mem_cons.mpr ⟨⟨by decide, q3388⟩, List.forall_mem_cons.mpr ⟨⟨by decide, q3389⟩, List.forall_mem_cons.mpr ⟨⟨by decide, q3390⟩, List.forall_mem_cons.mpr ⟨⟨by decide, q3391⟩, List.forall_mem_cons.mpr ⟨⟨by decide, q3392⟩, List.forall_mem_cons.mpr ⟨⟨by decide, q3393⟩, List.forall_mem_cons.mpr ⟨⟨by decide, q3394⟩, List.forall_mem_cons.mpr ⟨⟨by decide, q3395⟩, List.forall_mem_cons.mpr ⟨⟨by decide, q3396⟩, List.forall_mem_cons.mpr ⟨⟨by decide, q3397⟩, List.forall_mem_cons.mpr ⟨⟨by decide, q3398⟩, List.forall_mem_cons.mpr ⟨⟨by decide, q3399⟩, List.forall_mem_cons.mpr ⟨⟨by decide, q3400⟩, List.forall_mem_cons.mpr ⟨⟨by decide, q3401⟩, List.forall_mem_cons.mpr ⟨⟨by decide, q3402⟩, List.forall_mem_cons.mpr ⟨⟨by decide, q3403⟩, List.forall_mem_cons.mpr ⟨⟨by decide, q3404⟩, List.forall_mem_cons.mpr ⟨⟨by decide, q3405⟩, List.forall_mem_cons.mpr ⟨⟨by decide, q3406⟩, List.forall_mem_cons.mpr ⟨⟨by decide, q3407⟩, List.forall_mem_cons.mpr ⟨⟨by decide, q3408⟩, List.forall_mem_cons.mpr ⟨⟨by decide, q3409⟩, List.forall_mem_cons.mpr ⟨⟨by decide, q3410⟩, List.forall_mem_cons.mpr ⟨⟨by decide, q3411⟩, List.forall_mem_cons.mpr ⟨⟨by decide, q3412⟩, List.forall_mem_cons.mpr ⟨⟨by decide, q3413⟩, List.forall_mem_cons.mpr ⟨⟨by decide, q3414⟩, List.forall_mem_cons.mpr ⟨⟨by decide, q3415⟩, List.forall_mem_cons.mpr ⟨⟨by decide, q3416⟩, List.forall_mem_cons.mpr ⟨⟨by decide, q3417⟩, List.forall_mem_cons.mpr ⟨⟨by decide, q3418⟩, List.forall_mem_cons.mpr ⟨⟨by decide, q3419⟩, List.forall_mem_cons.mpr ⟨⟨by decide, q3420⟩, List.forall_mem_cons.mpr ⟨⟨by decide, q3421⟩, List.forall_mem_cons.mpr ⟨⟨by decide, q3422⟩, List.forall_mem_cons.mpr ⟨⟨by decide, q3423⟩, List.forall_mem_cons.mpr ⟨⟨by decide, q3424⟩, List.forall_mem_cons.mpr ⟨⟨by decide, q3425⟩, List.forall_mem_cons.mpr ⟨⟨by decide, q3426⟩, List.forall_mem_cons.mpr ⟨⟨by decide, q3427⟩, List.forall_mem_cons.mpr ⟨⟨by decide, q3428⟩, List.forall_mem_cons.mpr ⟨⟨by decide, q3429⟩, List.forall_mem_cons.mpr ⟨⟨by decide, q3430⟩, List.forall_mem_cons.mpr ⟨⟨by decide, q3431⟩, List.forall_mem_cons.mpr ⟨⟨by decide, q3432⟩, List.forall_mem_cons.mpr ⟨⟨by decide, q3433⟩, List.forall_mem_cons.mpr ⟨⟨by decide, q3434⟩, List.forall_mem_nil _⟩⟩⟩⟩⟩⟩⟩⟩⟩⟩⟩⟩⟩⟩⟩⟩⟩⟩⟩⟩⟩⟩⟩⟩⟩⟩⟩⟩⟩⟩⟩⟩⟩⟩⟩⟩⟩⟩⟩⟩⟩⟩⟩⟩⟩⟩⟩⟩⟩⟩⟩⟩⟩⟩⟩⟩⟩⟩⟩⟩⟩⟩⟩⟩⟩⟩⟩⟩⟩⟩⟩⟩⟩⟩⟩⟩⟩⟩⟩⟩⟩⟩⟩⟩⟩⟩⟩⟩⟩⟩⟩⟩⟩⟩⟩⟩⟩⟩⟩⟩⟩⟩⟩⟩⟩⟩⟩⟩⟩⟩⟩⟩⟩⟩⟩⟩⟩⟩⟩
theorem mf_ci_ok : ∀ q ∈ mf_ci, Cond.constant RX8 q.1 q.2 ∈ lw_all := List.forall_mem_cons.mpr ⟨q3312, List.forall_mem_cons.mpr ⟨q3313, List.forall_mem_cons.mpr ⟨q3314, List.forall_mem_cons.mpr ⟨q3315, List.forall_mem_cons.mpr ⟨q3915, List.forall_mem_cons.mpr ⟨q4062, List.forall_mem_cons.mpr ⟨q4079, List.forall_mem_cons.mpr ⟨q4192, List.forall_mem_cons.mpr ⟨q4108, List.forall_mem_cons.mpr ⟨q4124, List.forall_mem_nil _⟩⟩⟩⟩⟩⟩⟩⟩⟩⟩
theorem mf_li_ok : ∀ q ∈ mf_li, Cond.constantLong RX8 q.1 q.2 ∈ lw_all := List.forall_mem_cons.mpr ⟨q3719, List.forall_mem_cons.mpr ⟨q3724, List.forall_mem_cons.mpr ⟨q3725, List.forall_mem_cons.mpr ⟨q3726, List.forall_mem_cons.mpr ⟨q3727, List.forall_mem_cons.mpr ⟨q3728, List.forall_mem_cons.mpr ⟨q3729, List.forall_mem_cons.mpr ⟨q3730, List.forall_mem_cons.mpr ⟨q3731, List.forall_mem_cons.mpr ⟨q3732, List.forall_mem_cons.mpr ⟨q3733, List.forall_mem_cons.mpr ⟨q3734, List.forall_mem_cons.mpr ⟨q3735, List.forall_mem_cons.mpr ⟨q3736, List.forall_mem_cons.mpr ⟨q3737, List.forall_mem_cons.mpr ⟨q3738, List.forall_mem_cons.mpr ⟨q3739, List.forall_mem_cons.mpr ⟨q3740, List.forall_mem_cons.mpr ⟨q3741, List.forall_mem_cons.mpr ⟨q3742, List.forall_mem_cons.mpr ⟨q3743, List.forall_mem_cons.mpr ⟨q3744, List.forall_mem_cons.mpr ⟨q3745, List.forall_mem_cons.mpr ⟨q3746, List.forall_mem_cons.mpr ⟨q3747, List.forall_mem_cons.mpr ⟨q3748, List.forall_mem_cons.mpr ⟨q3749, List.forall_mem_cons.mpr ⟨q3750, List.forall_mem_cons.mpr ⟨q3751, List.forall_mem_cons.mpr ⟨q3752, List.forall_mem_cons.mpr ⟨q3753, List.forall_mem_cons.mpr ⟨q3754, List.forall_mem_cons.mpr ⟨q3755, List.forall_mem_cons.mpr ⟨q3756, List.forall_mem_cons.mpr ⟨q3757, List.forall_mem_cons.mpr ⟨q3758, List.forall_mem_cons.mpr ⟨q3759, List.forall_mem_cons.mpr ⟨q3760, List.forall_mem_cons.mpr ⟨q3761, List.forall_mem_cons.mpr ⟨q3762, List.forall_mem_cons.mpr ⟨q3763, List.forall_mem_cons.mpr ⟨q3764, List.forall_mem_cons.mpr ⟨q3765, List.forall_mem_cons.mpr ⟨q3766, List.forall_mem_cons.mpr ⟨q3788, List.forall_mem_cons.mpr ⟨q3910, List.forall_mem_cons.mpr ⟨q3920, List.forall_mem_cons.mpr ⟨q3921, List.forall_mem_cons.mpr ⟨q3922, List.forall_mem_cons.mpr ⟨q3923, List.forall_mem_cons.mpr ⟨q3924, List.forall_mem_cons.mpr ⟨q3925, List.forall_mem_cons.mpr ⟨q3926, List.forall_mem_cons.mpr ⟨q3927, List.forall_mem_cons.mpr ⟨q3928, List.forall_mem_cons.mpr ⟨q3929, List.forall_mem_cons.mpr ⟨q3930, List.forall_mem_cons.mpr ⟨q3931, List.forall_mem_cons.mpr ⟨q3932, List.forall_mem_cons.mpr ⟨q3933, List.forall_mem_cons.mpr ⟨q3934, List.forall_mem_cons.mpr ⟨q3935, List.forall_mem_cons.mpr ⟨q3936, List.forall_mem_cons.mpr ⟨q3937, List.forall_mem_cons.mpr ⟨q3938, List.forall_mem_cons.mpr ⟨q3939, List.forall_mem_cons.mpr ⟨q4205, List.forall_mem_cons.mpr ⟨q4206, List.forall_mem_nil _⟩⟩⟩⟩⟩⟩⟩⟩⟩⟩⟩⟩⟩⟩⟩⟩⟩⟩⟩⟩⟩⟩⟩⟩⟩⟩⟩⟩⟩⟩⟩⟩⟩⟩⟩⟩⟩⟩⟩⟩⟩⟩⟩⟩⟩⟩⟩⟩⟩⟩⟩⟩⟩⟩⟩⟩⟩⟩⟩⟩⟩⟩⟩⟩⟩⟩⟩⟩
/-- one-byte instructions that stand for themselves -/
def pj_df (i : Instr) : Bool := match i with
  | .aconst_null => true
  | .iload_n _ => true
  | .lload_n _ => true
  | .aload_n _ => true
  | .pop => true
  | .dup => true
  | .dup_x1 => true
  | .dup2 => true
  | .iadd => true
  | .isub => true
  | .imul => true
  | .iand => true
  | .ior => true
  | .ixor => true
  | .ineg => true
  | .ishl => true
  | .ishr => true
  | .iushr => true
  | .i2b => true
  | .i2c => true
  | .i2l => true
  | .l2i => true
  | .ladd => true
  | .lsub => true
  | .lmul => true
  | .lneg => true
  | .lshr => true
  | .lcmp => true
  | .iaload => true
  | .baload => true
  | .iastore => true
  | .bastore => true
  | .arraylength => true
  | .idiv => true
  | .irem => true
  | .ldiv => true
  | .lrem => true
  | .ireturn => true
  | .return_ => true
  | _ => false
def mm_ok (cc : ByteArray) (nL pc : Nat) (i : Instr) (nx : Nat) (im : Int32) : Prop := match i with
  | .getfield k => ∃ j, decode cc pc = .ok (.getfield j, 3) ∧ (j, k) ∈ mf_fi ∧ nx = pc + 3
  | .putfield k => ∃ j, decode cc pc = .ok (.putfield j, 3) ∧ (j, k) ∈ mf_fi ∧ (TX8 k).2.2.2 = false ∧ nx = pc + 3
  | .goto t => ∃ o, decode cc pc = .ok (.goto o, 3) ∧ (pc : Int) + o = t ∧ 0 ≤ t
  | .if_icmp c t => ∃ o, decode cc pc = .ok (.if_icmp c o, 3) ∧ (pc : Int) + o = t ∧ 0 ≤ t ∧ nx = pc + 3
  | .ifCond c t => ∃ o, decode cc pc = .ok (.ifCond c o, 3) ∧ (pc : Int) + o = t ∧ 0 ≤ t ∧ nx = pc + 3
  | .invokestatic f => ∃ j, ((decode cc pc = .ok (.invokevirtual j, 3) ∧ mt_st f = false) ∨ (decode cc pc = .ok (.invokestatic j, 3) ∧ mt_st f = true)) ∧ (j, f) ∈ mf_mi ∧ nx = pc + 3
  | .athrow => True
  | i => pj_okn RX8 cc nL mt_lc pc i nx im
def mm_ck (nL : Nat) (bs : List UInt8) (pc : Nat) (i : Instr) (nx : Nat) (im : Int32) : Bool := match i, pj_dec bs with
  | .athrow, _ => true
  | .getfield k, some (.getfield j, 3) => mf_fi.contains (j, k) && nx == pc + 3
  | .putfield k, some (.putfield j, 3) => mf_fi.contains (j, k) && (!(TX8 k).2.2.2) && nx == pc + 3
  | .goto t, some (.goto o, 3) => decide ((pc : Int) + o = t) && decide (0 ≤ t)
  | .if_icmp c t, some (.if_icmp c' o, 3) => decide (c = c') && decide ((pc : Int) + o = t) && decide (0 ≤ t) && nx == pc + 3
  | .ifCond c t, some (.ifCond c' o, 3) => decide (c = c') && decide ((pc : Int) + o = t) && decide (0 ≤ t) && nx == pc + 3
  | .invokestatic f, some (.invokevirtual j, 3) => (!mt_st f) && mf_mi.contains (j, f) && nx == pc + 3
  | .invokestatic f, some (.invokestatic j, 3) => mt_st f && mf_mi.contains (j, f) && nx == pc + 3
  | .iconst _, some (.iconst n, 1) => decide (Int32.ofInt n = im) && nx == pc + 1
  | .iconst _, some (.bipush n, 2) => decide ((Int8.ofInt n).toInt32 = im) && nx == pc + 2
  | .iconst _, some (.sipush n, 3) => decide ((Int16.ofInt n).toInt32 = im) && nx == pc + 3
  | .iconst _, some (.ldc k, 2) => mf_ci.contains (k, im) && nx == pc + 2
  | .iconst _, some (.ldc_w k, 3) => mf_ci.contains (k, im) && nx == pc + 3
  | .ldc2_w k, some (.lconst n, 1) => decide (Int64.ofNat n.val = mt_lc k) && nx == pc + 1
  | .ldc2_w k, some (.ldc2_w j, 3) => mf_li.contains (j, mt_lc k) && nx == pc + 3
  | .iinc n _, some (.iinc n' k, 3) => decide (n = n') && decide (Int32.ofInt k = im) && decide (n < nL) && nx == pc + 3
  | .iload n, some (.iload n', 2) => decide (n = n') && nx == pc + 2
  | .lload n, some (.lload n', 2) => decide (n = n') && nx == pc + 2
  | .aload n, some (.aload n', 2) => decide (n = n') && nx == pc + 2
  | .istore n, some (.istore n', 2) => decide (n = n') && decide (n < nL) && nx == pc + 2
  | .lstore n, some (.lstore n', 2) => decide (n = n') && decide (n + 1 < nL) && nx == pc + 2
  | .astore n, some (.astore n', 2) => decide (n = n') && decide (n < nL) && nx == pc + 2
  | .istore_n n, some (.istore_n n', 1) => decide (n = n') && decide (n.val < nL) && nx == pc + 1
  | .lstore_n n, some (.lstore_n n', 1) => decide (n = n') && decide (n.val + 1 < nL) && nx == pc + 1
  | .astore_n n, some (.astore_n n', 1) => decide (n = n') && decide (n.val < nL) && nx == pc + 1
  | i, some (i', 1) => pj_df i && decide (i = i') && nx == pc + 1
  | _, _ => false
theorem pj_df_ok {own : String} {cc : ByteArray} {nL : Nat} {lc : Nat → Int64} {pc : Nat} {i : Instr} {nx : Nat} {im : Int32} (h : pj_df i = true) (hd : decode cc pc = .ok (i, 1)) (hn : nx = pc + 1) : mm_ok cc nL pc i nx im := by
  cases i <;> first | (cases h; done) | exact ⟨hd, hn⟩
theorem mm_ck_ok {cc : ByteArray} {nL pc : Nat} {i : Instr} {nx : Nat} {im : Int32} (h : mm_ck nL (cc.data.toList.drop pc) pc i nx im = true) : mm_ok cc nL pc i nx im := by
  unfold mm_ck at h
  split at h
  · trivial
  all_goals try (rename_i hp; have hd := pj_dec_ok rfl hp; simp only [Bool.and_eq_true, beq_iff_eq, decide_eq_true_eq, List.contains_iff_mem, Bool.not_eq_true'] at h)
  · exact ⟨_, hd, h.1, h.2⟩
  · exact ⟨_, hd, h.1.1, h.1.2, h.2⟩
  · exact ⟨_, hd, h.1, h.2⟩
  · obtain ⟨⟨⟨rfl, a⟩, b⟩, c⟩ := h
    exact ⟨_, hd, a, b, c⟩
  · obtain ⟨⟨⟨rfl, a⟩, b⟩, c⟩ := h
    exact ⟨_, hd, a, b, c⟩
  · exact ⟨_, Or.inl ⟨hd, h.1.1⟩, h.1.2, h.2⟩
  · exact ⟨_, Or.inr ⟨hd, h.1.1⟩, h.1.2, h.2⟩
  · exact Or.inl ⟨_, hd, h.1, h.2⟩
  · exact Or.inr (Or.inl ⟨_, hd, h.1, h.2⟩)
  · exact Or.inr (Or.inr (Or.inl ⟨_, hd, h.1, h.2⟩))
  · exact Or.inr (Or.inr (Or.inr (Or.inl ⟨_, hd, mf_ci_ok _ h.1, h.2⟩)))
  · exact Or.inr (Or.inr (Or.inr (Or.inr ⟨_, hd, mf_ci_ok _ h.1, h.2⟩)))
  · exact Or.inl ⟨_, hd, h.1, h.2⟩
  · exact Or.inr ⟨_, hd, mf_li_ok _ h.1, h.2⟩
  · obtain ⟨⟨⟨rfl, a⟩, b⟩, c⟩ := h
    exact ⟨_, hd, a, b, c⟩
  · obtain ⟨rfl, c⟩ := h
    exact ⟨hd, c⟩
  · obtain ⟨rfl, c⟩ := h
    exact ⟨hd, c⟩
  · obtain ⟨rfl, c⟩ := h
    exact ⟨hd, c⟩
  · obtain ⟨⟨rfl, a⟩, c⟩ := h
    exact ⟨hd, a, c⟩
  · obtain ⟨⟨rfl, a⟩, c⟩ := h
    exact ⟨hd, a, c⟩
  · obtain ⟨⟨rfl, a⟩, c⟩ := h
    exact ⟨hd, a, c⟩
  · obtain ⟨⟨rfl, a⟩, c⟩ := h
    exact ⟨hd, a, c⟩
  · obtain ⟨⟨rfl, a⟩, c⟩ := h
    exact ⟨hd, a, c⟩
  · obtain ⟨⟨rfl, a⟩, c⟩ := h
    exact ⟨hd, a, c⟩
  · obtain ⟨⟨a, rfl⟩, c⟩ := h
    exact pj_df_ok (own := RX8) (lc := mt_lc) a hd c
  · cases h
/-- a table against bytes: entry by entry, each behind the one ahead -/
def mm_ca (nL : Nat) : List UInt8 → List pj_E → Bool
  | _, [] => true
  | bs, (pc, i, nx, im, _) :: r => mm_ck nL bs pc i nx im && decide (pc < nx) && (match r with | [] => true | e :: _ => e.1 == nx) && mm_ca nL (bs.drop (nx - pc)) r
def pj_hd (r : List pj_E) (pc : Nat) : Prop := ∀ e r', r = e :: r' → e.1 = pc
def mm_al (cc : ByteArray) (nL : Nat) : List pj_E → Prop
  | [] => True
  | (pc, i, nx, im, _) :: r => mm_ok cc nL pc i nx im ∧ pc < nx ∧ pj_hd r nx ∧ mm_al cc nL r
theorem mm_ca_ok {cc : ByteArray} {nL : Nat} : ∀ (es : List pj_E) (pc : Nat), pj_hd es pc → mm_ca nL (cc.data.toList.drop pc) es = true → mm_al cc nL es
  | [], _, _, _ => trivial
  | (pc', i, nx, im, ct) :: r, pc, hh, h => by
    have e : pc' = pc := hh _ _ rfl
    subst e
    unfold mm_ca at h
    simp only [Bool.and_eq_true, decide_eq_true_eq] at h
    obtain ⟨⟨⟨h1, h2⟩, h3⟩, h4⟩ := h
    have hr : pj_hd r nx := by
      intro e r' q
      subst q
      simpa using h3
    refine ⟨mm_ck_ok h1, h2, hr, mm_ca_ok r nx hr ?_⟩
    rw [List.drop_drop, show pc' + (nx - pc') = nx by omega] at h4
    exact h4
def pj_h0 (r : List pj_E) : Bool := match r with
  | [] => true
  | e :: _ => e.1 == 0
theorem pj_h0_ok {r : List pj_E} (h : pj_h0 r = true) : pj_hd r 0 := by
  intro e r' q
  subst q
  simpa [pj_h0] using h
def mm_mok (f : Nat) : Prop := Cond.code (my_ f) (mby_ f) (mt_nL f) (mrt_ f) ∈ lw_all ∧ (my_ f).cls = RX8 ∧ (pj_h0 (mt_code f) && mm_ca (mt_nL f) (mby_ f).data.toList (mt_code f)) = true ∧ (parseMethodDescriptor (my_ f).desc).map (fun d => d.parameters.length + (if mt_st f then 0 else 1)) = some (mt_sg f).1 ∧ (mrt_ f = match (mt_sg f).2 with | 0 => none | 1 => some .int | _ => some .boolean) ∧
  (mt_st f = false → Cond.instanceMethod (my_ f) ∈ lw_all ∧ Cond.selects RX8 (my_ f) (my_ f) ∈ lw_all) ∧ (mt_st f = true → Cond.static (my_ f) ∈ lw_all)

theorem mo_thrown : mm_mok 1 := ⟨q3677, rfl, by decide +kernel, by decide +kernel, rfl, ⟨fun _ => ⟨q3675, q3676⟩, fun h => absurd h (by decide)⟩⟩
theorem mo_nameOf : mm_mok 2 := ⟨q3770, rfl, by decide +kernel, by decide +kernel, rfl, ⟨fun _ => ⟨q3769, qs146⟩, fun h => absurd h (by decide)⟩⟩
theorem mo_isText : mm_mok 3 := ⟨q3723, rfl, by decide +kernel, by decide +kernel, rfl, ⟨fun _ => ⟨q3722, qs145⟩, fun h => absurd h (by decide)⟩⟩
theorem mo_keyword : mm_mok 4 := ⟨q3718, rfl, by decide +kernel, by decide +kernel, rfl, ⟨fun _ => ⟨q3717, qs144⟩, fun h => absurd h (by decide)⟩⟩
theorem mo_isLetter : mm_mok 5 := ⟨q3708, rfl, by decide +kernel, by decide +kernel, rfl, ⟨fun h => absurd h (by decide), fun _ => q3707⟩⟩
theorem mo_isDigit : mm_mok 6 := ⟨q3714, rfl, by decide +kernel, by decide +kernel, rfl, ⟨fun h => absurd h (by decide), fun _ => q3713⟩⟩
theorem mo_isRest : mm_mok 7 := ⟨q3711, rfl, by decide +kernel, by decide +kernel, rfl, ⟨fun h => absurd h (by decide), fun _ => q3710⟩⟩
theorem mo_look : mm_mok 8 := ⟨q3697, rfl, by decide +kernel, by decide +kernel, rfl, ⟨fun _ => ⟨q3696, qs141⟩, fun h => absurd h (by decide)⟩⟩
theorem mo_endsLine : mm_mok 9 := ⟨q3777, rfl, by decide +kernel, by decide +kernel, rfl, ⟨fun h => absurd h (by decide), fun _ => q3776⟩⟩
theorem mo_isBeginning : mm_mok 10 := ⟨q3780, rfl, by decide +kernel, by decide +kernel, rfl, ⟨fun h => absurd h (by decide), fun _ => q3779⟩⟩
theorem mo_isDoless : mm_mok 11 := ⟨q3783, rfl, by decide +kernel, by decide +kernel, rfl, ⟨fun h => absurd h (by decide), fun _ => q3782⟩⟩
theorem mo_token : mm_mok 12 := ⟨q3774, rfl, by decide +kernel, by decide +kernel, rfl, ⟨fun _ => ⟨q3773, qs147⟩, fun h => absurd h (by decide)⟩⟩
theorem mo_oneC : mm_mok 13 := ⟨q3792, rfl, by decide +kernel, by decide +kernel, rfl, ⟨fun _ => ⟨q3791, qs149⟩, fun h => absurd h (by decide)⟩⟩
theorem mo_stringAt : mm_mok 14 := ⟨q3796, rfl, by decide +kernel, by decide +kernel, rfl, ⟨fun _ => ⟨q3795, qs150⟩, fun h => absurd h (by decide)⟩⟩
theorem mo_digits : mm_mok 15 := ⟨q3787, rfl, by decide +kernel, by decide +kernel, rfl, ⟨fun _ => ⟨q3786, qs148⟩, fun h => absurd h (by decide)⟩⟩
theorem mo_isPair : mm_mok 16 := ⟨q3701, rfl, by decide +kernel, by decide +kernel, rfl, ⟨fun _ => ⟨q3700, qs142⟩, fun h => absurd h (by decide)⟩⟩
theorem mo_signAt : mm_mok 17 := ⟨q3800, rfl, by decide +kernel, by decide +kernel, rfl, ⟨fun _ => ⟨q3799, qs151⟩, fun h => absurd h (by decide)⟩⟩
theorem mo_scan : mm_mok 18 := ⟨q3693, rfl, by decide +kernel, by decide +kernel, rfl, ⟨fun _ => ⟨q3692, qs140⟩, fun h => absurd h (by decide)⟩⟩
theorem mo_one : mm_mok 19 := ⟨q3705, rfl, by decide +kernel, by decide +kernel, rfl, ⟨fun _ => ⟨q3704, qs143⟩, fun h => absurd h (by decide)⟩⟩
theorem mo_node : mm_mok 20 := ⟨q3836, rfl, by decide +kernel, by decide +kernel, rfl, ⟨fun _ => ⟨q3835, qs160⟩, fun h => absurd h (by decide)⟩⟩
theorem mo_leaf : mm_mok 21 := ⟨q3855, rfl, by decide +kernel, by decide +kernel, rfl, ⟨fun _ => ⟨q3854, qs164⟩, fun h => absurd h (by decide)⟩⟩
theorem mo_shut : mm_mok 22 := ⟨q3832, rfl, by decide +kernel, by decide +kernel, rfl, ⟨fun _ => ⟨q3831, qs159⟩, fun h => absurd h (by decide)⟩⟩
theorem mo_pairs : mm_mok 23 := ⟨q3897, rfl, by decide +kernel, by decide +kernel, rfl, ⟨fun _ => ⟨q3896, qs173⟩, fun h => absurd h (by decide)⟩⟩
theorem mo_goal : mm_mok 24 := ⟨q3808, rfl, by decide +kernel, by decide +kernel, rfl, ⟨fun _ => ⟨q3807, qs153⟩, fun h => absurd h (by decide)⟩⟩
theorem mo_tk : mm_mok 25 := ⟨q3820, rfl, by decide +kernel, by decide +kernel, rfl, ⟨fun _ => ⟨q3819, qs156⟩, fun h => absurd h (by decide)⟩⟩
theorem mo_tkNext : mm_mok 26 := ⟨q3893, rfl, by decide +kernel, by decide +kernel, rfl, ⟨fun _ => ⟨q3892, qs172⟩, fun h => absurd h (by decide)⟩⟩
theorem mo_take : mm_mok 27 := ⟨q3828, rfl, by decide +kernel, by decide +kernel, rfl, ⟨fun _ => ⟨q3827, qs158⟩, fun h => absurd h (by decide)⟩⟩
theorem mo_deeper : mm_mok 28 := ⟨q3824, rfl, by decide +kernel, by decide +kernel, rfl, ⟨fun _ => ⟨q3823, qs157⟩, fun h => absurd h (by decide)⟩⟩
theorem mo_isD : mm_mok 29 := ⟨q3866, rfl, by decide +kernel, by decide +kernel, rfl, ⟨fun h => absurd h (by decide), fun _ => q3865⟩⟩
theorem mo_openSection : mm_mok 30 := ⟨q3859, rfl, by decide +kernel, by decide +kernel, rfl, ⟨fun _ => ⟨q3858, qs165⟩, fun h => absurd h (by decide)⟩⟩
theorem mo_shutSection : mm_mok 31 := ⟨q3870, rfl, by decide +kernel, by decide +kernel, rfl, ⟨fun _ => ⟨q3869, qs167⟩, fun h => absurd h (by decide)⟩⟩
theorem mo_parse : mm_mok 32 := ⟨q3804, rfl, by decide +kernel, by decide +kernel, rfl, ⟨fun _ => ⟨q3803, qs152⟩, fun h => absurd h (by decide)⟩⟩
theorem mo_reach : mm_mok 33 := ⟨q3812, rfl, by decide +kernel, by decide +kernel, rfl, ⟨fun _ => ⟨q3811, qs154⟩, fun h => absurd h (by decide)⟩⟩
theorem mo_reachD : mm_mok 34 := ⟨q3863, rfl, by decide +kernel, by decide +kernel, rfl, ⟨fun _ => ⟨q3862, qs166⟩, fun h => absurd h (by decide)⟩⟩
theorem mo_reachP : mm_mok 35 := ⟨q3874, rfl, by decide +kernel, by decide +kernel, rfl, ⟨fun _ => ⟨q3873, qs168⟩, fun h => absurd h (by decide)⟩⟩
theorem mo_beginsE : mm_mok 36 := ⟨q3885, rfl, by decide +kernel, by decide +kernel, rfl, ⟨fun h => absurd h (by decide), fun _ => q3884⟩⟩
theorem mo_reachC : mm_mok 37 := ⟨q3878, rfl, by decide +kernel, by decide +kernel, rfl, ⟨fun _ => ⟨q3877, qs169⟩, fun h => absurd h (by decide)⟩⟩
theorem mo_labels : mm_mok 38 := ⟨q3889, rfl, by decide +kernel, by decide +kernel, rfl, ⟨fun _ => ⟨q3888, qs171⟩, fun h => absurd h (by decide)⟩⟩
theorem mo_command : mm_mok 39 := ⟨q3882, rfl, by decide +kernel, by decide +kernel, rfl, ⟨fun _ => ⟨q3881, qs170⟩, fun h => absurd h (by decide)⟩⟩
theorem mo_levelOf : mm_mok 40 := ⟨q3839, rfl, by decide +kernel, by decide +kernel, rfl, ⟨fun h => absurd h (by decide), fun _ => q3838⟩⟩
theorem mo_reachE : mm_mok 41 := ⟨q3816, rfl, by decide +kernel, by decide +kernel, rfl, ⟨fun _ => ⟨q3815, qs155⟩, fun h => absurd h (by decide)⟩⟩
theorem mo_calls : mm_mok 42 := ⟨q3847, rfl, by decide +kernel, by decide +kernel, rfl, ⟨fun _ => ⟨q3846, qs162⟩, fun h => absurd h (by decide)⟩⟩
theorem mo_primary : mm_mok 43 := ⟨q3851, rfl, by decide +kernel, by decide +kernel, rfl, ⟨fun _ => ⟨q3850, qs163⟩, fun h => absurd h (by decide)⟩⟩
theorem mo_binary : mm_mok 44 := ⟨q3843, rfl, by decide +kernel, by decide +kernel, rfl, ⟨fun _ => ⟨q3842, qs161⟩, fun h => absurd h (by decide)⟩⟩
theorem mo_fault : mm_mok 45 := ⟨q3901, rfl, by decide +kernel, by decide +kernel, rfl, ⟨fun _ => ⟨q3900, qs174⟩, fun h => absurd h (by decide)⟩⟩
theorem mo_place : mm_mok 46 := ⟨q3975, rfl, by decide +kernel, by decide +kernel, rfl, ⟨fun _ => ⟨q3974, qs187⟩, fun h => absurd h (by decide)⟩⟩
theorem mo_means : mm_mok 47 := ⟨q3971, rfl, by decide +kernel, by decide +kernel, rfl, ⟨fun _ => ⟨q3970, qs186⟩, fun h => absurd h (by decide)⟩⟩
theorem mo_entry : mm_mok 48 := ⟨q3919, rfl, by decide +kernel, by decide +kernel, rfl, ⟨fun _ => ⟨q3918, qs178⟩, fun h => absurd h (by decide)⟩⟩
theorem mo_declare : mm_mok 49 := ⟨q3979, rfl, by decide +kernel, by decide +kernel, rfl, ⟨fun _ => ⟨q3978, qs188⟩, fun h => absurd h (by decide)⟩⟩
theorem mo_tokenOfTwice : mm_mok 50 := ⟨q3983, rfl, by decide +kernel, by decide +kernel, rfl, ⟨fun _ => ⟨q3982, qs189⟩, fun h => absurd h (by decide)⟩⟩
theorem mo_isK : mm_mok 51 := ⟨q3991, rfl, by decide +kernel, by decide +kernel, rfl, ⟨fun _ => ⟨q3990, qs191⟩, fun h => absurd h (by decide)⟩⟩
theorem mo_isKName : mm_mok 52 := ⟨q3995, rfl, by decide +kernel, by decide +kernel, rfl, ⟨fun _ => ⟨q3994, qs192⟩, fun h => absurd h (by decide)⟩⟩
theorem mo_shifted : mm_mok 53 := ⟨q4017, rfl, by decide +kernel, by decide +kernel, rfl, ⟨fun h => absurd h (by decide), fun _ => q4016⟩⟩
theorem mo_quotient : mm_mok 54 := ⟨q4011, rfl, by decide +kernel, by decide +kernel, rfl, ⟨fun h => absurd h (by decide), fun _ => q4010⟩⟩
theorem mo_remainder : mm_mok 55 := ⟨q4014, rfl, by decide +kernel, by decide +kernel, rfl, ⟨fun h => absurd h (by decide), fun _ => q4013⟩⟩
theorem mo_worked : mm_mok 56 := ⟨q4008, rfl, by decide +kernel, by decide +kernel, rfl, ⟨fun h => absurd h (by decide), fun _ => q4007⟩⟩
theorem mo_related : mm_mok 57 := ⟨q4005, rfl, by decide +kernel, by decide +kernel, rfl, ⟨fun h => absurd h (by decide), fun _ => q4004⟩⟩
theorem mo_signed : mm_mok 58 := ⟨q4002, rfl, by decide +kernel, by decide +kernel, rfl, ⟨fun h => absurd h (by decide), fun _ => q4001⟩⟩
theorem mo_constant : mm_mok 59 := ⟨q3987, rfl, by decide +kernel, by decide +kernel, rfl, ⟨fun _ => ⟨q3986, qs190⟩, fun h => absurd h (by decide)⟩⟩
theorem mo_later : mm_mok 60 := ⟨q3999, rfl, by decide +kernel, by decide +kernel, rfl, ⟨fun _ => ⟨q3998, qs193⟩, fun h => absurd h (by decide)⟩⟩
theorem mo_task : mm_mok 61 := ⟨q3947, rfl, by decide +kernel, by decide +kernel, rfl, ⟨fun _ => ⟨q3946, qs180⟩, fun h => absurd h (by decide)⟩⟩
theorem mo_put : mm_mok 62 := ⟨q4033, rfl, by decide +kernel, by decide +kernel, rfl, ⟨fun _ => ⟨q4032, qs197⟩, fun h => absurd h (by decide)⟩⟩
theorem mo_pull : mm_mok 63 := ⟨q4070, rfl, by decide +kernel, by decide +kernel, rfl, ⟨fun _ => ⟨q4069, qs206⟩, fun h => absurd h (by decide)⟩⟩
theorem mo_init_2 : mm_mok 64 := ⟨q4021, rfl, by decide +kernel, by decide +kernel, rfl, ⟨fun _ => ⟨q4020, qs194⟩, fun h => absurd h (by decide)⟩⟩
theorem mo_children : mm_mok 65 := ⟨q3943, rfl, by decide +kernel, by decide +kernel, rfl, ⟨fun _ => ⟨q3942, qs179⟩, fun h => absurd h (by decide)⟩⟩
theorem mo_turn : mm_mok 66 := ⟨q3951, rfl, by decide +kernel, by decide +kernel, rfl, ⟨fun _ => ⟨q3950, qs181⟩, fun h => absurd h (by decide)⟩⟩
theorem mo_library : mm_mok 67 := ⟨q3909, rfl, by decide +kernel, by decide +kernel, rfl, ⟨fun _ => ⟨q3908, qs176⟩, fun h => absurd h (by decide)⟩⟩
theorem mo_lib : mm_mok 68 := ⟨q3914, rfl, by decide +kernel, by decide +kernel, rfl, ⟨fun _ => ⟨q3913, qs177⟩, fun h => absurd h (by decide)⟩⟩
theorem mo_check : mm_mok 69 := ⟨q3905, rfl, by decide +kernel, by decide +kernel, rfl, ⟨fun _ => ⟨q3904, qs175⟩, fun h => absurd h (by decide)⟩⟩
theorem mo_go : mm_mok 70 := ⟨q3955, rfl, by decide +kernel, by decide +kernel, rfl, ⟨fun _ => ⟨q3954, qs182⟩, fun h => absurd h (by decide)⟩⟩
theorem mo_nameToken : mm_mok 71 := ⟨q3967, rfl, by decide +kernel, by decide +kernel, rfl, ⟨fun _ => ⟨q3966, qs185⟩, fun h => absurd h (by decide)⟩⟩
theorem mo_declaration : mm_mok 72 := ⟨q3959, rfl, by decide +kernel, by decide +kernel, rfl, ⟨fun _ => ⟨q3958, qs183⟩, fun h => absurd h (by decide)⟩⟩
theorem mo_letRoutines : mm_mok 73 := ⟨q3963, rfl, by decide +kernel, by decide +kernel, rfl, ⟨fun _ => ⟨q3962, qs184⟩, fun h => absurd h (by decide)⟩⟩
theorem mo_routineOf : mm_mok 74 := ⟨q4061, rfl, by decide +kernel, by decide +kernel, rfl, ⟨fun _ => ⟨q4060, qs204⟩, fun h => absurd h (by decide)⟩⟩
theorem mo_routineEnds : mm_mok 75 := ⟨q4066, rfl, by decide +kernel, by decide +kernel, rfl, ⟨fun _ => ⟨q4065, qs205⟩, fun h => absurd h (by decide)⟩⟩
theorem mo_uses : mm_mok 76 := ⟨q4078, rfl, by decide +kernel, by decide +kernel, rfl, ⟨fun _ => ⟨q4077, qs208⟩, fun h => absurd h (by decide)⟩⟩
theorem mo_varsEnd : mm_mok 77 := ⟨q4074, rfl, by decide +kernel, by decide +kernel, rfl, ⟨fun _ => ⟨q4073, qs207⟩, fun h => absurd h (by decide)⟩⟩
theorem mo_blockEnds : mm_mok 78 := ⟨q4083, rfl, by decide +kernel, by decide +kernel, rfl, ⟨fun _ => ⟨q4082, qs209⟩, fun h => absurd h (by decide)⟩⟩
theorem mo_beginBlock : mm_mok 79 := ⟨q4029, rfl, by decide +kernel, by decide +kernel, rfl, ⟨fun _ => ⟨q4028, qs196⟩, fun h => absurd h (by decide)⟩⟩
theorem mo_labelsOf : mm_mok 80 := ⟨q4037, rfl, by decide +kernel, by decide +kernel, rfl, ⟨fun _ => ⟨q4036, qs198⟩, fun h => absurd h (by decide)⟩⟩
theorem mo_forName : mm_mok 81 := ⟨q4087, rfl, by decide +kernel, by decide +kernel, rfl, ⟨fun _ => ⟨q4086, qs210⟩, fun h => absurd h (by decide)⟩⟩
theorem mo_switchOf : mm_mok 82 := ⟨q4091, rfl, by decide +kernel, by decide +kernel, rfl, ⟨fun _ => ⟨q4090, qs211⟩, fun h => absurd h (by decide)⟩⟩
theorem mo_isTwice : mm_mok 83 := ⟨q4095, rfl, by decide +kernel, by decide +kernel, rfl, ⟨fun _ => ⟨q4094, qs212⟩, fun h => absurd h (by decide)⟩⟩
theorem mo_part : mm_mok 84 := ⟨q4099, rfl, by decide +kernel, by decide +kernel, rfl, ⟨fun _ => ⟨q4098, qs213⟩, fun h => absurd h (by decide)⟩⟩
theorem mo_commandOf : mm_mok 85 := ⟨q4025, rfl, by decide +kernel, by decide +kernel, rfl, ⟨fun _ => ⟨q4024, qs195⟩, fun h => absurd h (by decide)⟩⟩
theorem mo_goesTo : mm_mok 86 := ⟨q4041, rfl, by decide +kernel, by decide +kernel, rfl, ⟨fun _ => ⟨q4040, qs199⟩, fun h => absurd h (by decide)⟩⟩
theorem mo_named : mm_mok 87 := ⟨q4049, rfl, by decide +kernel, by decide +kernel, rfl, ⟨fun _ => ⟨q4048, qs201⟩, fun h => absurd h (by decide)⟩⟩
theorem mo_placeOf : mm_mok 88 := ⟨q4057, rfl, by decide +kernel, by decide +kernel, rfl, ⟨fun _ => ⟨q4056, qs203⟩, fun h => absurd h (by decide)⟩⟩
theorem mo_expressionOf : mm_mok 89 := ⟨q4045, rfl, by decide +kernel, by decide +kernel, rfl, ⟨fun _ => ⟨q4044, qs200⟩, fun h => absurd h (by decide)⟩⟩
theorem mo_string : mm_mok 90 := ⟨q4053, rfl, by decide +kernel, by decide +kernel, rfl, ⟨fun _ => ⟨q4052, qs202⟩, fun h => absurd h (by decide)⟩⟩
theorem mo_todoTask : mm_mok 92 := ⟨q4144, rfl, by decide +kernel, by decide +kernel, rfl, ⟨fun _ => ⟨q4143, qs219⟩, fun h => absurd h (by decide)⟩⟩
theorem mo_err : mm_mok 93 := ⟨q4136, rfl, by decide +kernel, by decide +kernel, rfl, ⟨fun _ => ⟨q4135, qs217⟩, fun h => absurd h (by decide)⟩⟩
theorem mo_burns : mm_mok 94 := ⟨q4132, rfl, by decide +kernel, by decide +kernel, rfl, ⟨fun _ => ⟨q4131, qs216⟩, fun h => absurd h (by decide)⟩⟩
theorem mo_push : mm_mok 95 := ⟨q4159, rfl, by decide +kernel, by decide +kernel, rfl, ⟨fun _ => ⟨q4158, qs222⟩, fun h => absurd h (by decide)⟩⟩
theorem mo_pop : mm_mok 96 := ⟨q4179, rfl, by decide +kernel, by decide +kernel, rfl, ⟨fun _ => ⟨q4178, qs227⟩, fun h => absurd h (by decide)⟩⟩
theorem mo_read : mm_mok 97 := ⟨q4183, rfl, by decide +kernel, by decide +kernel, rfl, ⟨fun _ => ⟨q4182, qs228⟩, fun h => absurd h (by decide)⟩⟩
theorem mo_write : mm_mok 98 := ⟨q4258, rfl, by decide +kernel, by decide +kernel, rfl, ⟨fun _ => ⟨q4257, qs246⟩, fun h => absurd h (by decide)⟩⟩
theorem mo_wordOf : mm_mok 99 := ⟨q4163, rfl, by decide +kernel, by decide +kernel, rfl, ⟨fun _ => ⟨q4162, qs223⟩, fun h => absurd h (by decide)⟩⟩
theorem mo_evaluate : mm_mok 100 := ⟨q4155, rfl, by decide +kernel, by decide +kernel, rfl, ⟨fun _ => ⟨q4154, qs221⟩, fun h => absurd h (by decide)⟩⟩
theorem mo_turnTodo : mm_mok 101 := ⟨q4171, rfl, by decide +kernel, by decide +kernel, rfl, ⟨fun _ => ⟨q4170, qs225⟩, fun h => absurd h (by decide)⟩⟩
theorem mo_address : mm_mok 102 := ⟨q4167, rfl, by decide +kernel, by decide +kernel, rfl, ⟨fun _ => ⟨q4166, qs224⟩, fun h => absurd h (by decide)⟩⟩
theorem mo_bin : mm_mok 103 := ⟨q4175, rfl, by decide +kernel, by decide +kernel, rfl, ⟨fun _ => ⟨q4174, qs226⟩, fun h => absurd h (by decide)⟩⟩
theorem mo_rel : mm_mok 104 := ⟨q4187, rfl, by decide +kernel, by decide +kernel, rfl, ⟨fun _ => ⟨q4186, qs229⟩, fun h => absurd h (by decide)⟩⟩
theorem mo_limit : mm_mok 105 := ⟨q4140, rfl, by decide +kernel, by decide +kernel, rfl, ⟨fun _ => ⟨q4139, qs218⟩, fun h => absurd h (by decide)⟩⟩
theorem mo_enter : mm_mok 106 := ⟨q4128, rfl, by decide +kernel, by decide +kernel, rfl, ⟨fun _ => ⟨q4127, qs215⟩, fun h => absurd h (by decide)⟩⟩
theorem mo_call : mm_mok 107 := ⟨q4191, rfl, by decide +kernel, by decide +kernel, rfl, ⟨fun _ => ⟨q4190, qs230⟩, fun h => absurd h (by decide)⟩⟩
theorem mo_arg : mm_mok 108 := ⟨q4200, rfl, by decide +kernel, by decide +kernel, rfl, ⟨fun _ => ⟨q4199, qs232⟩, fun h => absurd h (by decide)⟩⟩
theorem mo_outByte : mm_mok 109 := ⟨q4210, rfl, by decide +kernel, by decide +kernel, rfl, ⟨fun _ => ⟨q4209, qs234⟩, fun h => absurd h (by decide)⟩⟩
theorem mo_decimal : mm_mok 110 := ⟨q4204, rfl, by decide +kernel, by decide +kernel, rfl, ⟨fun _ => ⟨q4203, qs233⟩, fun h => absurd h (by decide)⟩⟩
theorem mo_nextByte : mm_mok 111 := ⟨q4218, rfl, by decide +kernel, by decide +kernel, rfl, ⟨fun _ => ⟨q4217, qs236⟩, fun h => absurd h (by decide)⟩⟩
theorem mo_peek : mm_mok 112 := ⟨q4238, rfl, by decide +kernel, by decide +kernel, rfl, ⟨fun _ => ⟨q4237, qs241⟩, fun h => absurd h (by decide)⟩⟩
theorem mo_readNumber : mm_mok 113 := ⟨q4234, rfl, by decide +kernel, by decide +kernel, rfl, ⟨fun _ => ⟨q4233, qs240⟩, fun h => absurd h (by decide)⟩⟩
theorem mo_isBlank : mm_mok 114 := ⟨q4119, rfl, by decide +kernel, by decide +kernel, rfl, ⟨fun h => absurd h (by decide), fun _ => q4118⟩⟩
theorem mo_rowsOf : mm_mok 115 := ⟨q4116, rfl, by decide +kernel, by decide +kernel, rfl, ⟨fun _ => ⟨q4115, qs214⟩, fun h => absurd h (by decide)⟩⟩
theorem mo_writeString : mm_mok 116 := ⟨q4214, rfl, by decide +kernel, by decide +kernel, rfl, ⟨fun _ => ⟨q4213, qs235⟩, fun h => absurd h (by decide)⟩⟩
theorem mo_getVector : mm_mok 117 := ⟨q4222, rfl, by decide +kernel, by decide +kernel, rfl, ⟨fun _ => ⟨q4221, qs237⟩, fun h => absurd h (by decide)⟩⟩
theorem mo_layVector : mm_mok 118 := ⟨q4226, rfl, by decide +kernel, by decide +kernel, rfl, ⟨fun _ => ⟨q4225, qs238⟩, fun h => absurd h (by decide)⟩⟩
theorem mo_freeVector : mm_mok 119 := ⟨q4230, rfl, by decide +kernel, by decide +kernel, rfl, ⟨fun _ => ⟨q4229, qs239⟩, fun h => absurd h (by decide)⟩⟩
theorem mo_toVector : mm_mok 120 := ⟨q4242, rfl, by decide +kernel, by decide +kernel, rfl, ⟨fun _ => ⟨q4241, qs242⟩, fun h => absurd h (by decide)⟩⟩
theorem mo_libraryCall : mm_mok 121 := ⟨q4196, rfl, by decide +kernel, by decide +kernel, rfl, ⟨fun _ => ⟨q4195, qs231⟩, fun h => absurd h (by decide)⟩⟩
theorem mo_perform : mm_mok 122 := ⟨q4246, rfl, by decide +kernel, by decide +kernel, rfl, ⟨fun _ => ⟨q4245, qs243⟩, fun h => absurd h (by decide)⟩⟩
theorem mo_assign : mm_mok 123 := ⟨q4250, rfl, by decide +kernel, by decide +kernel, rfl, ⟨fun _ => ⟨q4249, qs244⟩, fun h => absurd h (by decide)⟩⟩
theorem mo_stores : mm_mok 124 := ⟨q4254, rfl, by decide +kernel, by decide +kernel, rfl, ⟨fun _ => ⟨q4253, qs245⟩, fun h => absurd h (by decide)⟩⟩
theorem mo_loop : mm_mok 125 := ⟨q4262, rfl, by decide +kernel, by decide +kernel, rfl, ⟨fun _ => ⟨q4261, qs247⟩, fun h => absurd h (by decide)⟩⟩
theorem mo_isStep : mm_mok 126 := ⟨q4266, rfl, by decide +kernel, by decide +kernel, rfl, ⟨fun _ => ⟨q4265, qs248⟩, fun h => absurd h (by decide)⟩⟩
theorem mo_asked : mm_mok 127 := ⟨q4270, rfl, by decide +kernel, by decide +kernel, rfl, ⟨fun _ => ⟨q4269, qs249⟩, fun h => absurd h (by decide)⟩⟩
theorem mo_section : mm_mok 128 := ⟨q4274, rfl, by decide +kernel, by decide +kernel, rfl, ⟨fun _ => ⟨q4273, qs250⟩, fun h => absurd h (by decide)⟩⟩
theorem mo_variables : mm_mok 129 := ⟨q4282, rfl, by decide +kernel, by decide +kernel, rfl, ⟨fun _ => ⟨q4281, qs252⟩, fun h => absurd h (by decide)⟩⟩
theorem mo_choose : mm_mok 130 := ⟨q4286, rfl, by decide +kernel, by decide +kernel, rfl, ⟨fun _ => ⟨q4285, qs253⟩, fun h => absurd h (by decide)⟩⟩
theorem mo_doNext : mm_mok 131 := ⟨q4151, rfl, by decide +kernel, by decide +kernel, rfl, ⟨fun _ => ⟨q4150, qs220⟩, fun h => absurd h (by decide)⟩⟩
theorem mo_returns : mm_mok 132 := ⟨q4278, rfl, by decide +kernel, by decide +kernel, rfl, ⟨fun _ => ⟨q4277, qs251⟩, fun h => absurd h (by decide)⟩⟩
theorem mo_feed : mm_mok 133 := ⟨q3681, rfl, by decide +kernel, by decide +kernel, rfl, ⟨fun _ => ⟨q3679, q3680⟩, fun h => absurd h (by decide)⟩⟩
theorem mo_end : mm_mok 134 := ⟨q3685, rfl, by decide +kernel, by decide +kernel, rfl, ⟨fun _ => ⟨q3683, q3684⟩, fun h => absurd h (by decide)⟩⟩
theorem mo_compile : mm_mok 135 := ⟨q3689, rfl, by decide +kernel, by decide +kernel, rfl, ⟨fun _ => ⟨q3687, q3688⟩, fun h => absurd h (by decide)⟩⟩
theorem mo_fault_2 : mm_mok 136 := ⟨q4103, rfl, by decide +kernel, by decide +kernel, rfl, ⟨fun _ => ⟨q4101, q4102⟩, fun h => absurd h (by decide)⟩⟩
theorem mo_store : mm_mok 137 := ⟨q4107, rfl, by decide +kernel, by decide +kernel, rfl, ⟨fun _ => ⟨q4105, q4106⟩, fun h => absurd h (by decide)⟩⟩
theorem mo_input : mm_mok 138 := ⟨q4112, rfl, by decide +kernel, by decide +kernel, rfl, ⟨fun _ => ⟨q4110, q4111⟩, fun h => absurd h (by decide)⟩⟩
theorem mo_run : mm_mok 139 := ⟨q4123, rfl, by decide +kernel, by decide +kernel, rfl, ⟨fun _ => ⟨q4121, q4122⟩, fun h => absurd h (by decide)⟩⟩
theorem mo_value : mm_mok 140 := ⟨q4290, rfl, by decide +kernel, by decide +kernel, rfl, ⟨fun _ => ⟨q4288, q4289⟩, fun h => absurd h (by decide)⟩⟩
theorem mo_out : mm_mok 141 := ⟨q4294, rfl, by decide +kernel, by decide +kernel, rfl, ⟨fun _ => ⟨q4292, q4293⟩, fun h => absurd h (by decide)⟩⟩
theorem mo_outAt : mm_mok 142 := ⟨q4298, rfl, by decide +kernel, by decide +kernel, rfl, ⟨fun _ => ⟨q4296, q4297⟩, fun h => absurd h (by decide)⟩⟩
theorem mo_word : mm_mok 143 := ⟨q4302, rfl, by decide +kernel, by decide +kernel, rfl, ⟨fun _ => ⟨q4300, q4301⟩, fun h => absurd h (by decide)⟩⟩
theorem mo_fuel : mm_mok 144 := ⟨q4306, rfl, by decide +kernel, by decide +kernel, rfl, ⟨fun _ => ⟨q4304, q4305⟩, fun h => absurd h (by decide)⟩⟩
theorem mf_mi_ok : ∀ q ∈ mf_mi, Cond.methodLink RX8 q.1 (my_ q.2) ∈ lw_all ∧ mm_mok q.2 := List.forall_mem_cons.mpr ⟨⟨q3720, mo_isText⟩, List.forall_mem_cons.mpr ⟨⟨q3706, mo_isLetter⟩, List.forall_mem_cons.mpr ⟨⟨q3712, mo_isDigit⟩, List.forall_mem_cons.mpr ⟨⟨q3781, mo_isDoless⟩, List.forall_mem_cons.mpr ⟨⟨q3775, mo_endsLine⟩, List.forall_mem_cons.mpr ⟨⟨q3778, mo_isBeginning⟩, List.forall_mem_cons.mpr ⟨⟨q3694, mo_look⟩, List.forall_mem_cons.mpr ⟨⟨q3789, mo_oneC⟩, List.forall_mem_cons.mpr ⟨⟨q3698, mo_isPair⟩, List.forall_mem_cons.mpr ⟨⟨q3702, mo_one⟩, List.forall_mem_cons.mpr ⟨⟨q3709, mo_isRest⟩, List.forall_mem_cons.mpr ⟨⟨q3715, mo_keyword⟩, List.forall_mem_cons.mpr ⟨⟨q3767, mo_nameOf⟩, List.forall_mem_cons.mpr ⟨⟨q3771, mo_token⟩, List.forall_mem_cons.mpr ⟨⟨q3784, mo_digits⟩, List.forall_mem_cons.mpr ⟨⟨q3793, mo_stringAt⟩, List.forall_mem_cons.mpr ⟨⟨q3797, mo_signAt⟩, List.forall_mem_cons.mpr ⟨⟨q3833, mo_node⟩, List.forall_mem_cons.mpr ⟨⟨q3817, mo_tk⟩, List.forall_mem_cons.mpr ⟨⟨q3821, mo_deeper⟩, List.forall_mem_cons.mpr ⟨⟨q3805, mo_goal⟩, List.forall_mem_cons.mpr ⟨⟨q3809, mo_reach⟩, List.forall_mem_cons.mpr ⟨⟨q3829, mo_shut⟩, List.forall_mem_cons.mpr ⟨⟨q3813, mo_reachE⟩, List.forall_mem_cons.mpr ⟨⟨q3825, mo_take⟩, List.forall_mem_cons.mpr ⟨⟨q3856, mo_openSection⟩, List.forall_mem_cons.mpr ⟨⟨q3860, mo_reachD⟩, List.forall_mem_cons.mpr ⟨⟨q3875, mo_reachC⟩, List.forall_mem_cons.mpr ⟨⟨q3864, mo_isD⟩, List.forall_mem_cons.mpr ⟨⟨q3867, mo_shutSection⟩, List.forall_mem_cons.mpr ⟨⟨q3871, mo_reachP⟩, List.forall_mem_cons.mpr ⟨⟨q3852, mo_leaf⟩, List.forall_mem_cons.mpr ⟨⟨q3879, mo_command⟩, List.forall_mem_cons.mpr ⟨⟨q3886, mo_labels⟩, List.forall_mem_cons.mpr ⟨⟨q3894, mo_pairs⟩, List.forall_mem_cons.mpr ⟨⟨q3890, mo_tkNext⟩, List.forall_mem_cons.mpr ⟨⟨q3883, mo_beginsE⟩, List.forall_mem_cons.mpr ⟨⟨q3837, mo_levelOf⟩, List.forall_mem_cons.mpr ⟨⟨q3840, mo_binary⟩, List.forall_mem_cons.mpr ⟨⟨q3844, mo_calls⟩, List.forall_mem_cons.mpr ⟨⟨q3848, mo_primary⟩, List.forall_mem_cons.mpr ⟨⟨q3980, mo_tokenOfTwice⟩, List.forall_mem_cons.mpr ⟨⟨q3898, mo_fault⟩, List.forall_mem_cons.mpr ⟨⟨q3916, mo_entry⟩, List.forall_mem_cons.mpr ⟨⟨q3972, mo_place⟩, List.forall_mem_cons.mpr ⟨⟨q3992, mo_isKName⟩, List.forall_mem_cons.mpr ⟨⟨q3968, mo_means⟩, List.forall_mem_cons.mpr ⟨⟨q4009, mo_quotient⟩, List.forall_mem_cons.mpr ⟨⟨q4012, mo_remainder⟩, List.forall_mem_cons.mpr ⟨⟨q4015, mo_shifted⟩, List.forall_mem_cons.mpr ⟨⟨q3988, mo_isK⟩, List.forall_mem_cons.mpr ⟨⟨q3996, mo_later⟩, List.forall_mem_cons.mpr ⟨⟨q4000, mo_signed⟩, List.forall_mem_cons.mpr ⟨⟨q4003, mo_related⟩, List.forall_mem_cons.mpr ⟨⟨q4006, mo_worked⟩, List.forall_mem_cons.mpr ⟨⟨q3944, mo_task⟩, List.forall_mem_cons.mpr ⟨⟨q3948, mo_turn⟩, List.forall_mem_cons.mpr ⟨⟨q3911, mo_lib⟩, List.forall_mem_cons.mpr ⟨⟨q3906, mo_library⟩, List.forall_mem_cons.mpr ⟨⟨q3940, mo_children⟩, List.forall_mem_cons.mpr ⟨⟨q3952, mo_go⟩, List.forall_mem_cons.mpr ⟨⟨q3956, mo_declaration⟩, List.forall_mem_cons.mpr ⟨⟨q4022, mo_commandOf⟩, List.forall_mem_cons.mpr ⟨⟨q4042, mo_expressionOf⟩, List.forall_mem_cons.mpr ⟨⟨q4054, mo_placeOf⟩, List.forall_mem_cons.mpr ⟨⟨q4058, mo_routineOf⟩, List.forall_mem_cons.mpr ⟨⟨q4063, mo_routineEnds⟩, List.forall_mem_cons.mpr ⟨⟨q4071, mo_varsEnd⟩, List.forall_mem_cons.mpr ⟨⟨q4080, mo_blockEnds⟩, List.forall_mem_cons.mpr ⟨⟨q4084, mo_forName⟩, List.forall_mem_cons.mpr ⟨⟨q4088, mo_switchOf⟩, List.forall_mem_cons.mpr ⟨⟨q4096, mo_part⟩, List.forall_mem_cons.mpr ⟨⟨q4067, mo_pull⟩, List.forall_mem_cons.mpr ⟨⟨q3960, mo_letRoutines⟩, List.forall_mem_cons.mpr ⟨⟨q3964, mo_nameToken⟩, List.forall_mem_cons.mpr ⟨⟨q3976, mo_declare⟩, List.forall_mem_cons.mpr ⟨⟨q3984, mo_constant⟩, List.forall_mem_cons.mpr ⟨⟨q4018, mo_init_2⟩, List.forall_mem_cons.mpr ⟨⟨q4030, mo_put⟩, List.forall_mem_cons.mpr ⟨⟨q4075, mo_uses⟩, List.forall_mem_cons.mpr ⟨⟨q4026, mo_beginBlock⟩, List.forall_mem_cons.mpr ⟨⟨q4034, mo_labelsOf⟩, List.forall_mem_cons.mpr ⟨⟨q4092, mo_isTwice⟩, List.forall_mem_cons.mpr ⟨⟨q4038, mo_goesTo⟩, List.forall_mem_cons.mpr ⟨⟨q4046, mo_named⟩, List.forall_mem_cons.mpr ⟨⟨q4050, mo_string⟩, List.forall_mem_cons.mpr ⟨⟨q4133, mo_err⟩, List.forall_mem_cons.mpr ⟨⟨q4156, mo_push⟩, List.forall_mem_cons.mpr ⟨⟨q4160, mo_wordOf⟩, List.forall_mem_cons.mpr ⟨⟨q4141, mo_todoTask⟩, List.forall_mem_cons.mpr ⟨⟨q4164, mo_address⟩, List.forall_mem_cons.mpr ⟨⟨q4168, mo_turnTodo⟩, List.forall_mem_cons.mpr ⟨⟨q4176, mo_pop⟩, List.forall_mem_cons.mpr ⟨⟨q4180, mo_read⟩, List.forall_mem_cons.mpr ⟨⟨q4129, mo_burns⟩, List.forall_mem_cons.mpr ⟨⟨q4137, mo_limit⟩, List.forall_mem_cons.mpr ⟨⟨q4193, mo_libraryCall⟩, List.forall_mem_cons.mpr ⟨⟨q4125, mo_enter⟩, List.forall_mem_cons.mpr ⟨⟨q4207, mo_outByte⟩, List.forall_mem_cons.mpr ⟨⟨q4235, mo_peek⟩, List.forall_mem_cons.mpr ⟨⟨q4117, mo_isBlank⟩, List.forall_mem_cons.mpr ⟨⟨q4215, mo_nextByte⟩, List.forall_mem_cons.mpr ⟨⟨q4223, mo_layVector⟩, List.forall_mem_cons.mpr ⟨⟨q4197, mo_arg⟩, List.forall_mem_cons.mpr ⟨⟨q4201, mo_decimal⟩, List.forall_mem_cons.mpr ⟨⟨q4211, mo_writeString⟩, List.forall_mem_cons.mpr ⟨⟨q4219, mo_getVector⟩, List.forall_mem_cons.mpr ⟨⟨q4227, mo_freeVector⟩, List.forall_mem_cons.mpr ⟨⟨q4231, mo_readNumber⟩, List.forall_mem_cons.mpr ⟨⟨q4239, mo_toVector⟩, List.forall_mem_cons.mpr ⟨⟨q4247, mo_assign⟩, List.forall_mem_cons.mpr ⟨⟨q4255, mo_write⟩, List.forall_mem_cons.mpr ⟨⟨q4263, mo_isStep⟩, List.forall_mem_cons.mpr ⟨⟨q4152, mo_evaluate⟩, List.forall_mem_cons.mpr ⟨⟨q4172, mo_bin⟩, List.forall_mem_cons.mpr ⟨⟨q4184, mo_rel⟩, List.forall_mem_cons.mpr ⟨⟨q4188, mo_call⟩, List.forall_mem_cons.mpr ⟨⟨q4243, mo_perform⟩, List.forall_mem_cons.mpr ⟨⟨q4251, mo_stores⟩, List.forall_mem_cons.mpr ⟨⟨q4259, mo_loop⟩, List.forall_mem_cons.mpr ⟨⟨q4267, mo_asked⟩, List.forall_mem_cons.mpr ⟨⟨q4271, mo_section⟩, List.forall_mem_cons.mpr ⟨⟨q4275, mo_returns⟩, List.forall_mem_cons.mpr ⟨⟨q4279, mo_variables⟩, List.forall_mem_cons.mpr ⟨⟨q4283, mo_choose⟩, List.forall_mem_cons.mpr ⟨⟨q3690, mo_scan⟩, List.forall_mem_cons.mpr ⟨⟨q3801, mo_parse⟩, List.forall_mem_cons.mpr ⟨⟨q3902, mo_check⟩, List.forall_mem_cons.mpr ⟨⟨q4113, mo_rowsOf⟩, List.forall_mem_cons.mpr ⟨⟨q4148, mo_doNext⟩, List.forall_mem_nil _⟩⟩⟩⟩⟩⟩⟩⟩⟩⟩⟩⟩⟩⟩⟩⟩⟩⟩⟩⟩⟩⟩⟩⟩⟩⟩⟩⟩⟩⟩⟩⟩⟩⟩⟩⟩⟩⟩⟩⟩⟩⟩⟩⟩⟩⟩⟩⟩⟩⟩⟩⟩⟩⟩⟩⟩⟩⟩⟩⟩⟩⟩⟩⟩⟩⟩⟩⟩⟩⟩⟩⟩⟩⟩⟩⟩⟩⟩⟩⟩⟩⟩⟩⟩⟩⟩⟩⟩⟩⟩⟩⟩⟩⟩⟩⟩⟩⟩⟩⟩⟩⟩⟩⟩⟩⟩⟩⟩⟩⟩⟩⟩⟩⟩⟩⟩⟩⟩⟩⟩⟩⟩⟩⟩⟩⟩⟩⟩⟩⟩
