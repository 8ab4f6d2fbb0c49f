/-! calls and jumps of WordTongueModel, an equation each: by gen/memit.py -/
set_option maxRecDepth 100000 in
theorem me_thrown (d : Nat) (s : mm_S) : type_of% ((mE_eq d 1 [vr_ (some 0)] s rfl).trans (mb_thrown (mE d) (mJ (d + 1) 1)  s)) := (mE_eq d 1 [vr_ (some 0)] s rfl).trans (mb_thrown (mE d) (mJ (d + 1) 1)  s)
set_option maxRecDepth 100000 in
theorem me_nameOf (d : Nat) (x1 x2 : Int32) (s : mm_S) : type_of% ((mE_eq d 2 [vr_ (some 0), vi_ x1, vi_ x2] s rfl).trans (mb_nameOf (mE d) (mJ (d + 1) 2) x1 x2 s)) := (mE_eq d 2 [vr_ (some 0), vi_ x1, vi_ x2] s rfl).trans (mb_nameOf (mE d) (mJ (d + 1) 2) x1 x2 s)
set_option maxRecDepth 100000 in
theorem mj_nameOf_2 (d : Nat) (x1 x2 x3 : Int32) (s : mm_S) : type_of% ((mJ_eq (m := 2) (pc := 2) rfl d [vr_ (some 0), vi_ x1, vi_ x2, vi_ x3] [] s).trans (mb_nameOf_2 (mE d) (mJ (d + 1) 2) x1 x2 x3 s)) := (mJ_eq (m := 2) (pc := 2) rfl d [vr_ (some 0), vi_ x1, vi_ x2, vi_ x3] [] s).trans (mb_nameOf_2 (mE d) (mJ (d + 1) 2) x1 x2 x3 s)
set_option maxRecDepth 100000 in
theorem mj_nameOf_30 (d : Nat) (x1 x2 x3 x4 x5 : Int32) (s : mm_S) : type_of% ((mJ_eq (m := 2) (pc := 30) rfl d [vr_ (some 0), vi_ x1, vi_ x2, vi_ x3, vi_ x4, vi_ x5] [] s).trans (mb_nameOf_30 (mE d) (mJ (d + 1) 2) x1 x2 x3 x4 x5 s)) := (mJ_eq (m := 2) (pc := 30) rfl d [vr_ (some 0), vi_ x1, vi_ x2, vi_ x3, vi_ x4, vi_ x5] [] s).trans (mb_nameOf_30 (mE d) (mJ (d + 1) 2) x1 x2 x3 x4 x5 s)
set_option maxRecDepth 100000 in
theorem me_isText (d : Nat) (x1 x2 : Int32) (x3 x5 : Int64) (s : mm_S) : type_of% ((mE_eq d 3 [vr_ (some 0), vi_ x1, vi_ x2, vl_ x3, vl_ x5] s rfl).trans (mb_isText (mE d) (mJ (d + 1) 3) x1 x2 x3 x5 s)) := (mE_eq d 3 [vr_ (some 0), vi_ x1, vi_ x2, vl_ x3, vl_ x5] s rfl).trans (mb_isText (mE d) (mJ (d + 1) 3) x1 x2 x3 x5 s)
set_option maxRecDepth 100000 in
theorem mj_isText_7 (d : Nat) (x1 x2 x7 x8 : Int32) (x3 x5 : Int64) (s : mm_S) : type_of% ((mJ_eq (m := 3) (pc := 7) rfl d [vr_ (some 0), vi_ x1, vi_ x2, vl_ x3, vl_ x5, vi_ x7, vi_ x8] [] s).trans (mb_isText_7 (mE d) (mJ (d + 1) 3) x1 x2 x7 x8 x3 x5 s)) := (mJ_eq (m := 3) (pc := 7) rfl d [vr_ (some 0), vi_ x1, vi_ x2, vl_ x3, vl_ x5, vi_ x7, vi_ x8] [] s).trans (mb_isText_7 (mE d) (mJ (d + 1) 3) x1 x2 x7 x8 x3 x5 s)
set_option maxRecDepth 100000 in
theorem mj_isText_34 (d : Nat) (x1 x2 x7 x8 : Int32) (x3 x5 y0 : Int64) (s : mm_S) : type_of% ((mJ_eq (m := 3) (pc := 34) rfl d [vr_ (some 0), vi_ x1, vi_ x2, vl_ x3, vl_ x5, vi_ x7, vi_ x8] [vl_ y0] s).trans (mb_isText_34 (mE d) (mJ (d + 1) 3) x1 x2 x7 x8 x3 x5 y0 s)) := (mJ_eq (m := 3) (pc := 34) rfl d [vr_ (some 0), vi_ x1, vi_ x2, vl_ x3, vl_ x5, vi_ x7, vi_ x8] [vl_ y0] s).trans (mb_isText_34 (mE d) (mJ (d + 1) 3) x1 x2 x7 x8 x3 x5 y0 s)
set_option maxRecDepth 100000 in
theorem me_keyword (d : Nat) (x1 x2 : Int32) (s : mm_S) : type_of% ((mE_eq d 4 [vr_ (some 0), vi_ x1, vi_ x2] s rfl).trans (mb_keyword (mE d) (mJ (d + 1) 4) x1 x2 s)) := (mE_eq d 4 [vr_ (some 0), vi_ x1, vi_ x2] s rfl).trans (mb_keyword (mE d) (mJ (d + 1) 4) x1 x2 s)
set_option maxRecDepth 100000 in
theorem me_isLetter (d : Nat) (x0 : Int32) (s : mm_S) : type_of% ((mE_eq d 5 [vi_ x0] s rfl).trans (mb_isLetter (mE d) (mJ (d + 1) 5) x0 s)) := (mE_eq d 5 [vi_ x0] s rfl).trans (mb_isLetter (mE d) (mJ (d + 1) 5) x0 s)
set_option maxRecDepth 100000 in
theorem me_isDigit (d : Nat) (x0 : Int32) (s : mm_S) : type_of% ((mE_eq d 6 [vi_ x0] s rfl).trans (mb_isDigit (mE d) (mJ (d + 1) 6) x0 s)) := (mE_eq d 6 [vi_ x0] s rfl).trans (mb_isDigit (mE d) (mJ (d + 1) 6) x0 s)
set_option maxRecDepth 100000 in
theorem me_isRest (d : Nat) (x0 : Int32) (s : mm_S) : type_of% ((mE_eq d 7 [vi_ x0] s rfl).trans (mb_isRest (mE d) (mJ (d + 1) 7) x0 s)) := (mE_eq d 7 [vi_ x0] s rfl).trans (mb_isRest (mE d) (mJ (d + 1) 7) x0 s)
set_option maxRecDepth 100000 in
theorem me_look (d : Nat) (x1 : Int32) (s : mm_S) : type_of% ((mE_eq d 8 [vr_ (some 0), vi_ x1] s rfl).trans (mb_look (mE d) (mJ (d + 1) 8) x1 s)) := (mE_eq d 8 [vr_ (some 0), vi_ x1] s rfl).trans (mb_look (mE d) (mJ (d + 1) 8) x1 s)
set_option maxRecDepth 100000 in
theorem me_endsLine (d : Nat) (x0 : Int32) (s : mm_S) : type_of% ((mE_eq d 9 [vi_ x0] s rfl).trans (mb_endsLine (mE d) (mJ (d + 1) 9) x0 s)) := (mE_eq d 9 [vi_ x0] s rfl).trans (mb_endsLine (mE d) (mJ (d + 1) 9) x0 s)
set_option maxRecDepth 100000 in
theorem me_isBeginning (d : Nat) (x0 : Int32) (s : mm_S) : type_of% ((mE_eq d 10 [vi_ x0] s rfl).trans (mb_isBeginning (mE d) (mJ (d + 1) 10) x0 s)) := (mE_eq d 10 [vi_ x0] s rfl).trans (mb_isBeginning (mE d) (mJ (d + 1) 10) x0 s)
set_option maxRecDepth 100000 in
theorem mj_isBeginning_92 (d : Nat) (x0 : Int32) (s : mm_S) : type_of% ((mJ_eq (m := 10) (pc := 92) rfl d [vi_ x0] [] s).trans (mb_isBeginning_92 (mE d) (mJ (d + 1) 10) x0 s)) := (mJ_eq (m := 10) (pc := 92) rfl d [vi_ x0] [] s).trans (mb_isBeginning_92 (mE d) (mJ (d + 1) 10) x0 s)
set_option maxRecDepth 100000 in
theorem me_isDoless (d : Nat) (x0 : Int32) (s : mm_S) : type_of% ((mE_eq d 11 [vi_ x0] s rfl).trans (mb_isDoless (mE d) (mJ (d + 1) 11) x0 s)) := (mE_eq d 11 [vi_ x0] s rfl).trans (mb_isDoless (mE d) (mJ (d + 1) 11) x0 s)
set_option maxRecDepth 100000 in
theorem me_token (d : Nat) (x1 x2 x3 : Int32) (s : mm_S) : type_of% ((mE_eq d 12 [vr_ (some 0), vi_ x1, vi_ x2, vi_ x3] s rfl).trans (mb_token (mE d) (mJ (d + 1) 12) x1 x2 x3 s)) := (mE_eq d 12 [vr_ (some 0), vi_ x1, vi_ x2, vi_ x3] s rfl).trans (mb_token (mE d) (mJ (d + 1) 12) x1 x2 x3 s)
set_option maxRecDepth 100000 in
theorem mj_token_73 (d : Nat) (x1 x2 x3 : Int32) (s : mm_S) : type_of% ((mJ_eq (m := 12) (pc := 73) rfl d [vr_ (some 0), vi_ x1, vi_ x2, vi_ x3] [] s).trans (mb_token_73 (mE d) (mJ (d + 1) 12) x1 x2 x3 s)) := (mJ_eq (m := 12) (pc := 73) rfl d [vr_ (some 0), vi_ x1, vi_ x2, vi_ x3] [] s).trans (mb_token_73 (mE d) (mJ (d + 1) 12) x1 x2 x3 s)
set_option maxRecDepth 100000 in
theorem me_oneC (d : Nat) (x1 x2 : Int32) (s : mm_S) : type_of% ((mE_eq d 13 [vr_ (some 0), vi_ x1, vi_ x2] s rfl).trans (mb_oneC (mE d) (mJ (d + 1) 13) x1 x2 s)) := (mE_eq d 13 [vr_ (some 0), vi_ x1, vi_ x2] s rfl).trans (mb_oneC (mE d) (mJ (d + 1) 13) x1 x2 s)
set_option maxRecDepth 100000 in
theorem me_stringAt (d : Nat) (x1 : Int32) (s : mm_S) : type_of% ((mE_eq d 14 [vr_ (some 0), vi_ x1] s rfl).trans (mb_stringAt (mE d) (mJ (d + 1) 14) x1 s)) := (mE_eq d 14 [vr_ (some 0), vi_ x1] s rfl).trans (mb_stringAt (mE d) (mJ (d + 1) 14) x1 s)
set_option maxRecDepth 100000 in
theorem mj_stringAt_12 (d : Nat) (x2 x3 x4 : Int32) (s : mm_S) : type_of% ((mJ_eq (m := 14) (pc := 12) rfl d [vr_ (some 0), vi_ x2, vi_ x3, vi_ x4] [] s).trans (mb_stringAt_12 (mE d) (mJ (d + 1) 14) x2 x3 x4 s)) := (mJ_eq (m := 14) (pc := 12) rfl d [vr_ (some 0), vi_ x2, vi_ x3, vi_ x4] [] s).trans (mb_stringAt_12 (mE d) (mJ (d + 1) 14) x2 x3 x4 s)
set_option maxRecDepth 100000 in
theorem me_digits (d : Nat) (x1 x2 : Int32) (s : mm_S) : type_of% ((mE_eq d 15 [vr_ (some 0), vi_ x1, vi_ x2] s rfl).trans (mb_digits (mE d) (mJ (d + 1) 15) x1 x2 s)) := (mE_eq d 15 [vr_ (some 0), vi_ x1, vi_ x2] s rfl).trans (mb_digits (mE d) (mJ (d + 1) 15) x1 x2 s)
set_option maxRecDepth 100000 in
theorem mj_digits_8 (d : Nat) (x1 x2 x3 x6 : Int32) (x4 : Int64) (s : mm_S) : type_of% ((mJ_eq (m := 15) (pc := 8) rfl d [vr_ (some 0), vi_ x1, vi_ x2, vi_ x3, vl_ x4, vi_ x6] [] s).trans (mb_digits_8 (mE d) (mJ (d + 1) 15) x1 x2 x3 x6 x4 s)) := (mJ_eq (m := 15) (pc := 8) rfl d [vr_ (some 0), vi_ x1, vi_ x2, vi_ x3, vl_ x4, vi_ x6] [] s).trans (mb_digits_8 (mE d) (mJ (d + 1) 15) x1 x2 x3 x6 x4 s)
set_option maxRecDepth 100000 in
theorem mj_digits_76 (d : Nat) (x1 x2 x3 x8 y0 : Int32) (x4 : Int64) (s : mm_S) : type_of% ((mJ_eq (m := 15) (pc := 76) rfl d [vr_ (some 0), vi_ x1, vi_ x2, vi_ x3, vl_ x4, vi_ x8] [vi_ y0] s).trans (mb_digits_76 (mE d) (mJ (d + 1) 15) x1 x2 x3 x8 y0 x4 s)) := (mJ_eq (m := 15) (pc := 76) rfl d [vr_ (some 0), vi_ x1, vi_ x2, vi_ x3, vl_ x4, vi_ x8] [vi_ y0] s).trans (mb_digits_76 (mE d) (mJ (d + 1) 15) x1 x2 x3 x8 y0 x4 s)
set_option maxRecDepth 100000 in
theorem me_isPair (d : Nat) (x1 x2 x3 : Int32) (s : mm_S) : type_of% ((mE_eq d 16 [vr_ (some 0), vi_ x1, vi_ x2, vi_ x3] s rfl).trans (mb_isPair (mE d) (mJ (d + 1) 16) x1 x2 x3 s)) := (mE_eq d 16 [vr_ (some 0), vi_ x1, vi_ x2, vi_ x3] s rfl).trans (mb_isPair (mE d) (mJ (d + 1) 16) x1 x2 x3 s)
set_option maxRecDepth 100000 in
theorem me_signAt (d : Nat) (x1 : Int32) (s : mm_S) : type_of% ((mE_eq d 17 [vr_ (some 0), vi_ x1] s rfl).trans (mb_signAt (mE d) (mJ (d + 1) 17) x1 s)) := (mE_eq d 17 [vr_ (some 0), vi_ x1] s rfl).trans (mb_signAt (mE d) (mJ (d + 1) 17) x1 s)
set_option maxRecDepth 100000 in
theorem me_scan (d : Nat) (s : mm_S) : type_of% ((mE_eq d 18 [vr_ (some 0)] s rfl).trans (mb_scan (mE d) (mJ (d + 1) 18)  s)) := (mE_eq d 18 [vr_ (some 0)] s rfl).trans (mb_scan (mE d) (mJ (d + 1) 18)  s)
set_option maxRecDepth 100000 in
theorem mj_scan_32 (d : Nat) (x1 : Int32) (s : mm_S) : type_of% ((mJ_eq (m := 18) (pc := 32) rfl d [vr_ (some 0), vi_ x1] [] s).trans (mb_scan_32 (mE d) (mJ (d + 1) 18) x1 s)) := (mJ_eq (m := 18) (pc := 32) rfl d [vr_ (some 0), vi_ x1] [] s).trans (mb_scan_32 (mE d) (mJ (d + 1) 18) x1 s)
set_option maxRecDepth 100000 in
theorem mj_scan_104 (d : Nat) (x1 : Int32) (s : mm_S) : type_of% ((mJ_eq (m := 18) (pc := 104) rfl d [vr_ (some 0), vi_ x1] [] s).trans (mb_scan_104 (mE d) (mJ (d + 1) 18) x1 s)) := (mJ_eq (m := 18) (pc := 104) rfl d [vr_ (some 0), vi_ x1] [] s).trans (mb_scan_104 (mE d) (mJ (d + 1) 18) x1 s)
set_option maxRecDepth 100000 in
theorem me_one (d : Nat) (x1 x2 : Int32) (s : mm_S) : type_of% ((mE_eq d 19 [vr_ (some 0), vi_ x1, vi_ x2] s rfl).trans (mb_one (mE d) (mJ (d + 1) 19) x1 x2 s)) := (mE_eq d 19 [vr_ (some 0), vi_ x1, vi_ x2] s rfl).trans (mb_one (mE d) (mJ (d + 1) 19) x1 x2 s)
set_option maxRecDepth 100000 in
theorem mj_one_9 (d : Nat) (x1 x3 : Int32) (s : mm_S) : type_of% ((mJ_eq (m := 19) (pc := 9) rfl d [vr_ (some 0), vi_ x1, vi_ x3] [] s).trans (mb_one_9 (mE d) (mJ (d + 1) 19) x1 x3 s)) := (mJ_eq (m := 19) (pc := 9) rfl d [vr_ (some 0), vi_ x1, vi_ x3] [] s).trans (mb_one_9 (mE d) (mJ (d + 1) 19) x1 x3 s)
set_option maxRecDepth 100000 in
theorem mj_one_34 (d : Nat) (x1 x3 : Int32) (s : mm_S) : type_of% ((mJ_eq (m := 19) (pc := 34) rfl d [vr_ (some 0), vi_ x1, vi_ x3] [] s).trans (mb_one_34 (mE d) (mJ (d + 1) 19) x1 x3 s)) := (mJ_eq (m := 19) (pc := 34) rfl d [vr_ (some 0), vi_ x1, vi_ x3] [] s).trans (mb_one_34 (mE d) (mJ (d + 1) 19) x1 x3 s)
set_option maxRecDepth 100000 in
theorem mj_one_96 (d : Nat) (x1 x2 : Int32) (s : mm_S) : type_of% ((mJ_eq (m := 19) (pc := 96) rfl d [vr_ (some 0), vi_ x1, vi_ x2] [] s).trans (mb_one_96 (mE d) (mJ (d + 1) 19) x1 x2 s)) := (mJ_eq (m := 19) (pc := 96) rfl d [vr_ (some 0), vi_ x1, vi_ x2] [] s).trans (mb_one_96 (mE d) (mJ (d + 1) 19) x1 x2 s)
set_option maxRecDepth 100000 in
theorem mj_one_146 (d : Nat) (x1 y0 : Int32) (s : mm_S) : type_of% ((mJ_eq (m := 19) (pc := 146) rfl d [vr_ (some 0), vi_ x1] [vi_ y0] s).trans (mb_one_146 (mE d) (mJ (d + 1) 19) x1 y0 s)) := (mJ_eq (m := 19) (pc := 146) rfl d [vr_ (some 0), vi_ x1] [vi_ y0] s).trans (mb_one_146 (mE d) (mJ (d + 1) 19) x1 y0 s)
set_option maxRecDepth 100000 in
theorem mj_one_289 (d : Nat) (x1 x3 x4 x5 : Int32) (s : mm_S) : type_of% ((mJ_eq (m := 19) (pc := 289) rfl d [vr_ (some 0), vi_ x1, vi_ x3, vi_ x4, vi_ x5] [] s).trans (mb_one_289 (mE d) (mJ (d + 1) 19) x1 x3 x4 x5 s)) := (mJ_eq (m := 19) (pc := 289) rfl d [vr_ (some 0), vi_ x1, vi_ x3, vi_ x4, vi_ x5] [] s).trans (mb_one_289 (mE d) (mJ (d + 1) 19) x1 x3 x4 x5 s)
set_option maxRecDepth 100000 in
theorem mj_one_314 (d : Nat) (x1 x3 x4 x5 : Int32) (s : mm_S) : type_of% ((mJ_eq (m := 19) (pc := 314) rfl d [vr_ (some 0), vi_ x1, vi_ x3, vi_ x4, vi_ x5] [] s).trans (mb_one_314 (mE d) (mJ (d + 1) 19) x1 x3 x4 x5 s)) := (mJ_eq (m := 19) (pc := 314) rfl d [vr_ (some 0), vi_ x1, vi_ x3, vi_ x4, vi_ x5] [] s).trans (mb_one_314 (mE d) (mJ (d + 1) 19) x1 x3 x4 x5 s)
set_option maxRecDepth 100000 in
theorem me_node (d : Nat) (x1 x2 x3 : Int32) (s : mm_S) : type_of% ((mE_eq d 20 [vr_ (some 0), vi_ x1, vi_ x2, vi_ x3] s rfl).trans (mb_node (mE d) (mJ (d + 1) 20) x1 x2 x3 s)) := (mE_eq d 20 [vr_ (some 0), vi_ x1, vi_ x2, vi_ x3] s rfl).trans (mb_node (mE d) (mJ (d + 1) 20) x1 x2 x3 s)
set_option maxRecDepth 100000 in
theorem me_leaf (d : Nat) (x1 x2 x3 : Int32) (s : mm_S) : type_of% ((mE_eq d 21 [vr_ (some 0), vi_ x1, vi_ x2, vi_ x3] s rfl).trans (mb_leaf (mE d) (mJ (d + 1) 21) x1 x2 x3 s)) := (mE_eq d 21 [vr_ (some 0), vi_ x1, vi_ x2, vi_ x3] s rfl).trans (mb_leaf (mE d) (mJ (d + 1) 21) x1 x2 x3 s)
set_option maxRecDepth 100000 in
theorem me_shut (d : Nat) (x1 x2 x3 x4 : Int32) (s : mm_S) : type_of% ((mE_eq d 22 [vr_ (some 0), vi_ x1, vi_ x2, vi_ x3, vi_ x4] s rfl).trans (mb_shut (mE d) (mJ (d + 1) 22) x1 x2 x3 x4 s)) := (mE_eq d 22 [vr_ (some 0), vi_ x1, vi_ x2, vi_ x3, vi_ x4] s rfl).trans (mb_shut (mE d) (mJ (d + 1) 22) x1 x2 x3 x4 s)
set_option maxRecDepth 100000 in
theorem mj_shut_13 (d : Nat) (x3 x5 x6 : Int32) (s : mm_S) : type_of% ((mJ_eq (m := 22) (pc := 13) rfl d [vr_ (some 0), vi_ x3, vi_ x5, vi_ x6] [] s).trans (mb_shut_13 (mE d) (mJ (d + 1) 22) x3 x5 x6 s)) := (mJ_eq (m := 22) (pc := 13) rfl d [vr_ (some 0), vi_ x3, vi_ x5, vi_ x6] [] s).trans (mb_shut_13 (mE d) (mJ (d + 1) 22) x3 x5 x6 s)
set_option maxRecDepth 100000 in
theorem mj_shut_66 (d : Nat) (x3 x5 x6 : Int32) (s : mm_S) : type_of% ((mJ_eq (m := 22) (pc := 66) rfl d [vr_ (some 0), vi_ x3, vi_ x5, vi_ x6] [] s).trans (mb_shut_66 (mE d) (mJ (d + 1) 22) x3 x5 x6 s)) := (mJ_eq (m := 22) (pc := 66) rfl d [vr_ (some 0), vi_ x3, vi_ x5, vi_ x6] [] s).trans (mb_shut_66 (mE d) (mJ (d + 1) 22) x3 x5 x6 s)
set_option maxRecDepth 100000 in
theorem me_pairs (d : Nat) (x1 : Int32) (s : mm_S) : type_of% ((mE_eq d 23 [vr_ (some 0), vi_ x1] s rfl).trans (mb_pairs (mE d) (mJ (d + 1) 23) x1 s)) := (mE_eq d 23 [vr_ (some 0), vi_ x1] s rfl).trans (mb_pairs (mE d) (mJ (d + 1) 23) x1 s)
set_option maxRecDepth 100000 in
theorem mj_pairs_9 (d : Nat) (x1 x2 x3 : Int32) (s : mm_S) : type_of% ((mJ_eq (m := 23) (pc := 9) rfl d [vr_ (some 0), vi_ x1, vi_ x2, vi_ x3] [] s).trans (mb_pairs_9 (mE d) (mJ (d + 1) 23) x1 x2 x3 s)) := (mJ_eq (m := 23) (pc := 9) rfl d [vr_ (some 0), vi_ x1, vi_ x2, vi_ x3] [] s).trans (mb_pairs_9 (mE d) (mJ (d + 1) 23) x1 x2 x3 s)
set_option maxRecDepth 100000 in
theorem mj_pairs_42 (d : Nat) (x1 x2 x3 x4 : Int32) (s : mm_S) : type_of% ((mJ_eq (m := 23) (pc := 42) rfl d [vr_ (some 0), vi_ x1, vi_ x2, vi_ x3, vi_ x4] [] s).trans (mb_pairs_42 (mE d) (mJ (d + 1) 23) x1 x2 x3 x4 s)) := (mJ_eq (m := 23) (pc := 42) rfl d [vr_ (some 0), vi_ x1, vi_ x2, vi_ x3, vi_ x4] [] s).trans (mb_pairs_42 (mE d) (mJ (d + 1) 23) x1 x2 x3 x4 s)
set_option maxRecDepth 100000 in
theorem me_goal (d : Nat) (x1 x2 x3 x4 : Int32) (s : mm_S) : type_of% ((mE_eq d 24 [vr_ (some 0), vi_ x1, vi_ x2, vi_ x3, vi_ x4] s rfl).trans (mb_goal (mE d) (mJ (d + 1) 24) x1 x2 x3 x4 s)) := (mE_eq d 24 [vr_ (some 0), vi_ x1, vi_ x2, vi_ x3, vi_ x4] s rfl).trans (mb_goal (mE d) (mJ (d + 1) 24) x1 x2 x3 x4 s)
set_option maxRecDepth 100000 in
theorem me_tk (d : Nat) (s : mm_S) : type_of% ((mE_eq d 25 [vr_ (some 0)] s rfl).trans (mb_tk (mE d) (mJ (d + 1) 25)  s)) := (mE_eq d 25 [vr_ (some 0)] s rfl).trans (mb_tk (mE d) (mJ (d + 1) 25)  s)
set_option maxRecDepth 100000 in
theorem me_tkNext (d : Nat) (s : mm_S) : type_of% ((mE_eq d 26 [vr_ (some 0)] s rfl).trans (mb_tkNext (mE d) (mJ (d + 1) 26)  s)) := (mE_eq d 26 [vr_ (some 0)] s rfl).trans (mb_tkNext (mE d) (mJ (d + 1) 26)  s)
set_option maxRecDepth 100000 in
theorem me_take (d : Nat) (x1 : Int32) (s : mm_S) : type_of% ((mE_eq d 27 [vr_ (some 0), vi_ x1] s rfl).trans (mb_take (mE d) (mJ (d + 1) 27) x1 s)) := (mE_eq d 27 [vr_ (some 0), vi_ x1] s rfl).trans (mb_take (mE d) (mJ (d + 1) 27) x1 s)
set_option maxRecDepth 100000 in
theorem me_deeper (d : Nat) (s : mm_S) : type_of% ((mE_eq d 28 [vr_ (some 0)] s rfl).trans (mb_deeper (mE d) (mJ (d + 1) 28)  s)) := (mE_eq d 28 [vr_ (some 0)] s rfl).trans (mb_deeper (mE d) (mJ (d + 1) 28)  s)
set_option maxRecDepth 100000 in
theorem me_isD (d : Nat) (x0 : Int32) (s : mm_S) : type_of% ((mE_eq d 29 [vi_ x0] s rfl).trans (mb_isD (mE d) (mJ (d + 1) 29) x0 s)) := (mE_eq d 29 [vi_ x0] s rfl).trans (mb_isD (mE d) (mJ (d + 1) 29) x0 s)
set_option maxRecDepth 100000 in
theorem me_openSection (d : Nat) (s : mm_S) : type_of% ((mE_eq d 30 [vr_ (some 0)] s rfl).trans (mb_openSection (mE d) (mJ (d + 1) 30)  s)) := (mE_eq d 30 [vr_ (some 0)] s rfl).trans (mb_openSection (mE d) (mJ (d + 1) 30)  s)
set_option maxRecDepth 100000 in
theorem me_shutSection (d : Nat) (s : mm_S) : type_of% ((mE_eq d 31 [vr_ (some 0)] s rfl).trans (mb_shutSection (mE d) (mJ (d + 1) 31)  s)) := (mE_eq d 31 [vr_ (some 0)] s rfl).trans (mb_shutSection (mE d) (mJ (d + 1) 31)  s)
set_option maxRecDepth 100000 in
theorem mj_shutSection_51 (d : Nat) (x1 x2 x3 x4 : Int32) (s : mm_S) : type_of% ((mJ_eq (m := 31) (pc := 51) rfl d [vr_ (some 0), vi_ x1, vi_ x2, vi_ x3, vi_ x4] [] s).trans (mb_shutSection_51 (mE d) (mJ (d + 1) 31) x1 x2 x3 x4 s)) := (mJ_eq (m := 31) (pc := 51) rfl d [vr_ (some 0), vi_ x1, vi_ x2, vi_ x3, vi_ x4] [] s).trans (mb_shutSection_51 (mE d) (mJ (d + 1) 31) x1 x2 x3 x4 s)
set_option maxRecDepth 100000 in
theorem mj_shutSection_111 (d : Nat) (s : mm_S) : type_of% ((mJ_eq (m := 31) (pc := 111) rfl d [vr_ (some 0)] [] s).trans (mb_shutSection_111 (mE d) (mJ (d + 1) 31)  s)) := (mJ_eq (m := 31) (pc := 111) rfl d [vr_ (some 0)] [] s).trans (mb_shutSection_111 (mE d) (mJ (d + 1) 31)  s)
set_option maxRecDepth 100000 in
theorem me_parse (d : Nat) (s : mm_S) : type_of% ((mE_eq d 32 [vr_ (some 0)] s rfl).trans (mb_parse (mE d) (mJ (d + 1) 32)  s)) := (mE_eq d 32 [vr_ (some 0)] s rfl).trans (mb_parse (mE d) (mJ (d + 1) 32)  s)
set_option maxRecDepth 100000 in
theorem mj_parse_38 (d : Nat) (s : mm_S) : type_of% ((mJ_eq (m := 32) (pc := 38) rfl d [vr_ (some 0)] [] s).trans (mb_parse_38 (mE d) (mJ (d + 1) 32)  s)) := (mJ_eq (m := 32) (pc := 38) rfl d [vr_ (some 0)] [] s).trans (mb_parse_38 (mE d) (mJ (d + 1) 32)  s)
set_option maxRecDepth 100000 in
theorem me_reach (d : Nat) (x1 x2 x3 x4 : Int32) (s : mm_S) : type_of% ((mE_eq d 33 [vr_ (some 0), vi_ x1, vi_ x2, vi_ x3, vi_ x4] s rfl).trans (mb_reach (mE d) (mJ (d + 1) 33) x1 x2 x3 x4 s)) := (mE_eq d 33 [vr_ (some 0), vi_ x1, vi_ x2, vi_ x3, vi_ x4] s rfl).trans (mb_reach (mE d) (mJ (d + 1) 33) x1 x2 x3 x4 s)
set_option maxRecDepth 100000 in
theorem mj_reach_22 (d : Nat) (x1 x2 x3 x4 : Int32) (s : mm_S) : type_of% ((mJ_eq (m := 33) (pc := 22) rfl d [vr_ (some 0), vi_ x1, vi_ x2, vi_ x3, vi_ x4] [] s).trans (mb_reach_22 (mE d) (mJ (d + 1) 33) x1 x2 x3 x4 s)) := (mJ_eq (m := 33) (pc := 22) rfl d [vr_ (some 0), vi_ x1, vi_ x2, vi_ x3, vi_ x4] [] s).trans (mb_reach_22 (mE d) (mJ (d + 1) 33) x1 x2 x3 x4 s)
set_option maxRecDepth 100000 in
theorem me_reachD (d : Nat) (x1 x2 x3 x4 : Int32) (s : mm_S) : type_of% ((mE_eq d 34 [vr_ (some 0), vi_ x1, vi_ x2, vi_ x3, vi_ x4] s rfl).trans (mb_reachD (mE d) (mJ (d + 1) 34) x1 x2 x3 x4 s)) := (mE_eq d 34 [vr_ (some 0), vi_ x1, vi_ x2, vi_ x3, vi_ x4] s rfl).trans (mb_reachD (mE d) (mJ (d + 1) 34) x1 x2 x3 x4 s)
set_option maxRecDepth 100000 in
theorem mj_reachD_98 (d : Nat) (x6 x7 y0 : Int32) (s : mm_S) : type_of% ((mJ_eq (m := 34) (pc := 98) rfl d [vr_ (some 0), vi_ x6, vi_ x7] [vi_ y0] s).trans (mb_reachD_98 (mE d) (mJ (d + 1) 34) x6 x7 y0 s)) := (mJ_eq (m := 34) (pc := 98) rfl d [vr_ (some 0), vi_ x6, vi_ x7] [vi_ y0] s).trans (mb_reachD_98 (mE d) (mJ (d + 1) 34) x6 x7 y0 s)
set_option maxRecDepth 100000 in
theorem me_reachP (d : Nat) (x1 : Int32) (s : mm_S) : type_of% ((mE_eq d 35 [vr_ (some 0), vi_ x1] s rfl).trans (mb_reachP (mE d) (mJ (d + 1) 35) x1 s)) := (mE_eq d 35 [vr_ (some 0), vi_ x1] s rfl).trans (mb_reachP (mE d) (mJ (d + 1) 35) x1 s)
set_option maxRecDepth 100000 in
theorem mj_reachP_42 (d : Nat) (x2 x3 x4 : Int32) (s : mm_S) : type_of% ((mJ_eq (m := 35) (pc := 42) rfl d [vr_ (some 0), vi_ x2, vi_ x3, vi_ x4] [] s).trans (mb_reachP_42 (mE d) (mJ (d + 1) 35) x2 x3 x4 s)) := (mJ_eq (m := 35) (pc := 42) rfl d [vr_ (some 0), vi_ x2, vi_ x3, vi_ x4] [] s).trans (mb_reachP_42 (mE d) (mJ (d + 1) 35) x2 x3 x4 s)
set_option maxRecDepth 100000 in
theorem mj_reachP_139 (d : Nat) (x2 x3 : Int32) (s : mm_S) : type_of% ((mJ_eq (m := 35) (pc := 139) rfl d [vr_ (some 0), vi_ x2, vi_ x3] [] s).trans (mb_reachP_139 (mE d) (mJ (d + 1) 35) x2 x3 s)) := (mJ_eq (m := 35) (pc := 139) rfl d [vr_ (some 0), vi_ x2, vi_ x3] [] s).trans (mb_reachP_139 (mE d) (mJ (d + 1) 35) x2 x3 s)
set_option maxRecDepth 100000 in
theorem mj_reachP_182 (d : Nat) (x2 x3 x5 : Int32) (s : mm_S) : type_of% ((mJ_eq (m := 35) (pc := 182) rfl d [vr_ (some 0), vi_ x2, vi_ x3, vi_ x5] [] s).trans (mb_reachP_182 (mE d) (mJ (d + 1) 35) x2 x3 x5 s)) := (mJ_eq (m := 35) (pc := 182) rfl d [vr_ (some 0), vi_ x2, vi_ x3, vi_ x5] [] s).trans (mb_reachP_182 (mE d) (mJ (d + 1) 35) x2 x3 x5 s)
set_option maxRecDepth 100000 in
theorem mj_reachP_246 (d : Nat) (x2 x3 x4 : Int32) (s : mm_S) : type_of% ((mJ_eq (m := 35) (pc := 246) rfl d [vr_ (some 0), vi_ x2, vi_ x3, vi_ x4] [] s).trans (mb_reachP_246 (mE d) (mJ (d + 1) 35) x2 x3 x4 s)) := (mJ_eq (m := 35) (pc := 246) rfl d [vr_ (some 0), vi_ x2, vi_ x3, vi_ x4] [] s).trans (mb_reachP_246 (mE d) (mJ (d + 1) 35) x2 x3 x4 s)
set_option maxRecDepth 100000 in
theorem me_beginsE (d : Nat) (x0 : Int32) (s : mm_S) : type_of% ((mE_eq d 36 [vi_ x0] s rfl).trans (mb_beginsE (mE d) (mJ (d + 1) 36) x0 s)) := (mE_eq d 36 [vi_ x0] s rfl).trans (mb_beginsE (mE d) (mJ (d + 1) 36) x0 s)
set_option maxRecDepth 100000 in
theorem me_reachC (d : Nat) (x1 x2 x3 x4 : Int32) (s : mm_S) : type_of% ((mE_eq d 37 [vr_ (some 0), vi_ x1, vi_ x2, vi_ x3, vi_ x4] s rfl).trans (mb_reachC (mE d) (mJ (d + 1) 37) x1 x2 x3 x4 s)) := (mE_eq d 37 [vr_ (some 0), vi_ x1, vi_ x2, vi_ x3, vi_ x4] s rfl).trans (mb_reachC (mE d) (mJ (d + 1) 37) x1 x2 x3 x4 s)
set_option maxRecDepth 100000 in
theorem mj_reachC_82 (d : Nat) (x2 x4 x5 x7 : Int32) (s : mm_S) : type_of% ((mJ_eq (m := 37) (pc := 82) rfl d [vr_ (some 0), vi_ x2, vi_ x4, vi_ x5, vi_ x7] [] s).trans (mb_reachC_82 (mE d) (mJ (d + 1) 37) x2 x4 x5 x7 s)) := (mJ_eq (m := 37) (pc := 82) rfl d [vr_ (some 0), vi_ x2, vi_ x4, vi_ x5, vi_ x7] [] s).trans (mb_reachC_82 (mE d) (mJ (d + 1) 37) x2 x4 x5 x7 s)
set_option maxRecDepth 100000 in
theorem mj_reachC_342 (d : Nat) (x1 x2 x3 x4 : Int32) (s : mm_S) : type_of% ((mJ_eq (m := 37) (pc := 342) rfl d [vr_ (some 0), vi_ x1, vi_ x2, vi_ x3, vi_ x4] [] s).trans (mb_reachC_342 (mE d) (mJ (d + 1) 37) x1 x2 x3 x4 s)) := (mJ_eq (m := 37) (pc := 342) rfl d [vr_ (some 0), vi_ x1, vi_ x2, vi_ x3, vi_ x4] [] s).trans (mb_reachC_342 (mE d) (mJ (d + 1) 37) x1 x2 x3 x4 s)
set_option maxRecDepth 100000 in
theorem me_labels (d : Nat) (x1 : Int32) (s : mm_S) : type_of% ((mE_eq d 38 [vr_ (some 0), vi_ x1] s rfl).trans (mb_labels (mE d) (mJ (d + 1) 38) x1 s)) := (mE_eq d 38 [vr_ (some 0), vi_ x1] s rfl).trans (mb_labels (mE d) (mJ (d + 1) 38) x1 s)
set_option maxRecDepth 100000 in
theorem mj_labels_0 (d : Nat) (s : mm_S) : type_of% ((mJ_eq (m := 38) (pc := 0) rfl d [vr_ (some 0)] [] s).trans (mb_labels_0 (mE d) (mJ (d + 1) 38)  s)) := (mJ_eq (m := 38) (pc := 0) rfl d [vr_ (some 0)] [] s).trans (mb_labels_0 (mE d) (mJ (d + 1) 38)  s)
set_option maxRecDepth 100000 in
theorem me_command (d : Nat) (x1 x2 x3 : Int32) (s : mm_S) : type_of% ((mE_eq d 39 [vr_ (some 0), vi_ x1, vi_ x2, vi_ x3] s rfl).trans (mb_command (mE d) (mJ (d + 1) 39) x1 x2 x3 s)) := (mE_eq d 39 [vr_ (some 0), vi_ x1, vi_ x2, vi_ x3] s rfl).trans (mb_command (mE d) (mJ (d + 1) 39) x1 x2 x3 s)
set_option maxRecDepth 100000 in
theorem mj_command_156 (d : Nat) (x1 x2 x3 y0 : Int32) (s : mm_S) : type_of% ((mJ_eq (m := 39) (pc := 156) rfl d [vr_ (some 0), vi_ x1, vi_ x2, vi_ x3] [vi_ y0] s).trans (mb_command_156 (mE d) (mJ (d + 1) 39) x1 x2 x3 y0 s)) := (mJ_eq (m := 39) (pc := 156) rfl d [vr_ (some 0), vi_ x1, vi_ x2, vi_ x3] [vi_ y0] s).trans (mb_command_156 (mE d) (mJ (d + 1) 39) x1 x2 x3 y0 s)
set_option maxRecDepth 100000 in
theorem mj_command_292 (d : Nat) (x1 x2 x3 y0 : Int32) (s : mm_S) : type_of% ((mJ_eq (m := 39) (pc := 292) rfl d [vr_ (some 0), vi_ x1, vi_ x2, vi_ x3] [vi_ y0] s).trans (mb_command_292 (mE d) (mJ (d + 1) 39) x1 x2 x3 y0 s)) := (mJ_eq (m := 39) (pc := 292) rfl d [vr_ (some 0), vi_ x1, vi_ x2, vi_ x3] [vi_ y0] s).trans (mb_command_292 (mE d) (mJ (d + 1) 39) x1 x2 x3 y0 s)
set_option maxRecDepth 100000 in
theorem me_levelOf (d : Nat) (x0 : Int32) (s : mm_S) : type_of% ((mE_eq d 40 [vi_ x0] s rfl).trans (mb_levelOf (mE d) (mJ (d + 1) 40) x0 s)) := (mE_eq d 40 [vi_ x0] s rfl).trans (mb_levelOf (mE d) (mJ (d + 1) 40) x0 s)
set_option maxRecDepth 100000 in
theorem mj_levelOf_58 (d : Nat) (x0 : Int32) (s : mm_S) : type_of% ((mJ_eq (m := 40) (pc := 58) rfl d [vi_ x0] [] s).trans (mb_levelOf_58 (mE d) (mJ (d + 1) 40) x0 s)) := (mJ_eq (m := 40) (pc := 58) rfl d [vi_ x0] [] s).trans (mb_levelOf_58 (mE d) (mJ (d + 1) 40) x0 s)
set_option maxRecDepth 100000 in
theorem me_reachE (d : Nat) (x1 x2 x3 x4 : Int32) (s : mm_S) : type_of% ((mE_eq d 41 [vr_ (some 0), vi_ x1, vi_ x2, vi_ x3, vi_ x4] s rfl).trans (mb_reachE (mE d) (mJ (d + 1) 41) x1 x2 x3 x4 s)) := (mE_eq d 41 [vr_ (some 0), vi_ x1, vi_ x2, vi_ x3, vi_ x4] s rfl).trans (mb_reachE (mE d) (mJ (d + 1) 41) x1 x2 x3 x4 s)
set_option maxRecDepth 100000 in
theorem mj_reachE_343 (d : Nat) (x6 : Int32) (s : mm_S) : type_of% ((mJ_eq (m := 41) (pc := 343) rfl d [vr_ (some 0), vi_ x6] [] s).trans (mb_reachE_343 (mE d) (mJ (d + 1) 41) x6 s)) := (mJ_eq (m := 41) (pc := 343) rfl d [vr_ (some 0), vi_ x6] [] s).trans (mb_reachE_343 (mE d) (mJ (d + 1) 41) x6 s)
set_option maxRecDepth 100000 in
theorem mj_reachE_451 (d : Nat) (x6 y1 y2 : Int32) (s : mm_S) : type_of% ((mJ_eq (m := 41) (pc := 451) rfl d [vr_ (some 0), vi_ x6] [vi_ y2, vi_ y1, vr_ (some 0)] s).trans (mb_reachE_451 (mE d) (mJ (d + 1) 41) x6 y1 y2 s)) := (mJ_eq (m := 41) (pc := 451) rfl d [vr_ (some 0), vi_ x6] [vi_ y2, vi_ y1, vr_ (some 0)] s).trans (mb_reachE_451 (mE d) (mJ (d + 1) 41) x6 y1 y2 s)
set_option maxRecDepth 100000 in
theorem mj_reachE_569 (d : Nat) (x4 x6 : Int32) (s : mm_S) : type_of% ((mJ_eq (m := 41) (pc := 569) rfl d [vr_ (some 0), vi_ x4, vi_ x6] [] s).trans (mb_reachE_569 (mE d) (mJ (d + 1) 41) x4 x6 s)) := (mJ_eq (m := 41) (pc := 569) rfl d [vr_ (some 0), vi_ x4, vi_ x6] [] s).trans (mb_reachE_569 (mE d) (mJ (d + 1) 41) x4 x6 s)
set_option maxRecDepth 100000 in
theorem mj_reachE_641 (d : Nat) (x5 x6 : Int32) (s : mm_S) : type_of% ((mJ_eq (m := 41) (pc := 641) rfl d [vr_ (some 0), vi_ x5, vi_ x6] [] s).trans (mb_reachE_641 (mE d) (mJ (d + 1) 41) x5 x6 s)) := (mJ_eq (m := 41) (pc := 641) rfl d [vr_ (some 0), vi_ x5, vi_ x6] [] s).trans (mb_reachE_641 (mE d) (mJ (d + 1) 41) x5 x6 s)
set_option maxRecDepth 100000 in
theorem me_calls (d : Nat) (x1 x2 x3 : Int32) (s : mm_S) : type_of% ((mE_eq d 42 [vr_ (some 0), vi_ x1, vi_ x2, vi_ x3] s rfl).trans (mb_calls (mE d) (mJ (d + 1) 42) x1 x2 x3 s)) := (mE_eq d 42 [vr_ (some 0), vi_ x1, vi_ x2, vi_ x3] s rfl).trans (mb_calls (mE d) (mJ (d + 1) 42) x1 x2 x3 s)
set_option maxRecDepth 100000 in
theorem me_primary (d : Nat) (x1 x2 : Int32) (s : mm_S) : type_of% ((mE_eq d 43 [vr_ (some 0), vi_ x1, vi_ x2] s rfl).trans (mb_primary (mE d) (mJ (d + 1) 43) x1 x2 s)) := (mE_eq d 43 [vr_ (some 0), vi_ x1, vi_ x2] s rfl).trans (mb_primary (mE d) (mJ (d + 1) 43) x1 x2 s)
set_option maxRecDepth 100000 in
theorem me_binary (d : Nat) (x1 x2 x3 : Int32) (s : mm_S) : type_of% ((mE_eq d 44 [vr_ (some 0), vi_ x1, vi_ x2, vi_ x3] s rfl).trans (mb_binary (mE d) (mJ (d + 1) 44) x1 x2 x3 s)) := (mE_eq d 44 [vr_ (some 0), vi_ x1, vi_ x2, vi_ x3] s rfl).trans (mb_binary (mE d) (mJ (d + 1) 44) x1 x2 x3 s)
set_option maxRecDepth 100000 in
theorem mj_binary_70 (d : Nat) (x3 x5 x6 : Int32) (s : mm_S) : type_of% ((mJ_eq (m := 44) (pc := 70) rfl d [vr_ (some 0), vi_ x3, vi_ x5, vi_ x6] [] s).trans (mb_binary_70 (mE d) (mJ (d + 1) 44) x3 x5 x6 s)) := (mJ_eq (m := 44) (pc := 70) rfl d [vr_ (some 0), vi_ x3, vi_ x5, vi_ x6] [] s).trans (mb_binary_70 (mE d) (mJ (d + 1) 44) x3 x5 x6 s)
set_option maxRecDepth 100000 in
theorem me_fault (d : Nat) (x1 x2 : Int32) (s : mm_S) : type_of% ((mE_eq d 45 [vr_ (some 0), vi_ x1, vi_ x2] s rfl).trans (mb_fault (mE d) (mJ (d + 1) 45) x1 x2 s)) := (mE_eq d 45 [vr_ (some 0), vi_ x1, vi_ x2] s rfl).trans (mb_fault (mE d) (mJ (d + 1) 45) x1 x2 s)
set_option maxRecDepth 100000 in
theorem me_place (d : Nat) (x1 : Int32) (s : mm_S) : type_of% ((mE_eq d 46 [vr_ (some 0), vi_ x1] s rfl).trans (mb_place (mE d) (mJ (d + 1) 46) x1 s)) := (mE_eq d 46 [vr_ (some 0), vi_ x1] s rfl).trans (mb_place (mE d) (mJ (d + 1) 46) x1 s)
set_option maxRecDepth 100000 in
theorem me_means (d : Nat) (x1 : Int32) (s : mm_S) : type_of% ((mE_eq d 47 [vr_ (some 0), vi_ x1] s rfl).trans (mb_means (mE d) (mJ (d + 1) 47) x1 s)) := (mE_eq d 47 [vr_ (some 0), vi_ x1] s rfl).trans (mb_means (mE d) (mJ (d + 1) 47) x1 s)
set_option maxRecDepth 100000 in
theorem mj_means_7 (d : Nat) (x1 x2 : Int32) (s : mm_S) : type_of% ((mJ_eq (m := 47) (pc := 7) rfl d [vr_ (some 0), vi_ x1, vi_ x2] [] s).trans (mb_means_7 (mE d) (mJ (d + 1) 47) x1 x2 s)) := (mJ_eq (m := 47) (pc := 7) rfl d [vr_ (some 0), vi_ x1, vi_ x2] [] s).trans (mb_means_7 (mE d) (mJ (d + 1) 47) x1 x2 s)
set_option maxRecDepth 100000 in
theorem me_entry (d : Nat) (x1 x2 x3 x4 x5 : Int32) (s : mm_S) : type_of% ((mE_eq d 48 [vr_ (some 0), vi_ x1, vi_ x2, vi_ x3, vi_ x4, vi_ x5] s rfl).trans (mb_entry (mE d) (mJ (d + 1) 48) x1 x2 x3 x4 x5 s)) := (mE_eq d 48 [vr_ (some 0), vi_ x1, vi_ x2, vi_ x3, vi_ x4, vi_ x5] s rfl).trans (mb_entry (mE d) (mJ (d + 1) 48) x1 x2 x3 x4 x5 s)
set_option maxRecDepth 100000 in
theorem me_declare (d : Nat) (x1 x2 x3 x4 x5 x6 : Int32) (s : mm_S) : type_of% ((mE_eq d 49 [vr_ (some 0), vi_ x1, vi_ x2, vi_ x3, vi_ x4, vi_ x5, vi_ x6] s rfl).trans (mb_declare (mE d) (mJ (d + 1) 49) x1 x2 x3 x4 x5 x6 s)) := (mE_eq d 49 [vr_ (some 0), vi_ x1, vi_ x2, vi_ x3, vi_ x4, vi_ x5, vi_ x6] s rfl).trans (mb_declare (mE d) (mJ (d + 1) 49) x1 x2 x3 x4 x5 x6 s)
set_option maxRecDepth 100000 in
theorem mj_declare_8 (d : Nat) (x1 x2 x3 x4 x5 x6 x7 : Int32) (s : mm_S) : type_of% ((mJ_eq (m := 49) (pc := 8) rfl d [vr_ (some 0), vi_ x1, vi_ x2, vi_ x3, vi_ x4, vi_ x5, vi_ x6, vi_ x7] [] s).trans (mb_declare_8 (mE d) (mJ (d + 1) 49) x1 x2 x3 x4 x5 x6 x7 s)) := (mJ_eq (m := 49) (pc := 8) rfl d [vr_ (some 0), vi_ x1, vi_ x2, vi_ x3, vi_ x4, vi_ x5, vi_ x6, vi_ x7] [] s).trans (mb_declare_8 (mE d) (mJ (d + 1) 49) x1 x2 x3 x4 x5 x6 x7 s)
set_option maxRecDepth 100000 in
theorem me_tokenOfTwice (d : Nat) (x1 x2 : Int32) (s : mm_S) : type_of% ((mE_eq d 50 [vr_ (some 0), vi_ x1, vi_ x2] s rfl).trans (mb_tokenOfTwice (mE d) (mJ (d + 1) 50) x1 x2 s)) := (mE_eq d 50 [vr_ (some 0), vi_ x1, vi_ x2] s rfl).trans (mb_tokenOfTwice (mE d) (mJ (d + 1) 50) x1 x2 s)
set_option maxRecDepth 100000 in
theorem me_isK (d : Nat) (x1 : Int32) (s : mm_S) : type_of% ((mE_eq d 51 [vr_ (some 0), vi_ x1] s rfl).trans (mb_isK (mE d) (mJ (d + 1) 51) x1 s)) := (mE_eq d 51 [vr_ (some 0), vi_ x1] s rfl).trans (mb_isK (mE d) (mJ (d + 1) 51) x1 s)
set_option maxRecDepth 100000 in
theorem mj_isK_11 (d : Nat) (x2 x3 : Int32) (s : mm_S) : type_of% ((mJ_eq (m := 51) (pc := 11) rfl d [vr_ (some 0), vi_ x2, vi_ x3] [] s).trans (mb_isK_11 (mE d) (mJ (d + 1) 51) x2 x3 s)) := (mJ_eq (m := 51) (pc := 11) rfl d [vr_ (some 0), vi_ x2, vi_ x3] [] s).trans (mb_isK_11 (mE d) (mJ (d + 1) 51) x2 x3 s)
set_option maxRecDepth 100000 in
theorem mj_isK_110 (d : Nat) (x2 x3 x4 x5 y0 : Int32) (s : mm_S) : type_of% ((mJ_eq (m := 51) (pc := 110) rfl d [vr_ (some 0), vi_ x2, vi_ x3, vi_ x4, vi_ x5] [vi_ y0] s).trans (mb_isK_110 (mE d) (mJ (d + 1) 51) x2 x3 x4 x5 y0 s)) := (mJ_eq (m := 51) (pc := 110) rfl d [vr_ (some 0), vi_ x2, vi_ x3, vi_ x4, vi_ x5] [vi_ y0] s).trans (mb_isK_110 (mE d) (mJ (d + 1) 51) x2 x3 x4 x5 y0 s)
set_option maxRecDepth 100000 in
theorem mj_isK_136 (d : Nat) (x2 x3 x4 x5 : Int32) (s : mm_S) : type_of% ((mJ_eq (m := 51) (pc := 136) rfl d [vr_ (some 0), vi_ x2, vi_ x3, vi_ x4, vi_ x5] [] s).trans (mb_isK_136 (mE d) (mJ (d + 1) 51) x2 x3 x4 x5 s)) := (mJ_eq (m := 51) (pc := 136) rfl d [vr_ (some 0), vi_ x2, vi_ x3, vi_ x4, vi_ x5] [] s).trans (mb_isK_136 (mE d) (mJ (d + 1) 51) x2 x3 x4 x5 s)
set_option maxRecDepth 100000 in
theorem mj_isK_179 (d : Nat) (x2 x3 x7 : Int32) (s : mm_S) : type_of% ((mJ_eq (m := 51) (pc := 179) rfl d [vr_ (some 0), vi_ x2, vi_ x3, vi_ x7] [] s).trans (mb_isK_179 (mE d) (mJ (d + 1) 51) x2 x3 x7 s)) := (mJ_eq (m := 51) (pc := 179) rfl d [vr_ (some 0), vi_ x2, vi_ x3, vi_ x7] [] s).trans (mb_isK_179 (mE d) (mJ (d + 1) 51) x2 x3 x7 s)
set_option maxRecDepth 100000 in
theorem me_isKName (d : Nat) (x1 : Int32) (s : mm_S) : type_of% ((mE_eq d 52 [vr_ (some 0), vi_ x1] s rfl).trans (mb_isKName (mE d) (mJ (d + 1) 52) x1 s)) := (mE_eq d 52 [vr_ (some 0), vi_ x1] s rfl).trans (mb_isKName (mE d) (mJ (d + 1) 52) x1 s)
set_option maxRecDepth 100000 in
theorem mj_isKName_68 (d : Nat) (x2 : Int32) (s : mm_S) : type_of% ((mJ_eq (m := 52) (pc := 68) rfl d [vr_ (some 0), vi_ x2] [] s).trans (mb_isKName_68 (mE d) (mJ (d + 1) 52) x2 s)) := (mJ_eq (m := 52) (pc := 68) rfl d [vr_ (some 0), vi_ x2] [] s).trans (mb_isKName_68 (mE d) (mJ (d + 1) 52) x2 s)
set_option maxRecDepth 100000 in
theorem me_shifted (d : Nat) (x0 x1 x2 : Int32) (s : mm_S) : type_of% ((mE_eq d 53 [vi_ x0, vi_ x1, vi_ x2] s rfl).trans (mb_shifted (mE d) (mJ (d + 1) 53) x0 x1 x2 s)) := (mE_eq d 53 [vi_ x0, vi_ x1, vi_ x2] s rfl).trans (mb_shifted (mE d) (mJ (d + 1) 53) x0 x1 x2 s)
set_option maxRecDepth 100000 in
theorem me_quotient (d : Nat) (x0 x1 : Int32) (s : mm_S) : type_of% ((mE_eq d 54 [vi_ x0, vi_ x1] s rfl).trans (mb_quotient (mE d) (mJ (d + 1) 54) x0 x1 s)) := (mE_eq d 54 [vi_ x0, vi_ x1] s rfl).trans (mb_quotient (mE d) (mJ (d + 1) 54) x0 x1 s)
set_option maxRecDepth 100000 in
theorem me_remainder (d : Nat) (x0 x1 : Int32) (s : mm_S) : type_of% ((mE_eq d 55 [vi_ x0, vi_ x1] s rfl).trans (mb_remainder (mE d) (mJ (d + 1) 55) x0 x1 s)) := (mE_eq d 55 [vi_ x0, vi_ x1] s rfl).trans (mb_remainder (mE d) (mJ (d + 1) 55) x0 x1 s)
set_option maxRecDepth 100000 in
theorem me_worked (d : Nat) (x0 x1 x2 : Int32) (s : mm_S) : type_of% ((mE_eq d 56 [vi_ x0, vi_ x1, vi_ x2] s rfl).trans (mb_worked (mE d) (mJ (d + 1) 56) x0 x1 x2 s)) := (mE_eq d 56 [vi_ x0, vi_ x1, vi_ x2] s rfl).trans (mb_worked (mE d) (mJ (d + 1) 56) x0 x1 x2 s)
set_option maxRecDepth 100000 in
theorem me_related (d : Nat) (x0 x1 x2 : Int32) (s : mm_S) : type_of% ((mE_eq d 57 [vi_ x0, vi_ x1, vi_ x2] s rfl).trans (mb_related (mE d) (mJ (d + 1) 57) x0 x1 x2 s)) := (mE_eq d 57 [vi_ x0, vi_ x1, vi_ x2] s rfl).trans (mb_related (mE d) (mJ (d + 1) 57) x0 x1 x2 s)
set_option maxRecDepth 100000 in
theorem me_signed (d : Nat) (x0 x1 : Int32) (s : mm_S) : type_of% ((mE_eq d 58 [vi_ x0, vi_ x1] s rfl).trans (mb_signed (mE d) (mJ (d + 1) 58) x0 x1 s)) := (mE_eq d 58 [vi_ x0, vi_ x1] s rfl).trans (mb_signed (mE d) (mJ (d + 1) 58) x0 x1 s)
set_option maxRecDepth 100000 in
theorem me_constant (d : Nat) (x1 : Int32) (s : mm_S) : type_of% ((mE_eq d 59 [vr_ (some 0), vi_ x1] s rfl).trans (mb_constant (mE d) (mJ (d + 1) 59) x1 s)) := (mE_eq d 59 [vr_ (some 0), vi_ x1] s rfl).trans (mb_constant (mE d) (mJ (d + 1) 59) x1 s)
set_option maxRecDepth 100000 in
theorem mj_constant_40 (d : Nat) (x2 x3 : Int32) (s : mm_S) : type_of% ((mJ_eq (m := 59) (pc := 40) rfl d [vr_ (some 0), vi_ x2, vi_ x3] [] s).trans (mb_constant_40 (mE d) (mJ (d + 1) 59) x2 x3 s)) := (mJ_eq (m := 59) (pc := 40) rfl d [vr_ (some 0), vi_ x2, vi_ x3] [] s).trans (mb_constant_40 (mE d) (mJ (d + 1) 59) x2 x3 s)
set_option maxRecDepth 100000 in
theorem mj_constant_84 (d : Nat) (x2 x3 x4 x6 : Int32) (s : mm_S) : type_of% ((mJ_eq (m := 59) (pc := 84) rfl d [vr_ (some 0), vi_ x2, vi_ x3, vi_ x4, vi_ x6] [] s).trans (mb_constant_84 (mE d) (mJ (d + 1) 59) x2 x3 x4 x6 s)) := (mJ_eq (m := 59) (pc := 84) rfl d [vr_ (some 0), vi_ x2, vi_ x3, vi_ x4, vi_ x6] [] s).trans (mb_constant_84 (mE d) (mJ (d + 1) 59) x2 x3 x4 x6 s)
set_option maxRecDepth 100000 in
theorem mj_constant_297 (d : Nat) (x2 x3 x4 x5 x7 x8 : Int32) (s : mm_S) : type_of% ((mJ_eq (m := 59) (pc := 297) rfl d [vr_ (some 0), vi_ x2, vi_ x3, vi_ x4, vi_ x5, vi_ x7, vi_ x8] [] s).trans (mb_constant_297 (mE d) (mJ (d + 1) 59) x2 x3 x4 x5 x7 x8 s)) := (mJ_eq (m := 59) (pc := 297) rfl d [vr_ (some 0), vi_ x2, vi_ x3, vi_ x4, vi_ x5, vi_ x7, vi_ x8] [] s).trans (mb_constant_297 (mE d) (mJ (d + 1) 59) x2 x3 x4 x5 x7 x8 s)
set_option maxRecDepth 100000 in
theorem mj_constant_360 (d : Nat) (x2 x3 x5 x7 x8 x9 : Int32) (s : mm_S) : type_of% ((mJ_eq (m := 59) (pc := 360) rfl d [vr_ (some 0), vi_ x2, vi_ x3, vi_ x5, vi_ x7, vi_ x8, vi_ x9] [] s).trans (mb_constant_360 (mE d) (mJ (d + 1) 59) x2 x3 x5 x7 x8 x9 s)) := (mJ_eq (m := 59) (pc := 360) rfl d [vr_ (some 0), vi_ x2, vi_ x3, vi_ x5, vi_ x7, vi_ x8, vi_ x9] [] s).trans (mb_constant_360 (mE d) (mJ (d + 1) 59) x2 x3 x5 x7 x8 x9 s)
set_option maxRecDepth 100000 in
theorem mj_constant_462 (d : Nat) (x2 x3 x9 : Int32) (s : mm_S) : type_of% ((mJ_eq (m := 59) (pc := 462) rfl d [vr_ (some 0), vi_ x2, vi_ x3, vi_ x9] [] s).trans (mb_constant_462 (mE d) (mJ (d + 1) 59) x2 x3 x9 s)) := (mJ_eq (m := 59) (pc := 462) rfl d [vr_ (some 0), vi_ x2, vi_ x3, vi_ x9] [] s).trans (mb_constant_462 (mE d) (mJ (d + 1) 59) x2 x3 x9 s)
set_option maxRecDepth 100000 in
theorem mj_constant_567 (d : Nat) (x2 x3 x4 : Int32) (s : mm_S) : type_of% ((mJ_eq (m := 59) (pc := 567) rfl d [vr_ (some 0), vi_ x2, vi_ x3, vi_ x4] [] s).trans (mb_constant_567 (mE d) (mJ (d + 1) 59) x2 x3 x4 s)) := (mJ_eq (m := 59) (pc := 567) rfl d [vr_ (some 0), vi_ x2, vi_ x3, vi_ x4] [] s).trans (mb_constant_567 (mE d) (mJ (d + 1) 59) x2 x3 x4 s)
set_option maxRecDepth 100000 in
theorem mj_constant_599 (d : Nat) (x2 x3 x4 : Int32) (s : mm_S) : type_of% ((mJ_eq (m := 59) (pc := 599) rfl d [vr_ (some 0), vi_ x2, vi_ x3, vi_ x4] [] s).trans (mb_constant_599 (mE d) (mJ (d + 1) 59) x2 x3 x4 s)) := (mJ_eq (m := 59) (pc := 599) rfl d [vr_ (some 0), vi_ x2, vi_ x3, vi_ x4] [] s).trans (mb_constant_599 (mE d) (mJ (d + 1) 59) x2 x3 x4 s)
set_option maxRecDepth 100000 in
theorem me_later (d : Nat) (x1 x2 : Int32) (s : mm_S) : type_of% ((mE_eq d 60 [vr_ (some 0), vi_ x1, vi_ x2] s rfl).trans (mb_later (mE d) (mJ (d + 1) 60) x1 x2 s)) := (mE_eq d 60 [vr_ (some 0), vi_ x1, vi_ x2] s rfl).trans (mb_later (mE d) (mJ (d + 1) 60) x1 x2 s)
set_option maxRecDepth 100000 in
theorem me_task (d : Nat) (x1 x2 x3 : Int32) (s : mm_S) : type_of% ((mE_eq d 61 [vr_ (some 0), vi_ x1, vi_ x2, vi_ x3] s rfl).trans (mb_task (mE d) (mJ (d + 1) 61) x1 x2 x3 s)) := (mE_eq d 61 [vr_ (some 0), vi_ x1, vi_ x2, vi_ x3] s rfl).trans (mb_task (mE d) (mJ (d + 1) 61) x1 x2 x3 s)
set_option maxRecDepth 100000 in
theorem me_put (d : Nat) (x1 : Int32) (s : mm_S) : type_of% ((mE_eq d 62 [vr_ (some 0), vi_ x1] s rfl).trans (mb_put (mE d) (mJ (d + 1) 62) x1 s)) := (mE_eq d 62 [vr_ (some 0), vi_ x1] s rfl).trans (mb_put (mE d) (mJ (d + 1) 62) x1 s)
set_option maxRecDepth 100000 in
theorem me_pull (d : Nat) (s : mm_S) : type_of% ((mE_eq d 63 [vr_ (some 0)] s rfl).trans (mb_pull (mE d) (mJ (d + 1) 63)  s)) := (mE_eq d 63 [vr_ (some 0)] s rfl).trans (mb_pull (mE d) (mJ (d + 1) 63)  s)
set_option maxRecDepth 100000 in
theorem me_init_2 (d : Nat) (x1 x2 : Int32) (s : mm_S) : type_of% ((mE_eq d 64 [vr_ (some 0), vi_ x1, vi_ x2] s rfl).trans (mb_init_2 (mE d) (mJ (d + 1) 64) x1 x2 s)) := (mE_eq d 64 [vr_ (some 0), vi_ x1, vi_ x2] s rfl).trans (mb_init_2 (mE d) (mJ (d + 1) 64) x1 x2 s)
set_option maxRecDepth 100000 in
theorem me_children (d : Nat) (x1 x2 : Int32) (s : mm_S) : type_of% ((mE_eq d 65 [vr_ (some 0), vi_ x1, vi_ x2] s rfl).trans (mb_children (mE d) (mJ (d + 1) 65) x1 x2 s)) := (mE_eq d 65 [vr_ (some 0), vi_ x1, vi_ x2] s rfl).trans (mb_children (mE d) (mJ (d + 1) 65) x1 x2 s)
set_option maxRecDepth 100000 in
theorem mj_children_13 (d : Nat) (x2 x3 x4 : Int32) (s : mm_S) : type_of% ((mJ_eq (m := 65) (pc := 13) rfl d [vr_ (some 0), vi_ x2, vi_ x3, vi_ x4] [] s).trans (mb_children_13 (mE d) (mJ (d + 1) 65) x2 x3 x4 s)) := (mJ_eq (m := 65) (pc := 13) rfl d [vr_ (some 0), vi_ x2, vi_ x3, vi_ x4] [] s).trans (mb_children_13 (mE d) (mJ (d + 1) 65) x2 x3 x4 s)
set_option maxRecDepth 100000 in
theorem me_turn (d : Nat) (x1 : Int32) (s : mm_S) : type_of% ((mE_eq d 66 [vr_ (some 0), vi_ x1] s rfl).trans (mb_turn (mE d) (mJ (d + 1) 66) x1 s)) := (mE_eq d 66 [vr_ (some 0), vi_ x1] s rfl).trans (mb_turn (mE d) (mJ (d + 1) 66) x1 s)
set_option maxRecDepth 100000 in
theorem mj_turn_9 (d : Nat) (x2 x3 : Int32) (s : mm_S) : type_of% ((mJ_eq (m := 66) (pc := 9) rfl d [vr_ (some 0), vi_ x2, vi_ x3] [] s).trans (mb_turn_9 (mE d) (mJ (d + 1) 66) x2 x3 s)) := (mJ_eq (m := 66) (pc := 9) rfl d [vr_ (some 0), vi_ x2, vi_ x3] [] s).trans (mb_turn_9 (mE d) (mJ (d + 1) 66) x2 x3 s)
set_option maxRecDepth 100000 in
theorem me_library (d : Nat) (s : mm_S) : type_of% ((mE_eq d 67 [vr_ (some 0)] s rfl).trans (mb_library (mE d) (mJ (d + 1) 67)  s)) := (mE_eq d 67 [vr_ (some 0)] s rfl).trans (mb_library (mE d) (mJ (d + 1) 67)  s)
set_option maxRecDepth 100000 in
theorem me_lib (d : Nat) (x5 : Int32) (x1 x3 : Int64) (s : mm_S) : type_of% ((mE_eq d 68 [vr_ (some 0), vl_ x1, vl_ x3, vi_ x5] s rfl).trans (mb_lib (mE d) (mJ (d + 1) 68) x5 x1 x3 s)) := (mE_eq d 68 [vr_ (some 0), vl_ x1, vl_ x3, vi_ x5] s rfl).trans (mb_lib (mE d) (mJ (d + 1) 68) x5 x1 x3 s)
set_option maxRecDepth 100000 in
theorem mj_lib_6 (d : Nat) (x5 x6 x7 : Int32) (x1 x3 : Int64) (s : mm_S) : type_of% ((mJ_eq (m := 68) (pc := 6) rfl d [vr_ (some 0), vl_ x1, vl_ x3, vi_ x5, vi_ x6, vi_ x7] [] s).trans (mb_lib_6 (mE d) (mJ (d + 1) 68) x5 x6 x7 x1 x3 s)) := (mJ_eq (m := 68) (pc := 6) rfl d [vr_ (some 0), vl_ x1, vl_ x3, vi_ x5, vi_ x6, vi_ x7] [] s).trans (mb_lib_6 (mE d) (mJ (d + 1) 68) x5 x6 x7 x1 x3 s)
set_option maxRecDepth 100000 in
theorem me_check (d : Nat) (s : mm_S) : type_of% ((mE_eq d 69 [vr_ (some 0)] s rfl).trans (mb_check (mE d) (mJ (d + 1) 69)  s)) := (mE_eq d 69 [vr_ (some 0)] s rfl).trans (mb_check (mE d) (mJ (d + 1) 69)  s)
set_option maxRecDepth 100000 in
theorem mj_check_84 (d : Nat) (x1 x2 : Int32) (s : mm_S) : type_of% ((mJ_eq (m := 69) (pc := 84) rfl d [vr_ (some 0), vi_ x1, vi_ x2] [] s).trans (mb_check_84 (mE d) (mJ (d + 1) 69) x1 x2 s)) := (mJ_eq (m := 69) (pc := 84) rfl d [vr_ (some 0), vi_ x1, vi_ x2] [] s).trans (mb_check_84 (mE d) (mJ (d + 1) 69) x1 x2 s)
set_option maxRecDepth 100000 in
theorem mj_check_140 (d : Nat) (s : mm_S) : type_of% ((mJ_eq (m := 69) (pc := 140) rfl d [vr_ (some 0)] [] s).trans (mb_check_140 (mE d) (mJ (d + 1) 69)  s)) := (mJ_eq (m := 69) (pc := 140) rfl d [vr_ (some 0)] [] s).trans (mb_check_140 (mE d) (mJ (d + 1) 69)  s)
set_option maxRecDepth 100000 in
theorem mj_check_227 (d : Nat) (x2 x3 : Int32) (s : mm_S) : type_of% ((mJ_eq (m := 69) (pc := 227) rfl d [vr_ (some 0), vi_ x2, vi_ x3] [] s).trans (mb_check_227 (mE d) (mJ (d + 1) 69) x2 x3 s)) := (mJ_eq (m := 69) (pc := 227) rfl d [vr_ (some 0), vi_ x2, vi_ x3] [] s).trans (mb_check_227 (mE d) (mJ (d + 1) 69) x2 x3 s)
set_option maxRecDepth 100000 in
theorem me_go (d : Nat) (x1 x2 x3 : Int32) (s : mm_S) : type_of% ((mE_eq d 70 [vr_ (some 0), vi_ x1, vi_ x2, vi_ x3] s rfl).trans (mb_go (mE d) (mJ (d + 1) 70) x1 x2 x3 s)) := (mE_eq d 70 [vr_ (some 0), vi_ x1, vi_ x2, vi_ x3] s rfl).trans (mb_go (mE d) (mJ (d + 1) 70) x1 x2 x3 s)
set_option maxRecDepth 100000 in
theorem me_nameToken (d : Nat) (x1 : Int32) (s : mm_S) : type_of% ((mE_eq d 71 [vr_ (some 0), vi_ x1] s rfl).trans (mb_nameToken (mE d) (mJ (d + 1) 71) x1 s)) := (mE_eq d 71 [vr_ (some 0), vi_ x1] s rfl).trans (mb_nameToken (mE d) (mJ (d + 1) 71) x1 s)
set_option maxRecDepth 100000 in
theorem me_declaration (d : Nat) (x1 : Int32) (s : mm_S) : type_of% ((mE_eq d 72 [vr_ (some 0), vi_ x1] s rfl).trans (mb_declaration (mE d) (mJ (d + 1) 72) x1 s)) := (mE_eq d 72 [vr_ (some 0), vi_ x1] s rfl).trans (mb_declaration (mE d) (mJ (d + 1) 72) x1 s)
set_option maxRecDepth 100000 in
theorem mj_declaration_60 (d : Nat) (x3 x4 : Int32) (s : mm_S) : type_of% ((mJ_eq (m := 72) (pc := 60) rfl d [vr_ (some 0), vi_ x3, vi_ x4] [] s).trans (mb_declaration_60 (mE d) (mJ (d + 1) 72) x3 x4 s)) := (mJ_eq (m := 72) (pc := 60) rfl d [vr_ (some 0), vi_ x3, vi_ x4] [] s).trans (mb_declaration_60 (mE d) (mJ (d + 1) 72) x3 x4 s)
set_option maxRecDepth 100000 in
theorem mj_declaration_133 (d : Nat) (x1 x2 x3 : Int32) (s : mm_S) : type_of% ((mJ_eq (m := 72) (pc := 133) rfl d [vr_ (some 0), vi_ x1, vi_ x2, vi_ x3] [] s).trans (mb_declaration_133 (mE d) (mJ (d + 1) 72) x1 x2 x3 s)) := (mJ_eq (m := 72) (pc := 133) rfl d [vr_ (some 0), vi_ x1, vi_ x2, vi_ x3] [] s).trans (mb_declaration_133 (mE d) (mJ (d + 1) 72) x1 x2 x3 s)
set_option maxRecDepth 100000 in
theorem mj_declaration_158 (d : Nat) (x1 x2 x3 y0 : Int32) (s : mm_S) : type_of% ((mJ_eq (m := 72) (pc := 158) rfl d [vr_ (some 0), vi_ x1, vi_ x2, vi_ x3] [vi_ y0] s).trans (mb_declaration_158 (mE d) (mJ (d + 1) 72) x1 x2 x3 y0 s)) := (mJ_eq (m := 72) (pc := 158) rfl d [vr_ (some 0), vi_ x1, vi_ x2, vi_ x3] [vi_ y0] s).trans (mb_declaration_158 (mE d) (mJ (d + 1) 72) x1 x2 x3 y0 s)
set_option maxRecDepth 100000 in
theorem mj_declaration_213 (d : Nat) (x2 x3 : Int32) (s : mm_S) : type_of% ((mJ_eq (m := 72) (pc := 213) rfl d [vr_ (some 0), vi_ x2, vi_ x3] [] s).trans (mb_declaration_213 (mE d) (mJ (d + 1) 72) x2 x3 s)) := (mJ_eq (m := 72) (pc := 213) rfl d [vr_ (some 0), vi_ x2, vi_ x3] [] s).trans (mb_declaration_213 (mE d) (mJ (d + 1) 72) x2 x3 s)
set_option maxRecDepth 100000 in
theorem mj_declaration_300 (d : Nat) (x2 x3 x4 y1 y2 : Int32) (s : mm_S) : type_of% ((mJ_eq (m := 72) (pc := 300) rfl d [vr_ (some 0), vi_ x2, vi_ x3, vi_ x4] [vi_ y2, vi_ y1, vr_ (some 53)] s).trans (mb_declaration_300 (mE d) (mJ (d + 1) 72) x2 x3 x4 y1 y2 s)) := (mJ_eq (m := 72) (pc := 300) rfl d [vr_ (some 0), vi_ x2, vi_ x3, vi_ x4] [vi_ y2, vi_ y1, vr_ (some 53)] s).trans (mb_declaration_300 (mE d) (mJ (d + 1) 72) x2 x3 x4 y1 y2 s)
set_option maxRecDepth 100000 in
theorem mj_declaration_359 (d : Nat) (x2 x3 x4 : Int32) (s : mm_S) : type_of% ((mJ_eq (m := 72) (pc := 359) rfl d [vr_ (some 0), vi_ x2, vi_ x3, vi_ x4] [] s).trans (mb_declaration_359 (mE d) (mJ (d + 1) 72) x2 x3 x4 s)) := (mJ_eq (m := 72) (pc := 359) rfl d [vr_ (some 0), vi_ x2, vi_ x3, vi_ x4] [] s).trans (mb_declaration_359 (mE d) (mJ (d + 1) 72) x2 x3 x4 s)
set_option maxRecDepth 100000 in
theorem me_letRoutines (d : Nat) (x1 : Int32) (s : mm_S) : type_of% ((mE_eq d 73 [vr_ (some 0), vi_ x1] s rfl).trans (mb_letRoutines (mE d) (mJ (d + 1) 73) x1 s)) := (mE_eq d 73 [vr_ (some 0), vi_ x1] s rfl).trans (mb_letRoutines (mE d) (mJ (d + 1) 73) x1 s)
set_option maxRecDepth 100000 in
theorem mj_letRoutines_20 (d : Nat) (x1 x2 x3 : Int32) (s : mm_S) : type_of% ((mJ_eq (m := 73) (pc := 20) rfl d [vr_ (some 0), vi_ x1, vi_ x2, vi_ x3] [] s).trans (mb_letRoutines_20 (mE d) (mJ (d + 1) 73) x1 x2 x3 s)) := (mJ_eq (m := 73) (pc := 20) rfl d [vr_ (some 0), vi_ x1, vi_ x2, vi_ x3] [] s).trans (mb_letRoutines_20 (mE d) (mJ (d + 1) 73) x1 x2 x3 s)
set_option maxRecDepth 100000 in
theorem mj_letRoutines_45 (d : Nat) (x1 x2 x3 x4 y0 : Int32) (s : mm_S) : type_of% ((mJ_eq (m := 73) (pc := 45) rfl d [vr_ (some 0), vi_ x1, vi_ x2, vi_ x3, vi_ x4] [vi_ y0] s).trans (mb_letRoutines_45 (mE d) (mJ (d + 1) 73) x1 x2 x3 x4 y0 s)) := (mJ_eq (m := 73) (pc := 45) rfl d [vr_ (some 0), vi_ x1, vi_ x2, vi_ x3, vi_ x4] [vi_ y0] s).trans (mb_letRoutines_45 (mE d) (mJ (d + 1) 73) x1 x2 x3 x4 y0 s)
set_option maxRecDepth 100000 in
theorem mj_letRoutines_134 (d : Nat) (x1 x2 x3 x4 : Int32) (s : mm_S) : type_of% ((mJ_eq (m := 73) (pc := 134) rfl d [vr_ (some 0), vi_ x1, vi_ x2, vi_ x3, vi_ x4] [] s).trans (mb_letRoutines_134 (mE d) (mJ (d + 1) 73) x1 x2 x3 x4 s)) := (mJ_eq (m := 73) (pc := 134) rfl d [vr_ (some 0), vi_ x1, vi_ x2, vi_ x3, vi_ x4] [] s).trans (mb_letRoutines_134 (mE d) (mJ (d + 1) 73) x1 x2 x3 x4 s)
set_option maxRecDepth 100000 in
theorem me_routineOf (d : Nat) (x1 x2 : Int32) (s : mm_S) : type_of% ((mE_eq d 74 [vr_ (some 0), vi_ x1, vi_ x2] s rfl).trans (mb_routineOf (mE d) (mJ (d + 1) 74) x1 x2 s)) := (mE_eq d 74 [vr_ (some 0), vi_ x1, vi_ x2] s rfl).trans (mb_routineOf (mE d) (mJ (d + 1) 74) x1 x2 s)
set_option maxRecDepth 100000 in
theorem mj_routineOf_73 (d : Nat) (x1 x3 : Int32) (s : mm_S) : type_of% ((mJ_eq (m := 74) (pc := 73) rfl d [vr_ (some 0), vi_ x1, vi_ x3] [] s).trans (mb_routineOf_73 (mE d) (mJ (d + 1) 74) x1 x3 s)) := (mJ_eq (m := 74) (pc := 73) rfl d [vr_ (some 0), vi_ x1, vi_ x3] [] s).trans (mb_routineOf_73 (mE d) (mJ (d + 1) 74) x1 x3 s)
set_option maxRecDepth 100000 in
theorem mj_routineOf_125 (d : Nat) (x1 x3 y1 : Int32) (s : mm_S) : type_of% ((mJ_eq (m := 74) (pc := 125) rfl d [vr_ (some 0), vi_ x1, vi_ x3] [vi_ y1, vr_ (some 0)] s).trans (mb_routineOf_125 (mE d) (mJ (d + 1) 74) x1 x3 y1 s)) := (mJ_eq (m := 74) (pc := 125) rfl d [vr_ (some 0), vi_ x1, vi_ x3] [vi_ y1, vr_ (some 0)] s).trans (mb_routineOf_125 (mE d) (mJ (d + 1) 74) x1 x3 y1 s)
set_option maxRecDepth 100000 in
theorem mj_routineOf_216 (d : Nat) (x1 x3 x4 : Int32) (s : mm_S) : type_of% ((mJ_eq (m := 74) (pc := 216) rfl d [vr_ (some 0), vi_ x1, vi_ x3, vi_ x4] [] s).trans (mb_routineOf_216 (mE d) (mJ (d + 1) 74) x1 x3 x4 s)) := (mJ_eq (m := 74) (pc := 216) rfl d [vr_ (some 0), vi_ x1, vi_ x3, vi_ x4] [] s).trans (mb_routineOf_216 (mE d) (mJ (d + 1) 74) x1 x3 x4 s)
set_option maxRecDepth 100000 in
theorem mj_routineOf_312 (d : Nat) (x1 x3 x4 y1 : Int32) (s : mm_S) : type_of% ((mJ_eq (m := 74) (pc := 312) rfl d [vr_ (some 0), vi_ x1, vi_ x3, vi_ x4] [vi_ y1, vr_ (some 0)] s).trans (mb_routineOf_312 (mE d) (mJ (d + 1) 74) x1 x3 x4 y1 s)) := (mJ_eq (m := 74) (pc := 312) rfl d [vr_ (some 0), vi_ x1, vi_ x3, vi_ x4] [vi_ y1, vr_ (some 0)] s).trans (mb_routineOf_312 (mE d) (mJ (d + 1) 74) x1 x3 x4 y1 s)
set_option maxRecDepth 100000 in
theorem me_routineEnds (d : Nat) (x1 : Int32) (s : mm_S) : type_of% ((mE_eq d 75 [vr_ (some 0), vi_ x1] s rfl).trans (mb_routineEnds (mE d) (mJ (d + 1) 75) x1 s)) := (mE_eq d 75 [vr_ (some 0), vi_ x1] s rfl).trans (mb_routineEnds (mE d) (mJ (d + 1) 75) x1 s)
set_option maxRecDepth 100000 in
theorem me_uses (d : Nat) (x1 : Int32) (s : mm_S) : type_of% ((mE_eq d 76 [vr_ (some 0), vi_ x1] s rfl).trans (mb_uses (mE d) (mJ (d + 1) 76) x1 s)) := (mE_eq d 76 [vr_ (some 0), vi_ x1] s rfl).trans (mb_uses (mE d) (mJ (d + 1) 76) x1 s)
set_option maxRecDepth 100000 in
theorem me_varsEnd (d : Nat) (x1 : Int32) (s : mm_S) : type_of% ((mE_eq d 77 [vr_ (some 0), vi_ x1] s rfl).trans (mb_varsEnd (mE d) (mJ (d + 1) 77) x1 s)) := (mE_eq d 77 [vr_ (some 0), vi_ x1] s rfl).trans (mb_varsEnd (mE d) (mJ (d + 1) 77) x1 s)
set_option maxRecDepth 100000 in
theorem mj_varsEnd_25 (d : Nat) (x1 x2 x3 x4 : Int32) (s : mm_S) : type_of% ((mJ_eq (m := 77) (pc := 25) rfl d [vr_ (some 0), vi_ x1, vi_ x2, vi_ x3, vi_ x4] [] s).trans (mb_varsEnd_25 (mE d) (mJ (d + 1) 77) x1 x2 x3 x4 s)) := (mJ_eq (m := 77) (pc := 25) rfl d [vr_ (some 0), vi_ x1, vi_ x2, vi_ x3, vi_ x4] [] s).trans (mb_varsEnd_25 (mE d) (mJ (d + 1) 77) x1 x2 x3 x4 s)
set_option maxRecDepth 100000 in
theorem mj_varsEnd_110 (d : Nat) (x4 : Int32) (s : mm_S) : type_of% ((mJ_eq (m := 77) (pc := 110) rfl d [vr_ (some 0), vi_ x4] [] s).trans (mb_varsEnd_110 (mE d) (mJ (d + 1) 77) x4 s)) := (mJ_eq (m := 77) (pc := 110) rfl d [vr_ (some 0), vi_ x4] [] s).trans (mb_varsEnd_110 (mE d) (mJ (d + 1) 77) x4 s)
set_option maxRecDepth 100000 in
theorem me_blockEnds (d : Nat) (x1 : Int32) (s : mm_S) : type_of% ((mE_eq d 78 [vr_ (some 0), vi_ x1] s rfl).trans (mb_blockEnds (mE d) (mJ (d + 1) 78) x1 s)) := (mE_eq d 78 [vr_ (some 0), vi_ x1] s rfl).trans (mb_blockEnds (mE d) (mJ (d + 1) 78) x1 s)
set_option maxRecDepth 100000 in
theorem me_beginBlock (d : Nat) (s : mm_S) : type_of% ((mE_eq d 79 [vr_ (some 0)] s rfl).trans (mb_beginBlock (mE d) (mJ (d + 1) 79)  s)) := (mE_eq d 79 [vr_ (some 0)] s rfl).trans (mb_beginBlock (mE d) (mJ (d + 1) 79)  s)
set_option maxRecDepth 100000 in
theorem me_labelsOf (d : Nat) (x1 : Int32) (s : mm_S) : type_of% ((mE_eq d 80 [vr_ (some 0), vi_ x1] s rfl).trans (mb_labelsOf (mE d) (mJ (d + 1) 80) x1 s)) := (mE_eq d 80 [vr_ (some 0), vi_ x1] s rfl).trans (mb_labelsOf (mE d) (mJ (d + 1) 80) x1 s)
set_option maxRecDepth 100000 in
theorem mj_labelsOf_7 (d : Nat) (x1 x2 : Int32) (s : mm_S) : type_of% ((mJ_eq (m := 80) (pc := 7) rfl d [vr_ (some 0), vi_ x1, vi_ x2] [] s).trans (mb_labelsOf_7 (mE d) (mJ (d + 1) 80) x1 x2 s)) := (mJ_eq (m := 80) (pc := 7) rfl d [vr_ (some 0), vi_ x1, vi_ x2] [] s).trans (mb_labelsOf_7 (mE d) (mJ (d + 1) 80) x1 x2 s)
set_option maxRecDepth 100000 in
theorem mj_labelsOf_39 (d : Nat) (x1 x2 x3 : Int32) (s : mm_S) : type_of% ((mJ_eq (m := 80) (pc := 39) rfl d [vr_ (some 0), vi_ x1, vi_ x2, vi_ x3] [] s).trans (mb_labelsOf_39 (mE d) (mJ (d + 1) 80) x1 x2 x3 s)) := (mJ_eq (m := 80) (pc := 39) rfl d [vr_ (some 0), vi_ x1, vi_ x2, vi_ x3] [] s).trans (mb_labelsOf_39 (mE d) (mJ (d + 1) 80) x1 x2 x3 s)
set_option maxRecDepth 100000 in
theorem me_forName (d : Nat) (x1 : Int32) (s : mm_S) : type_of% ((mE_eq d 81 [vr_ (some 0), vi_ x1] s rfl).trans (mb_forName (mE d) (mJ (d + 1) 81) x1 s)) := (mE_eq d 81 [vr_ (some 0), vi_ x1] s rfl).trans (mb_forName (mE d) (mJ (d + 1) 81) x1 s)
set_option maxRecDepth 100000 in
theorem mj_forName_63 (d : Nat) (x1 : Int32) (s : mm_S) : type_of% ((mJ_eq (m := 81) (pc := 63) rfl d [vr_ (some 0), vi_ x1] [] s).trans (mb_forName_63 (mE d) (mJ (d + 1) 81) x1 s)) := (mJ_eq (m := 81) (pc := 63) rfl d [vr_ (some 0), vi_ x1] [] s).trans (mb_forName_63 (mE d) (mJ (d + 1) 81) x1 s)
set_option maxRecDepth 100000 in
theorem mj_forName_171 (d : Nat) (x1 x2 x4 : Int32) (s : mm_S) : type_of% ((mJ_eq (m := 81) (pc := 171) rfl d [vr_ (some 0), vi_ x1, vi_ x2, vi_ x4] [] s).trans (mb_forName_171 (mE d) (mJ (d + 1) 81) x1 x2 x4 s)) := (mJ_eq (m := 81) (pc := 171) rfl d [vr_ (some 0), vi_ x1, vi_ x2, vi_ x4] [] s).trans (mb_forName_171 (mE d) (mJ (d + 1) 81) x1 x2 x4 s)
set_option maxRecDepth 100000 in
theorem me_switchOf (d : Nat) (x1 : Int32) (s : mm_S) : type_of% ((mE_eq d 82 [vr_ (some 0), vi_ x1] s rfl).trans (mb_switchOf (mE d) (mJ (d + 1) 82) x1 s)) := (mE_eq d 82 [vr_ (some 0), vi_ x1] s rfl).trans (mb_switchOf (mE d) (mJ (d + 1) 82) x1 s)
set_option maxRecDepth 100000 in
theorem mj_switchOf_47 (d : Nat) (x1 x2 x3 x4 : Int32) (s : mm_S) : type_of% ((mJ_eq (m := 82) (pc := 47) rfl d [vr_ (some 0), vi_ x1, vi_ x2, vi_ x3, vi_ x4] [] s).trans (mb_switchOf_47 (mE d) (mJ (d + 1) 82) x1 x2 x3 x4 s)) := (mJ_eq (m := 82) (pc := 47) rfl d [vr_ (some 0), vi_ x1, vi_ x2, vi_ x3, vi_ x4] [] s).trans (mb_switchOf_47 (mE d) (mJ (d + 1) 82) x1 x2 x3 x4 s)
set_option maxRecDepth 100000 in
theorem mj_switchOf_61 (d : Nat) (x1 x2 x3 x4 x5 : Int32) (s : mm_S) : type_of% ((mJ_eq (m := 82) (pc := 61) rfl d [vr_ (some 0), vi_ x1, vi_ x2, vi_ x3, vi_ x4, vi_ x5] [] s).trans (mb_switchOf_61 (mE d) (mJ (d + 1) 82) x1 x2 x3 x4 x5 s)) := (mJ_eq (m := 82) (pc := 61) rfl d [vr_ (some 0), vi_ x1, vi_ x2, vi_ x3, vi_ x4, vi_ x5] [] s).trans (mb_switchOf_61 (mE d) (mJ (d + 1) 82) x1 x2 x3 x4 x5 s)
set_option maxRecDepth 100000 in
theorem mj_switchOf_101 (d : Nat) (x1 x2 x3 x4 x5 : Int32) (s : mm_S) : type_of% ((mJ_eq (m := 82) (pc := 101) rfl d [vr_ (some 0), vi_ x1, vi_ x2, vi_ x3, vi_ x4, vi_ x5] [] s).trans (mb_switchOf_101 (mE d) (mJ (d + 1) 82) x1 x2 x3 x4 x5 s)) := (mJ_eq (m := 82) (pc := 101) rfl d [vr_ (some 0), vi_ x1, vi_ x2, vi_ x3, vi_ x4, vi_ x5] [] s).trans (mb_switchOf_101 (mE d) (mJ (d + 1) 82) x1 x2 x3 x4 x5 s)
set_option maxRecDepth 100000 in
theorem mj_switchOf_160 (d : Nat) (x1 x2 x3 x4 x5 x6 y1 y2 : Int32) (s : mm_S) : type_of% ((mJ_eq (m := 82) (pc := 160) rfl d [vr_ (some 0), vi_ x1, vi_ x2, vi_ x3, vi_ x4, vi_ x5, vi_ x6] [vi_ y2, vi_ y1, vr_ (some 30)] s).trans (mb_switchOf_160 (mE d) (mJ (d + 1) 82) x1 x2 x3 x4 x5 x6 y1 y2 s)) := (mJ_eq (m := 82) (pc := 160) rfl d [vr_ (some 0), vi_ x1, vi_ x2, vi_ x3, vi_ x4, vi_ x5, vi_ x6] [vi_ y2, vi_ y1, vr_ (some 30)] s).trans (mb_switchOf_160 (mE d) (mJ (d + 1) 82) x1 x2 x3 x4 x5 x6 y1 y2 s)
set_option maxRecDepth 100000 in
theorem me_isTwice (d : Nat) (x1 x2 : Int32) (s : mm_S) : type_of% ((mE_eq d 83 [vr_ (some 0), vi_ x1, vi_ x2] s rfl).trans (mb_isTwice (mE d) (mJ (d + 1) 83) x1 x2 s)) := (mE_eq d 83 [vr_ (some 0), vi_ x1, vi_ x2] s rfl).trans (mb_isTwice (mE d) (mJ (d + 1) 83) x1 x2 s)
set_option maxRecDepth 100000 in
theorem mj_isTwice_12 (d : Nat) (x2 x3 : Int32) (s : mm_S) : type_of% ((mJ_eq (m := 83) (pc := 12) rfl d [vr_ (some 0), vi_ x2, vi_ x3] [] s).trans (mb_isTwice_12 (mE d) (mJ (d + 1) 83) x2 x3 s)) := (mJ_eq (m := 83) (pc := 12) rfl d [vr_ (some 0), vi_ x2, vi_ x3] [] s).trans (mb_isTwice_12 (mE d) (mJ (d + 1) 83) x2 x3 s)
set_option maxRecDepth 100000 in
theorem mj_isTwice_24 (d : Nat) (x2 x3 x4 : Int32) (s : mm_S) : type_of% ((mJ_eq (m := 83) (pc := 24) rfl d [vr_ (some 0), vi_ x2, vi_ x3, vi_ x4] [] s).trans (mb_isTwice_24 (mE d) (mJ (d + 1) 83) x2 x3 x4 s)) := (mJ_eq (m := 83) (pc := 24) rfl d [vr_ (some 0), vi_ x2, vi_ x3, vi_ x4] [] s).trans (mb_isTwice_24 (mE d) (mJ (d + 1) 83) x2 x3 x4 s)
set_option maxRecDepth 100000 in
theorem me_part (d : Nat) (x1 : Int32) (s : mm_S) : type_of% ((mE_eq d 84 [vr_ (some 0), vi_ x1] s rfl).trans (mb_part (mE d) (mJ (d + 1) 84) x1 s)) := (mE_eq d 84 [vr_ (some 0), vi_ x1] s rfl).trans (mb_part (mE d) (mJ (d + 1) 84) x1 s)
set_option maxRecDepth 100000 in
theorem mj_part_7 (d : Nat) (x2 : Int32) (s : mm_S) : type_of% ((mJ_eq (m := 84) (pc := 7) rfl d [vr_ (some 0), vi_ x2] [] s).trans (mb_part_7 (mE d) (mJ (d + 1) 84) x2 s)) := (mJ_eq (m := 84) (pc := 7) rfl d [vr_ (some 0), vi_ x2] [] s).trans (mb_part_7 (mE d) (mJ (d + 1) 84) x2 s)
set_option maxRecDepth 100000 in
theorem me_commandOf (d : Nat) (x1 : Int32) (s : mm_S) : type_of% ((mE_eq d 85 [vr_ (some 0), vi_ x1] s rfl).trans (mb_commandOf (mE d) (mJ (d + 1) 85) x1 s)) := (mE_eq d 85 [vr_ (some 0), vi_ x1] s rfl).trans (mb_commandOf (mE d) (mJ (d + 1) 85) x1 s)
set_option maxRecDepth 100000 in
theorem mj_commandOf_32 (d : Nat) (x1 x4 x5 x6 : Int32) (s : mm_S) : type_of% ((mJ_eq (m := 85) (pc := 32) rfl d [vr_ (some 0), vi_ x1, vi_ x4, vi_ x5, vi_ x6] [] s).trans (mb_commandOf_32 (mE d) (mJ (d + 1) 85) x1 x4 x5 x6 s)) := (mJ_eq (m := 85) (pc := 32) rfl d [vr_ (some 0), vi_ x1, vi_ x4, vi_ x5, vi_ x6] [] s).trans (mb_commandOf_32 (mE d) (mJ (d + 1) 85) x1 x4 x5 x6 s)
set_option maxRecDepth 100000 in
theorem mj_commandOf_112 (d : Nat) (x3 : Int32) (s : mm_S) : type_of% ((mJ_eq (m := 85) (pc := 112) rfl d [vr_ (some 0), vi_ x3] [] s).trans (mb_commandOf_112 (mE d) (mJ (d + 1) 85) x3 s)) := (mJ_eq (m := 85) (pc := 112) rfl d [vr_ (some 0), vi_ x3] [] s).trans (mb_commandOf_112 (mE d) (mJ (d + 1) 85) x3 s)
set_option maxRecDepth 100000 in
theorem mj_commandOf_191 (d : Nat) (x3 : Int32) (s : mm_S) : type_of% ((mJ_eq (m := 85) (pc := 191) rfl d [vr_ (some 0), vi_ x3] [] s).trans (mb_commandOf_191 (mE d) (mJ (d + 1) 85) x3 s)) := (mJ_eq (m := 85) (pc := 191) rfl d [vr_ (some 0), vi_ x3] [] s).trans (mb_commandOf_191 (mE d) (mJ (d + 1) 85) x3 s)
set_option maxRecDepth 100000 in
theorem mj_commandOf_275 (d : Nat) (x3 : Int32) (s : mm_S) : type_of% ((mJ_eq (m := 85) (pc := 275) rfl d [vr_ (some 0), vi_ x3] [] s).trans (mb_commandOf_275 (mE d) (mJ (d + 1) 85) x3 s)) := (mJ_eq (m := 85) (pc := 275) rfl d [vr_ (some 0), vi_ x3] [] s).trans (mb_commandOf_275 (mE d) (mJ (d + 1) 85) x3 s)
set_option maxRecDepth 100000 in
theorem mj_commandOf_417 (d : Nat) (x4 x5 : Int32) (s : mm_S) : type_of% ((mJ_eq (m := 85) (pc := 417) rfl d [vr_ (some 0), vi_ x4, vi_ x5] [] s).trans (mb_commandOf_417 (mE d) (mJ (d + 1) 85) x4 x5 s)) := (mJ_eq (m := 85) (pc := 417) rfl d [vr_ (some 0), vi_ x4, vi_ x5] [] s).trans (mb_commandOf_417 (mE d) (mJ (d + 1) 85) x4 x5 s)
set_option maxRecDepth 100000 in
theorem mj_commandOf_540 (d : Nat) (x1 x2 : Int32) (s : mm_S) : type_of% ((mJ_eq (m := 85) (pc := 540) rfl d [vr_ (some 0), vi_ x1, vi_ x2] [] s).trans (mb_commandOf_540 (mE d) (mJ (d + 1) 85) x1 x2 s)) := (mJ_eq (m := 85) (pc := 540) rfl d [vr_ (some 0), vi_ x1, vi_ x2] [] s).trans (mb_commandOf_540 (mE d) (mJ (d + 1) 85) x1 x2 s)
set_option maxRecDepth 100000 in
theorem mj_commandOf_553 (d : Nat) (x1 x2 : Int32) (s : mm_S) : type_of% ((mJ_eq (m := 85) (pc := 553) rfl d [vr_ (some 0), vi_ x1, vi_ x2] [] s).trans (mb_commandOf_553 (mE d) (mJ (d + 1) 85) x1 x2 s)) := (mJ_eq (m := 85) (pc := 553) rfl d [vr_ (some 0), vi_ x1, vi_ x2] [] s).trans (mb_commandOf_553 (mE d) (mJ (d + 1) 85) x1 x2 s)
set_option maxRecDepth 100000 in
theorem me_goesTo (d : Nat) (x1 : Int32) (s : mm_S) : type_of% ((mE_eq d 86 [vr_ (some 0), vi_ x1] s rfl).trans (mb_goesTo (mE d) (mJ (d + 1) 86) x1 s)) := (mE_eq d 86 [vr_ (some 0), vi_ x1] s rfl).trans (mb_goesTo (mE d) (mJ (d + 1) 86) x1 s)
set_option maxRecDepth 100000 in
theorem mj_goesTo_74 (d : Nat) (x1 x2 : Int32) (s : mm_S) : type_of% ((mJ_eq (m := 86) (pc := 74) rfl d [vr_ (some 0), vi_ x1, vi_ x2] [] s).trans (mb_goesTo_74 (mE d) (mJ (d + 1) 86) x1 x2 s)) := (mJ_eq (m := 86) (pc := 74) rfl d [vr_ (some 0), vi_ x1, vi_ x2] [] s).trans (mb_goesTo_74 (mE d) (mJ (d + 1) 86) x1 x2 s)
set_option maxRecDepth 100000 in
theorem me_named (d : Nat) (x1 : Int32) (s : mm_S) : type_of% ((mE_eq d 87 [vr_ (some 0), vi_ x1] s rfl).trans (mb_named (mE d) (mJ (d + 1) 87) x1 s)) := (mE_eq d 87 [vr_ (some 0), vi_ x1] s rfl).trans (mb_named (mE d) (mJ (d + 1) 87) x1 s)
set_option maxRecDepth 100000 in
theorem mj_named_101 (d : Nat) (x1 x2 : Int32) (s : mm_S) : type_of% ((mJ_eq (m := 87) (pc := 101) rfl d [vr_ (some 0), vi_ x1, vi_ x2] [] s).trans (mb_named_101 (mE d) (mJ (d + 1) 87) x1 x2 s)) := (mJ_eq (m := 87) (pc := 101) rfl d [vr_ (some 0), vi_ x1, vi_ x2] [] s).trans (mb_named_101 (mE d) (mJ (d + 1) 87) x1 x2 s)
set_option maxRecDepth 100000 in
theorem me_placeOf (d : Nat) (x1 x2 : Int32) (s : mm_S) : type_of% ((mE_eq d 88 [vr_ (some 0), vi_ x1, vi_ x2] s rfl).trans (mb_placeOf (mE d) (mJ (d + 1) 88) x1 x2 s)) := (mE_eq d 88 [vr_ (some 0), vi_ x1, vi_ x2] s rfl).trans (mb_placeOf (mE d) (mJ (d + 1) 88) x1 x2 s)
set_option maxRecDepth 100000 in
theorem mj_placeOf_50 (d : Nat) (x1 x3 y0 : Int32) (s : mm_S) : type_of% ((mJ_eq (m := 88) (pc := 50) rfl d [vr_ (some 0), vi_ x1, vi_ x3] [vi_ y0] s).trans (mb_placeOf_50 (mE d) (mJ (d + 1) 88) x1 x3 y0 s)) := (mJ_eq (m := 88) (pc := 50) rfl d [vr_ (some 0), vi_ x1, vi_ x3] [vi_ y0] s).trans (mb_placeOf_50 (mE d) (mJ (d + 1) 88) x1 x3 y0 s)
set_option maxRecDepth 100000 in
theorem me_expressionOf (d : Nat) (x1 : Int32) (s : mm_S) : type_of% ((mE_eq d 89 [vr_ (some 0), vi_ x1] s rfl).trans (mb_expressionOf (mE d) (mJ (d + 1) 89) x1 s)) := (mE_eq d 89 [vr_ (some 0), vi_ x1] s rfl).trans (mb_expressionOf (mE d) (mJ (d + 1) 89) x1 s)
set_option maxRecDepth 100000 in
theorem mj_expressionOf_56 (d : Nat) (x3 : Int32) (s : mm_S) : type_of% ((mJ_eq (m := 89) (pc := 56) rfl d [vr_ (some 0), vi_ x3] [] s).trans (mb_expressionOf_56 (mE d) (mJ (d + 1) 89) x3 s)) := (mJ_eq (m := 89) (pc := 56) rfl d [vr_ (some 0), vi_ x3] [] s).trans (mb_expressionOf_56 (mE d) (mJ (d + 1) 89) x3 s)
set_option maxRecDepth 100000 in
theorem me_string (d : Nat) (x1 : Int32) (s : mm_S) : type_of% ((mE_eq d 90 [vr_ (some 0), vi_ x1] s rfl).trans (mb_string (mE d) (mJ (d + 1) 90) x1 s)) := (mE_eq d 90 [vr_ (some 0), vi_ x1] s rfl).trans (mb_string (mE d) (mJ (d + 1) 90) x1 s)
set_option maxRecDepth 100000 in
theorem mj_string_29 (d : Nat) (x2 x3 x4 : Int32) (s : mm_S) : type_of% ((mJ_eq (m := 90) (pc := 29) rfl d [vr_ (some 0), vi_ x2, vi_ x3, vi_ x4] [] s).trans (mb_string_29 (mE d) (mJ (d + 1) 90) x2 x3 x4 s)) := (mJ_eq (m := 90) (pc := 29) rfl d [vr_ (some 0), vi_ x2, vi_ x3, vi_ x4] [] s).trans (mb_string_29 (mE d) (mJ (d + 1) 90) x2 x3 x4 s)
set_option maxRecDepth 100000 in
theorem mj_string_41 (d : Nat) (x2 x3 x4 x5 x6 : Int32) (s : mm_S) : type_of% ((mJ_eq (m := 90) (pc := 41) rfl d [vr_ (some 0), vi_ x2, vi_ x3, vi_ x4, vi_ x5, vi_ x6] [] s).trans (mb_string_41 (mE d) (mJ (d + 1) 90) x2 x3 x4 x5 x6 s)) := (mJ_eq (m := 90) (pc := 41) rfl d [vr_ (some 0), vi_ x2, vi_ x3, vi_ x4, vi_ x5, vi_ x6] [] s).trans (mb_string_41 (mE d) (mJ (d + 1) 90) x2 x3 x4 x5 x6 s)
set_option maxRecDepth 100000 in
theorem me_todoTask (d : Nat) (x1 x2 x3 : Int32) (s : mm_S) : type_of% ((mE_eq d 92 [vr_ (some 0), vi_ x1, vi_ x2, vi_ x3] s rfl).trans (mb_todoTask (mE d) (mJ (d + 1) 92) x1 x2 x3 s)) := (mE_eq d 92 [vr_ (some 0), vi_ x1, vi_ x2, vi_ x3] s rfl).trans (mb_todoTask (mE d) (mJ (d + 1) 92) x1 x2 x3 s)
set_option maxRecDepth 100000 in
theorem me_err (d : Nat) (x1 : Int32) (s : mm_S) : type_of% ((mE_eq d 93 [vr_ (some 0), vi_ x1] s rfl).trans (mb_err (mE d) (mJ (d + 1) 93) x1 s)) := (mE_eq d 93 [vr_ (some 0), vi_ x1] s rfl).trans (mb_err (mE d) (mJ (d + 1) 93) x1 s)
set_option maxRecDepth 100000 in
theorem me_burns (d : Nat) (s : mm_S) : type_of% ((mE_eq d 94 [vr_ (some 0)] s rfl).trans (mb_burns (mE d) (mJ (d + 1) 94)  s)) := (mE_eq d 94 [vr_ (some 0)] s rfl).trans (mb_burns (mE d) (mJ (d + 1) 94)  s)
set_option maxRecDepth 100000 in
theorem me_push (d : Nat) (x1 : Int32) (s : mm_S) : type_of% ((mE_eq d 95 [vr_ (some 0), vi_ x1] s rfl).trans (mb_push (mE d) (mJ (d + 1) 95) x1 s)) := (mE_eq d 95 [vr_ (some 0), vi_ x1] s rfl).trans (mb_push (mE d) (mJ (d + 1) 95) x1 s)
set_option maxRecDepth 100000 in
theorem me_pop (d : Nat) (s : mm_S) : type_of% ((mE_eq d 96 [vr_ (some 0)] s rfl).trans (mb_pop (mE d) (mJ (d + 1) 96)  s)) := (mE_eq d 96 [vr_ (some 0)] s rfl).trans (mb_pop (mE d) (mJ (d + 1) 96)  s)
set_option maxRecDepth 100000 in
theorem me_read (d : Nat) (x1 : Int64) (s : mm_S) : type_of% ((mE_eq d 97 [vr_ (some 0), vl_ x1] s rfl).trans (mb_read (mE d) (mJ (d + 1) 97) x1 s)) := (mE_eq d 97 [vr_ (some 0), vl_ x1] s rfl).trans (mb_read (mE d) (mJ (d + 1) 97) x1 s)
set_option maxRecDepth 100000 in
theorem me_write (d : Nat) (x3 : Int32) (x1 : Int64) (s : mm_S) : type_of% ((mE_eq d 98 [vr_ (some 0), vl_ x1, vi_ x3] s rfl).trans (mb_write (mE d) (mJ (d + 1) 98) x3 x1 s)) := (mE_eq d 98 [vr_ (some 0), vl_ x1, vi_ x3] s rfl).trans (mb_write (mE d) (mJ (d + 1) 98) x3 x1 s)
set_option maxRecDepth 100000 in
theorem me_wordOf (d : Nat) (x1 : Int32) (s : mm_S) : type_of% ((mE_eq d 99 [vr_ (some 0), vi_ x1] s rfl).trans (mb_wordOf (mE d) (mJ (d + 1) 99) x1 s)) := (mE_eq d 99 [vr_ (some 0), vi_ x1] s rfl).trans (mb_wordOf (mE d) (mJ (d + 1) 99) x1 s)
set_option maxRecDepth 100000 in
theorem me_evaluate (d : Nat) (x1 : Int32) (s : mm_S) : type_of% ((mE_eq d 100 [vr_ (some 0), vi_ x1] s rfl).trans (mb_evaluate (mE d) (mJ (d + 1) 100) x1 s)) := (mE_eq d 100 [vr_ (some 0), vi_ x1] s rfl).trans (mb_evaluate (mE d) (mJ (d + 1) 100) x1 s)
set_option maxRecDepth 100000 in
theorem mj_evaluate_230 (d : Nat) (x1 x3 x4 x5 : Int32) (s : mm_S) : type_of% ((mJ_eq (m := 100) (pc := 230) rfl d [vr_ (some 0), vi_ x1, vi_ x3, vi_ x4, vi_ x5] [] s).trans (mb_evaluate_230 (mE d) (mJ (d + 1) 100) x1 x3 x4 x5 s)) := (mJ_eq (m := 100) (pc := 230) rfl d [vr_ (some 0), vi_ x1, vi_ x3, vi_ x4, vi_ x5] [] s).trans (mb_evaluate_230 (mE d) (mJ (d + 1) 100) x1 x3 x4 x5 s)
set_option maxRecDepth 100000 in
theorem mj_evaluate_327 (d : Nat) (x3 x4 : Int32) (s : mm_S) : type_of% ((mJ_eq (m := 100) (pc := 327) rfl d [vr_ (some 0), vi_ x3, vi_ x4] [] s).trans (mb_evaluate_327 (mE d) (mJ (d + 1) 100) x3 x4 s)) := (mJ_eq (m := 100) (pc := 327) rfl d [vr_ (some 0), vi_ x3, vi_ x4] [] s).trans (mb_evaluate_327 (mE d) (mJ (d + 1) 100) x3 x4 s)
set_option maxRecDepth 100000 in
theorem me_turnTodo (d : Nat) (x1 : Int32) (s : mm_S) : type_of% ((mE_eq d 101 [vr_ (some 0), vi_ x1] s rfl).trans (mb_turnTodo (mE d) (mJ (d + 1) 101) x1 s)) := (mE_eq d 101 [vr_ (some 0), vi_ x1] s rfl).trans (mb_turnTodo (mE d) (mJ (d + 1) 101) x1 s)
set_option maxRecDepth 100000 in
theorem mj_turnTodo_9 (d : Nat) (x2 x3 : Int32) (s : mm_S) : type_of% ((mJ_eq (m := 101) (pc := 9) rfl d [vr_ (some 0), vi_ x2, vi_ x3] [] s).trans (mb_turnTodo_9 (mE d) (mJ (d + 1) 101) x2 x3 s)) := (mJ_eq (m := 101) (pc := 9) rfl d [vr_ (some 0), vi_ x2, vi_ x3] [] s).trans (mb_turnTodo_9 (mE d) (mJ (d + 1) 101) x2 x3 s)
set_option maxRecDepth 100000 in
theorem me_address (d : Nat) (x1 : Int32) (s : mm_S) : type_of% ((mE_eq d 102 [vr_ (some 0), vi_ x1] s rfl).trans (mb_address (mE d) (mJ (d + 1) 102) x1 s)) := (mE_eq d 102 [vr_ (some 0), vi_ x1] s rfl).trans (mb_address (mE d) (mJ (d + 1) 102) x1 s)
set_option maxRecDepth 100000 in
theorem me_bin (d : Nat) (x1 : Int32) (s : mm_S) : type_of% ((mE_eq d 103 [vr_ (some 0), vi_ x1] s rfl).trans (mb_bin (mE d) (mJ (d + 1) 103) x1 s)) := (mE_eq d 103 [vr_ (some 0), vi_ x1] s rfl).trans (mb_bin (mE d) (mJ (d + 1) 103) x1 s)
set_option maxRecDepth 100000 in
theorem me_rel (d : Nat) (x1 x2 : Int32) (s : mm_S) : type_of% ((mE_eq d 104 [vr_ (some 0), vi_ x1, vi_ x2] s rfl).trans (mb_rel (mE d) (mJ (d + 1) 104) x1 x2 s)) := (mE_eq d 104 [vr_ (some 0), vi_ x1, vi_ x2] s rfl).trans (mb_rel (mE d) (mJ (d + 1) 104) x1 x2 s)
set_option maxRecDepth 100000 in
theorem me_limit (d : Nat) (s : mm_S) : type_of% ((mE_eq d 105 [vr_ (some 0)] s rfl).trans (mb_limit (mE d) (mJ (d + 1) 105)  s)) := (mE_eq d 105 [vr_ (some 0)] s rfl).trans (mb_limit (mE d) (mJ (d + 1) 105)  s)
set_option maxRecDepth 100000 in
theorem me_enter (d : Nat) (x1 x2 x3 : Int32) (s : mm_S) : type_of% ((mE_eq d 106 [vr_ (some 0), vi_ x1, vi_ x2, vi_ x3] s rfl).trans (mb_enter (mE d) (mJ (d + 1) 106) x1 x2 x3 s)) := (mE_eq d 106 [vr_ (some 0), vi_ x1, vi_ x2, vi_ x3] s rfl).trans (mb_enter (mE d) (mJ (d + 1) 106) x1 x2 x3 s)
set_option maxRecDepth 100000 in
theorem mj_enter_72 (d : Nat) (x1 x2 x3 x4 x5 : Int32) (s : mm_S) : type_of% ((mJ_eq (m := 106) (pc := 72) rfl d [vr_ (some 0), vi_ x1, vi_ x2, vi_ x3, vi_ x4, vi_ x5] [] s).trans (mb_enter_72 (mE d) (mJ (d + 1) 106) x1 x2 x3 x4 x5 s)) := (mJ_eq (m := 106) (pc := 72) rfl d [vr_ (some 0), vi_ x1, vi_ x2, vi_ x3, vi_ x4, vi_ x5] [] s).trans (mb_enter_72 (mE d) (mJ (d + 1) 106) x1 x2 x3 x4 x5 s)
set_option maxRecDepth 100000 in
theorem mj_enter_212 (d : Nat) (x5 x6 y1 y2 : Int32) (s : mm_S) : type_of% ((mJ_eq (m := 106) (pc := 212) rfl d [vr_ (some 0), vi_ x5, vi_ x6] [vi_ y2, vi_ y1, vr_ (some 0)] s).trans (mb_enter_212 (mE d) (mJ (d + 1) 106) x5 x6 y1 y2 s)) := (mJ_eq (m := 106) (pc := 212) rfl d [vr_ (some 0), vi_ x5, vi_ x6] [vi_ y2, vi_ y1, vr_ (some 0)] s).trans (mb_enter_212 (mE d) (mJ (d + 1) 106) x5 x6 y1 y2 s)
set_option maxRecDepth 100000 in
theorem me_call (d : Nat) (x1 x2 : Int32) (s : mm_S) : type_of% ((mE_eq d 107 [vr_ (some 0), vi_ x1, vi_ x2] s rfl).trans (mb_call (mE d) (mJ (d + 1) 107) x1 x2 s)) := (mE_eq d 107 [vr_ (some 0), vi_ x1, vi_ x2] s rfl).trans (mb_call (mE d) (mJ (d + 1) 107) x1 x2 s)
set_option maxRecDepth 100000 in
theorem mj_call_47 (d : Nat) (x2 x3 x4 : Int32) (s : mm_S) : type_of% ((mJ_eq (m := 107) (pc := 47) rfl d [vr_ (some 0), vi_ x2, vi_ x3, vi_ x4] [] s).trans (mb_call_47 (mE d) (mJ (d + 1) 107) x2 x3 x4 s)) := (mJ_eq (m := 107) (pc := 47) rfl d [vr_ (some 0), vi_ x2, vi_ x3, vi_ x4] [] s).trans (mb_call_47 (mE d) (mJ (d + 1) 107) x2 x3 x4 s)
set_option maxRecDepth 100000 in
theorem me_arg (d : Nat) (x1 x2 : Int32) (s : mm_S) : type_of% ((mE_eq d 108 [vr_ (some 0), vi_ x1, vi_ x2] s rfl).trans (mb_arg (mE d) (mJ (d + 1) 108) x1 x2 s)) := (mE_eq d 108 [vr_ (some 0), vi_ x1, vi_ x2] s rfl).trans (mb_arg (mE d) (mJ (d + 1) 108) x1 x2 s)
set_option maxRecDepth 100000 in
theorem me_outByte (d : Nat) (x1 : Int32) (s : mm_S) : type_of% ((mE_eq d 109 [vr_ (some 0), vi_ x1] s rfl).trans (mb_outByte (mE d) (mJ (d + 1) 109) x1 s)) := (mE_eq d 109 [vr_ (some 0), vi_ x1] s rfl).trans (mb_outByte (mE d) (mJ (d + 1) 109) x1 s)
set_option maxRecDepth 100000 in
theorem me_decimal (d : Nat) (x1 x2 : Int32) (s : mm_S) : type_of% ((mE_eq d 110 [vr_ (some 0), vi_ x1, vi_ x2] s rfl).trans (mb_decimal (mE d) (mJ (d + 1) 110) x1 x2 s)) := (mE_eq d 110 [vr_ (some 0), vi_ x1, vi_ x2] s rfl).trans (mb_decimal (mE d) (mJ (d + 1) 110) x1 x2 s)
set_option maxRecDepth 100000 in
theorem mj_decimal_35 (d : Nat) (x1 x2 x5 x6 : Int32) (x3 : Int64) (s : mm_S) : type_of% ((mJ_eq (m := 110) (pc := 35) rfl d [vr_ (some 0), vi_ x1, vi_ x2, vl_ x3, vi_ x5, vi_ x6] [] s).trans (mb_decimal_35 (mE d) (mJ (d + 1) 110) x1 x2 x5 x6 x3 s)) := (mJ_eq (m := 110) (pc := 35) rfl d [vr_ (some 0), vi_ x1, vi_ x2, vl_ x3, vi_ x5, vi_ x6] [] s).trans (mb_decimal_35 (mE d) (mJ (d + 1) 110) x1 x2 x5 x6 x3 s)
set_option maxRecDepth 100000 in
theorem mj_decimal_102 (d : Nat) (x1 x2 x5 x8 : Int32) (s : mm_S) : type_of% ((mJ_eq (m := 110) (pc := 102) rfl d [vr_ (some 0), vi_ x1, vi_ x2, vi_ x5, vi_ x8] [] s).trans (mb_decimal_102 (mE d) (mJ (d + 1) 110) x1 x2 x5 x8 s)) := (mJ_eq (m := 110) (pc := 102) rfl d [vr_ (some 0), vi_ x1, vi_ x2, vi_ x5, vi_ x8] [] s).trans (mb_decimal_102 (mE d) (mJ (d + 1) 110) x1 x2 x5 x8 s)
set_option maxRecDepth 100000 in
theorem mj_decimal_136 (d : Nat) (x8 : Int32) (s : mm_S) : type_of% ((mJ_eq (m := 110) (pc := 136) rfl d [vr_ (some 0), vi_ x8] [] s).trans (mb_decimal_136 (mE d) (mJ (d + 1) 110) x8 s)) := (mJ_eq (m := 110) (pc := 136) rfl d [vr_ (some 0), vi_ x8] [] s).trans (mb_decimal_136 (mE d) (mJ (d + 1) 110) x8 s)
set_option maxRecDepth 100000 in
theorem me_nextByte (d : Nat) (s : mm_S) : type_of% ((mE_eq d 111 [vr_ (some 0)] s rfl).trans (mb_nextByte (mE d) (mJ (d + 1) 111)  s)) := (mE_eq d 111 [vr_ (some 0)] s rfl).trans (mb_nextByte (mE d) (mJ (d + 1) 111)  s)
set_option maxRecDepth 100000 in
theorem me_peek (d : Nat) (s : mm_S) : type_of% ((mE_eq d 112 [vr_ (some 0)] s rfl).trans (mb_peek (mE d) (mJ (d + 1) 112)  s)) := (mE_eq d 112 [vr_ (some 0)] s rfl).trans (mb_peek (mE d) (mJ (d + 1) 112)  s)
set_option maxRecDepth 100000 in
theorem me_readNumber (d : Nat) (s : mm_S) : type_of% ((mE_eq d 113 [vr_ (some 0)] s rfl).trans (mb_readNumber (mE d) (mJ (d + 1) 113)  s)) := (mE_eq d 113 [vr_ (some 0)] s rfl).trans (mb_readNumber (mE d) (mJ (d + 1) 113)  s)
set_option maxRecDepth 100000 in
theorem mj_readNumber_54 (d : Nat) (x1 x2 y0 : Int32) (s : mm_S) : type_of% ((mJ_eq (m := 113) (pc := 54) rfl d [vr_ (some 0), vi_ x1, vi_ x2] [vi_ y0] s).trans (mb_readNumber_54 (mE d) (mJ (d + 1) 113) x1 x2 y0 s)) := (mJ_eq (m := 113) (pc := 54) rfl d [vr_ (some 0), vi_ x1, vi_ x2] [vi_ y0] s).trans (mb_readNumber_54 (mE d) (mJ (d + 1) 113) x1 x2 y0 s)
set_option maxRecDepth 100000 in
theorem mj_readNumber_70 (d : Nat) (x1 x3 : Int32) (s : mm_S) : type_of% ((mJ_eq (m := 113) (pc := 70) rfl d [vr_ (some 0), vi_ x1, vi_ x3] [] s).trans (mb_readNumber_70 (mE d) (mJ (d + 1) 113) x1 x3 s)) := (mJ_eq (m := 113) (pc := 70) rfl d [vr_ (some 0), vi_ x1, vi_ x3] [] s).trans (mb_readNumber_70 (mE d) (mJ (d + 1) 113) x1 x3 s)
set_option maxRecDepth 100000 in
theorem me_isBlank (d : Nat) (x0 : Int32) (s : mm_S) : type_of% ((mE_eq d 114 [vi_ x0] s rfl).trans (mb_isBlank (mE d) (mJ (d + 1) 114) x0 s)) := (mE_eq d 114 [vi_ x0] s rfl).trans (mb_isBlank (mE d) (mJ (d + 1) 114) x0 s)
set_option maxRecDepth 100000 in
theorem me_rowsOf (d : Nat) (x1 : Int32) (s : mm_S) : type_of% ((mE_eq d 115 [vr_ (some 0), vi_ x1] s rfl).trans (mb_rowsOf (mE d) (mJ (d + 1) 115) x1 s)) := (mE_eq d 115 [vr_ (some 0), vi_ x1] s rfl).trans (mb_rowsOf (mE d) (mJ (d + 1) 115) x1 s)
set_option maxRecDepth 100000 in
theorem mj_rowsOf_11 (d : Nat) (x1 x2 x3 : Int32) (s : mm_S) : type_of% ((mJ_eq (m := 115) (pc := 11) rfl d [vr_ (some 0), vi_ x1, vi_ x2, vi_ x3] [] s).trans (mb_rowsOf_11 (mE d) (mJ (d + 1) 115) x1 x2 x3 s)) := (mJ_eq (m := 115) (pc := 11) rfl d [vr_ (some 0), vi_ x1, vi_ x2, vi_ x3] [] s).trans (mb_rowsOf_11 (mE d) (mJ (d + 1) 115) x1 x2 x3 s)
set_option maxRecDepth 100000 in
theorem mj_rowsOf_54 (d : Nat) (x1 x2 x3 x4 x5 y0 : Int32) (s : mm_S) : type_of% ((mJ_eq (m := 115) (pc := 54) rfl d [vr_ (some 0), vi_ x1, vi_ x2, vi_ x3, vi_ x4, vi_ x5] [vi_ y0] s).trans (mb_rowsOf_54 (mE d) (mJ (d + 1) 115) x1 x2 x3 x4 x5 y0 s)) := (mJ_eq (m := 115) (pc := 54) rfl d [vr_ (some 0), vi_ x1, vi_ x2, vi_ x3, vi_ x4, vi_ x5] [vi_ y0] s).trans (mb_rowsOf_54 (mE d) (mJ (d + 1) 115) x1 x2 x3 x4 x5 y0 s)
set_option maxRecDepth 100000 in
theorem mj_rowsOf_78 (d : Nat) (x1 x2 x3 x4 x5 y0 : Int32) (s : mm_S) : type_of% ((mJ_eq (m := 115) (pc := 78) rfl d [vr_ (some 0), vi_ x1, vi_ x2, vi_ x3, vi_ x4, vi_ x5] [vi_ y0] s).trans (mb_rowsOf_78 (mE d) (mJ (d + 1) 115) x1 x2 x3 x4 x5 y0 s)) := (mJ_eq (m := 115) (pc := 78) rfl d [vr_ (some 0), vi_ x1, vi_ x2, vi_ x3, vi_ x4, vi_ x5] [vi_ y0] s).trans (mb_rowsOf_78 (mE d) (mJ (d + 1) 115) x1 x2 x3 x4 x5 y0 s)
set_option maxRecDepth 100000 in
theorem mj_rowsOf_117 (d : Nat) (x1 x2 x3 x4 x5 y0 : Int32) (s : mm_S) : type_of% ((mJ_eq (m := 115) (pc := 117) rfl d [vr_ (some 0), vi_ x1, vi_ x2, vi_ x3, vi_ x4, vi_ x5] [vi_ y0] s).trans (mb_rowsOf_117 (mE d) (mJ (d + 1) 115) x1 x2 x3 x4 x5 y0 s)) := (mJ_eq (m := 115) (pc := 117) rfl d [vr_ (some 0), vi_ x1, vi_ x2, vi_ x3, vi_ x4, vi_ x5] [vi_ y0] s).trans (mb_rowsOf_117 (mE d) (mJ (d + 1) 115) x1 x2 x3 x4 x5 y0 s)
set_option maxRecDepth 100000 in
theorem mj_rowsOf_159 (d : Nat) (x1 x3 x4 x5 x8 y0 : Int32) (s : mm_S) : type_of% ((mJ_eq (m := 115) (pc := 159) rfl d [vr_ (some 0), vi_ x1, vi_ x3, vi_ x4, vi_ x5, vi_ x8] [vi_ y0] s).trans (mb_rowsOf_159 (mE d) (mJ (d + 1) 115) x1 x3 x4 x5 x8 y0 s)) := (mJ_eq (m := 115) (pc := 159) rfl d [vr_ (some 0), vi_ x1, vi_ x3, vi_ x4, vi_ x5, vi_ x8] [vi_ y0] s).trans (mb_rowsOf_159 (mE d) (mJ (d + 1) 115) x1 x3 x4 x5 x8 y0 s)
set_option maxRecDepth 100000 in
theorem me_writeString (d : Nat) (x1 : Int32) (s : mm_S) : type_of% ((mE_eq d 116 [vr_ (some 0), vi_ x1] s rfl).trans (mb_writeString (mE d) (mJ (d + 1) 116) x1 s)) := (mE_eq d 116 [vr_ (some 0), vi_ x1] s rfl).trans (mb_writeString (mE d) (mJ (d + 1) 116) x1 s)
set_option maxRecDepth 100000 in
theorem mj_writeString_69 (d : Nat) (x1 x2 x3 : Int32) (s : mm_S) : type_of% ((mJ_eq (m := 116) (pc := 69) rfl d [vr_ (some 0), vi_ x1, vi_ x2, vi_ x3] [] s).trans (mb_writeString_69 (mE d) (mJ (d + 1) 116) x1 x2 x3 s)) := (mJ_eq (m := 116) (pc := 69) rfl d [vr_ (some 0), vi_ x1, vi_ x2, vi_ x3] [] s).trans (mb_writeString_69 (mE d) (mJ (d + 1) 116) x1 x2 x3 s)
set_option maxRecDepth 100000 in
theorem me_getVector (d : Nat) (x1 : Int32) (s : mm_S) : type_of% ((mE_eq d 117 [vr_ (some 0), vi_ x1] s rfl).trans (mb_getVector (mE d) (mJ (d + 1) 117) x1 s)) := (mE_eq d 117 [vr_ (some 0), vi_ x1] s rfl).trans (mb_getVector (mE d) (mJ (d + 1) 117) x1 s)
set_option maxRecDepth 100000 in
theorem mj_getVector_46 (d : Nat) (x4 x7 : Int32) (x2 x5 : Int64) (s : mm_S) : type_of% ((mJ_eq (m := 117) (pc := 46) rfl d [vr_ (some 0), vl_ x2, vi_ x4, vl_ x5, vi_ x7] [] s).trans (mb_getVector_46 (mE d) (mJ (d + 1) 117) x4 x7 x2 x5 s)) := (mJ_eq (m := 117) (pc := 46) rfl d [vr_ (some 0), vl_ x2, vi_ x4, vl_ x5, vi_ x7] [] s).trans (mb_getVector_46 (mE d) (mJ (d + 1) 117) x4 x7 x2 x5 s)
set_option maxRecDepth 100000 in
theorem me_layVector (d : Nat) (x1 x6 : Int32) (x2 x4 : Int64) (s : mm_S) : type_of% ((mE_eq d 118 [vr_ (some 0), vi_ x1, vl_ x2, vl_ x4, vi_ x6] s rfl).trans (mb_layVector (mE d) (mJ (d + 1) 118) x1 x6 x2 x4 s)) := (mE_eq d 118 [vr_ (some 0), vi_ x1, vl_ x2, vl_ x4, vi_ x6] s rfl).trans (mb_layVector (mE d) (mJ (d + 1) 118) x1 x6 x2 x4 s)
set_option maxRecDepth 100000 in
theorem mj_layVector_16 (d : Nat) (x1 x7 : Int32) (x2 x4 : Int64) (s : mm_S) : type_of% ((mJ_eq (m := 118) (pc := 16) rfl d [vr_ (some 0), vi_ x1, vl_ x2, vl_ x4, vi_ x7] [] s).trans (mb_layVector_16 (mE d) (mJ (d + 1) 118) x1 x7 x2 x4 s)) := (mJ_eq (m := 118) (pc := 16) rfl d [vr_ (some 0), vi_ x1, vl_ x2, vl_ x4, vi_ x7] [] s).trans (mb_layVector_16 (mE d) (mJ (d + 1) 118) x1 x7 x2 x4 s)
set_option maxRecDepth 100000 in
theorem me_freeVector (d : Nat) (x1 : Int32) (s : mm_S) : type_of% ((mE_eq d 119 [vr_ (some 0), vi_ x1] s rfl).trans (mb_freeVector (mE d) (mJ (d + 1) 119) x1 s)) := (mE_eq d 119 [vr_ (some 0), vi_ x1] s rfl).trans (mb_freeVector (mE d) (mJ (d + 1) 119) x1 s)
set_option maxRecDepth 100000 in
theorem mj_freeVector_7 (d : Nat) (x1 x2 : Int32) (s : mm_S) : type_of% ((mJ_eq (m := 119) (pc := 7) rfl d [vr_ (some 0), vi_ x1, vi_ x2] [] s).trans (mb_freeVector_7 (mE d) (mJ (d + 1) 119) x1 x2 s)) := (mJ_eq (m := 119) (pc := 7) rfl d [vr_ (some 0), vi_ x1, vi_ x2] [] s).trans (mb_freeVector_7 (mE d) (mJ (d + 1) 119) x1 x2 s)
set_option maxRecDepth 100000 in
theorem mj_freeVector_31 (d : Nat) (x2 : Int32) (s : mm_S) : type_of% ((mJ_eq (m := 119) (pc := 31) rfl d [vr_ (some 0), vi_ x2] [] s).trans (mb_freeVector_31 (mE d) (mJ (d + 1) 119) x2 s)) := (mJ_eq (m := 119) (pc := 31) rfl d [vr_ (some 0), vi_ x2] [] s).trans (mb_freeVector_31 (mE d) (mJ (d + 1) 119) x2 s)
set_option maxRecDepth 100000 in
theorem mj_freeVector_55 (d : Nat) (x2 : Int32) (s : mm_S) : type_of% ((mJ_eq (m := 119) (pc := 55) rfl d [vr_ (some 0), vi_ x2] [] s).trans (mb_freeVector_55 (mE d) (mJ (d + 1) 119) x2 s)) := (mJ_eq (m := 119) (pc := 55) rfl d [vr_ (some 0), vi_ x2] [] s).trans (mb_freeVector_55 (mE d) (mJ (d + 1) 119) x2 s)
set_option maxRecDepth 100000 in
theorem me_toVector (d : Nat) (x1 x2 x3 : Int32) (s : mm_S) : type_of% ((mE_eq d 120 [vr_ (some 0), vi_ x1, vi_ x2, vi_ x3] s rfl).trans (mb_toVector (mE d) (mJ (d + 1) 120) x1 x2 x3 s)) := (mE_eq d 120 [vr_ (some 0), vi_ x1, vi_ x2, vi_ x3] s rfl).trans (mb_toVector (mE d) (mJ (d + 1) 120) x1 x2 x3 s)
set_option maxRecDepth 100000 in
theorem mj_toVector_19 (d : Nat) (x1 x2 x3 y0 : Int32) (s : mm_S) : type_of% ((mJ_eq (m := 120) (pc := 19) rfl d [vr_ (some 0), vi_ x1, vi_ x2, vi_ x3] [vi_ y0] s).trans (mb_toVector_19 (mE d) (mJ (d + 1) 120) x1 x2 x3 y0 s)) := (mJ_eq (m := 120) (pc := 19) rfl d [vr_ (some 0), vi_ x1, vi_ x2, vi_ x3] [vi_ y0] s).trans (mb_toVector_19 (mE d) (mJ (d + 1) 120) x1 x2 x3 y0 s)
set_option maxRecDepth 100000 in
theorem mj_toVector_51 (d : Nat) (x1 x2 x3 x4 : Int32) (s : mm_S) : type_of% ((mJ_eq (m := 120) (pc := 51) rfl d [vr_ (some 0), vi_ x1, vi_ x2, vi_ x3, vi_ x4] [] s).trans (mb_toVector_51 (mE d) (mJ (d + 1) 120) x1 x2 x3 x4 s)) := (mJ_eq (m := 120) (pc := 51) rfl d [vr_ (some 0), vi_ x1, vi_ x2, vi_ x3, vi_ x4] [] s).trans (mb_toVector_51 (mE d) (mJ (d + 1) 120) x1 x2 x3 x4 s)
set_option maxRecDepth 100000 in
theorem me_libraryCall (d : Nat) (x1 x2 x3 : Int32) (s : mm_S) : type_of% ((mE_eq d 121 [vr_ (some 0), vi_ x1, vi_ x2, vi_ x3] s rfl).trans (mb_libraryCall (mE d) (mJ (d + 1) 121) x1 x2 x3 s)) := (mE_eq d 121 [vr_ (some 0), vi_ x1, vi_ x2, vi_ x3] s rfl).trans (mb_libraryCall (mE d) (mJ (d + 1) 121) x1 x2 x3 s)
set_option maxRecDepth 100000 in
theorem mj_libraryCall_134 (d : Nat) (x7 x10 x12 : Int32) (s : mm_S) : type_of% ((mJ_eq (m := 121) (pc := 134) rfl d [vr_ (some 0), vi_ x7, vi_ x10, vi_ x12] [] s).trans (mb_libraryCall_134 (mE d) (mJ (d + 1) 121) x7 x10 x12 s)) := (mJ_eq (m := 121) (pc := 134) rfl d [vr_ (some 0), vi_ x7, vi_ x10, vi_ x12] [] s).trans (mb_libraryCall_134 (mE d) (mJ (d + 1) 121) x7 x10 x12 s)
set_option maxRecDepth 100000 in
theorem me_perform (d : Nat) (x1 : Int32) (s : mm_S) : type_of% ((mE_eq d 122 [vr_ (some 0), vi_ x1] s rfl).trans (mb_perform (mE d) (mJ (d + 1) 122) x1 s)) := (mE_eq d 122 [vr_ (some 0), vi_ x1] s rfl).trans (mb_perform (mE d) (mJ (d + 1) 122) x1 s)
set_option maxRecDepth 100000 in
theorem mj_perform_253 (d : Nat) (s : mm_S) : type_of% ((mJ_eq (m := 122) (pc := 253) rfl d [vr_ (some 0)] [] s).trans (mb_perform_253 (mE d) (mJ (d + 1) 122)  s)) := (mJ_eq (m := 122) (pc := 253) rfl d [vr_ (some 0)] [] s).trans (mb_perform_253 (mE d) (mJ (d + 1) 122)  s)
set_option maxRecDepth 100000 in
theorem mj_perform_301 (d : Nat) (s : mm_S) : type_of% ((mJ_eq (m := 122) (pc := 301) rfl d [vr_ (some 0)] [] s).trans (mb_perform_301 (mE d) (mJ (d + 1) 122)  s)) := (mJ_eq (m := 122) (pc := 301) rfl d [vr_ (some 0)] [] s).trans (mb_perform_301 (mE d) (mJ (d + 1) 122)  s)
set_option maxRecDepth 100000 in
theorem mj_perform_336 (d : Nat) (s : mm_S) : type_of% ((mJ_eq (m := 122) (pc := 336) rfl d [vr_ (some 0)] [] s).trans (mb_perform_336 (mE d) (mJ (d + 1) 122)  s)) := (mJ_eq (m := 122) (pc := 336) rfl d [vr_ (some 0)] [] s).trans (mb_perform_336 (mE d) (mJ (d + 1) 122)  s)
set_option maxRecDepth 100000 in
theorem mj_perform_405 (d : Nat) (s : mm_S) : type_of% ((mJ_eq (m := 122) (pc := 405) rfl d [vr_ (some 0)] [] s).trans (mb_perform_405 (mE d) (mJ (d + 1) 122)  s)) := (mJ_eq (m := 122) (pc := 405) rfl d [vr_ (some 0)] [] s).trans (mb_perform_405 (mE d) (mJ (d + 1) 122)  s)
set_option maxRecDepth 100000 in
theorem mj_perform_472 (d : Nat) (x4 : Int32) (s : mm_S) : type_of% ((mJ_eq (m := 122) (pc := 472) rfl d [vr_ (some 0), vi_ x4] [] s).trans (mb_perform_472 (mE d) (mJ (d + 1) 122) x4 s)) := (mJ_eq (m := 122) (pc := 472) rfl d [vr_ (some 0), vi_ x4] [] s).trans (mb_perform_472 (mE d) (mJ (d + 1) 122) x4 s)
set_option maxRecDepth 100000 in
theorem me_assign (d : Nat) (x1 x2 : Int32) (s : mm_S) : type_of% ((mE_eq d 123 [vr_ (some 0), vi_ x1, vi_ x2] s rfl).trans (mb_assign (mE d) (mJ (d + 1) 123) x1 x2 s)) := (mE_eq d 123 [vr_ (some 0), vi_ x1, vi_ x2] s rfl).trans (mb_assign (mE d) (mJ (d + 1) 123) x1 x2 s)
set_option maxRecDepth 100000 in
theorem me_stores (d : Nat) (x1 : Int32) (s : mm_S) : type_of% ((mE_eq d 124 [vr_ (some 0), vi_ x1] s rfl).trans (mb_stores (mE d) (mJ (d + 1) 124) x1 s)) := (mE_eq d 124 [vr_ (some 0), vi_ x1] s rfl).trans (mb_stores (mE d) (mJ (d + 1) 124) x1 s)
set_option maxRecDepth 100000 in
theorem me_loop (d : Nat) (x1 x2 : Int32) (s : mm_S) : type_of% ((mE_eq d 125 [vr_ (some 0), vi_ x1, vi_ x2] s rfl).trans (mb_loop (mE d) (mJ (d + 1) 125) x1 x2 s)) := (mE_eq d 125 [vr_ (some 0), vi_ x1, vi_ x2] s rfl).trans (mb_loop (mE d) (mJ (d + 1) 125) x1 x2 s)
set_option maxRecDepth 100000 in
theorem mj_loop_45 (d : Nat) (x1 x4 : Int32) (s : mm_S) : type_of% ((mJ_eq (m := 125) (pc := 45) rfl d [vr_ (some 0), vi_ x1, vi_ x4] [] s).trans (mb_loop_45 (mE d) (mJ (d + 1) 125) x1 x4 s)) := (mJ_eq (m := 125) (pc := 45) rfl d [vr_ (some 0), vi_ x1, vi_ x4] [] s).trans (mb_loop_45 (mE d) (mJ (d + 1) 125) x1 x4 s)
set_option maxRecDepth 100000 in
theorem mj_loop_169 (d : Nat) (x1 : Int32) (s : mm_S) : type_of% ((mJ_eq (m := 125) (pc := 169) rfl d [vr_ (some 0), vi_ x1] [] s).trans (mb_loop_169 (mE d) (mJ (d + 1) 125) x1 s)) := (mJ_eq (m := 125) (pc := 169) rfl d [vr_ (some 0), vi_ x1] [] s).trans (mb_loop_169 (mE d) (mJ (d + 1) 125) x1 s)
set_option maxRecDepth 100000 in
theorem me_isStep (d : Nat) (x1 x2 x3 : Int32) (s : mm_S) : type_of% ((mE_eq d 126 [vr_ (some 0), vi_ x1, vi_ x2, vi_ x3] s rfl).trans (mb_isStep (mE d) (mJ (d + 1) 126) x1 x2 x3 s)) := (mE_eq d 126 [vr_ (some 0), vi_ x1, vi_ x2, vi_ x3] s rfl).trans (mb_isStep (mE d) (mJ (d + 1) 126) x1 x2 x3 s)
set_option maxRecDepth 100000 in
theorem me_asked (d : Nat) (x1 : Int32) (s : mm_S) : type_of% ((mE_eq d 127 [vr_ (some 0), vi_ x1] s rfl).trans (mb_asked (mE d) (mJ (d + 1) 127) x1 s)) := (mE_eq d 127 [vr_ (some 0), vi_ x1] s rfl).trans (mb_asked (mE d) (mJ (d + 1) 127) x1 s)
set_option maxRecDepth 100000 in
theorem mj_asked_12 (d : Nat) (x1 y0 : Int32) (s : mm_S) : type_of% ((mJ_eq (m := 127) (pc := 12) rfl d [vr_ (some 0), vi_ x1] [vi_ y0] s).trans (mb_asked_12 (mE d) (mJ (d + 1) 127) x1 y0 s)) := (mJ_eq (m := 127) (pc := 12) rfl d [vr_ (some 0), vi_ x1] [vi_ y0] s).trans (mb_asked_12 (mE d) (mJ (d + 1) 127) x1 y0 s)
set_option maxRecDepth 100000 in
theorem mj_asked_44 (d : Nat) (x1 y0 y1 : Int32) (s : mm_S) : type_of% ((mJ_eq (m := 127) (pc := 44) rfl d [vr_ (some 0), vi_ x1] [vi_ y1, vi_ y0] s).trans (mb_asked_44 (mE d) (mJ (d + 1) 127) x1 y0 y1 s)) := (mJ_eq (m := 127) (pc := 44) rfl d [vr_ (some 0), vi_ x1] [vi_ y1, vi_ y0] s).trans (mb_asked_44 (mE d) (mJ (d + 1) 127) x1 y0 y1 s)
set_option maxRecDepth 100000 in
theorem mj_asked_91 (d : Nat) (x1 y0 y1 : Int32) (s : mm_S) : type_of% ((mJ_eq (m := 127) (pc := 91) rfl d [vr_ (some 0), vi_ x1] [vi_ y1, vi_ y0] s).trans (mb_asked_91 (mE d) (mJ (d + 1) 127) x1 y0 y1 s)) := (mJ_eq (m := 127) (pc := 91) rfl d [vr_ (some 0), vi_ x1] [vi_ y1, vi_ y0] s).trans (mb_asked_91 (mE d) (mJ (d + 1) 127) x1 y0 y1 s)
set_option maxRecDepth 100000 in
theorem me_section (d : Nat) (x1 x2 : Int32) (s : mm_S) : type_of% ((mE_eq d 128 [vr_ (some 0), vi_ x1, vi_ x2] s rfl).trans (mb_section (mE d) (mJ (d + 1) 128) x1 x2 s)) := (mE_eq d 128 [vr_ (some 0), vi_ x1, vi_ x2] s rfl).trans (mb_section (mE d) (mJ (d + 1) 128) x1 x2 s)
set_option maxRecDepth 100000 in
theorem mj_section_36 (d : Nat) (x3 : Int32) (s : mm_S) : type_of% ((mJ_eq (m := 128) (pc := 36) rfl d [vr_ (some 0), vi_ x3] [] s).trans (mb_section_36 (mE d) (mJ (d + 1) 128) x3 s)) := (mJ_eq (m := 128) (pc := 36) rfl d [vr_ (some 0), vi_ x3] [] s).trans (mb_section_36 (mE d) (mJ (d + 1) 128) x3 s)
set_option maxRecDepth 100000 in
theorem mj_section_128 (d : Nat) (x4 x5 : Int32) (s : mm_S) : type_of% ((mJ_eq (m := 128) (pc := 128) rfl d [vr_ (some 0), vi_ x4, vi_ x5] [] s).trans (mb_section_128 (mE d) (mJ (d + 1) 128) x4 x5 s)) := (mJ_eq (m := 128) (pc := 128) rfl d [vr_ (some 0), vi_ x4, vi_ x5] [] s).trans (mb_section_128 (mE d) (mJ (d + 1) 128) x4 x5 s)
set_option maxRecDepth 100000 in
theorem me_variables (d : Nat) (x1 : Int32) (s : mm_S) : type_of% ((mE_eq d 129 [vr_ (some 0), vi_ x1] s rfl).trans (mb_variables (mE d) (mJ (d + 1) 129) x1 s)) := (mE_eq d 129 [vr_ (some 0), vi_ x1] s rfl).trans (mb_variables (mE d) (mJ (d + 1) 129) x1 s)
set_option maxRecDepth 100000 in
theorem mj_variables_12 (d : Nat) (x1 x2 x3 x4 : Int32) (s : mm_S) : type_of% ((mJ_eq (m := 129) (pc := 12) rfl d [vr_ (some 0), vi_ x1, vi_ x2, vi_ x3, vi_ x4] [] s).trans (mb_variables_12 (mE d) (mJ (d + 1) 129) x1 x2 x3 x4 s)) := (mJ_eq (m := 129) (pc := 12) rfl d [vr_ (some 0), vi_ x1, vi_ x2, vi_ x3, vi_ x4] [] s).trans (mb_variables_12 (mE d) (mJ (d + 1) 129) x1 x2 x3 x4 s)
set_option maxRecDepth 100000 in
theorem mj_variables_91 (d : Nat) (x3 x4 x5 x6 : Int32) (s : mm_S) : type_of% ((mJ_eq (m := 129) (pc := 91) rfl d [vr_ (some 0), vi_ x3, vi_ x4, vi_ x5, vi_ x6] [] s).trans (mb_variables_91 (mE d) (mJ (d + 1) 129) x3 x4 x5 x6 s)) := (mJ_eq (m := 129) (pc := 91) rfl d [vr_ (some 0), vi_ x3, vi_ x4, vi_ x5, vi_ x6] [] s).trans (mb_variables_91 (mE d) (mJ (d + 1) 129) x3 x4 x5 x6 s)
set_option maxRecDepth 100000 in
theorem me_choose (d : Nat) (x1 : Int32) (s : mm_S) : type_of% ((mE_eq d 130 [vr_ (some 0), vi_ x1] s rfl).trans (mb_choose (mE d) (mJ (d + 1) 130) x1 s)) := (mE_eq d 130 [vr_ (some 0), vi_ x1] s rfl).trans (mb_choose (mE d) (mJ (d + 1) 130) x1 s)
set_option maxRecDepth 100000 in
theorem mj_choose_23 (d : Nat) (x1 x2 x3 x4 x5 : Int32) (s : mm_S) : type_of% ((mJ_eq (m := 130) (pc := 23) rfl d [vr_ (some 0), vi_ x1, vi_ x2, vi_ x3, vi_ x4, vi_ x5] [] s).trans (mb_choose_23 (mE d) (mJ (d + 1) 130) x1 x2 x3 x4 x5 s)) := (mJ_eq (m := 130) (pc := 23) rfl d [vr_ (some 0), vi_ x1, vi_ x2, vi_ x3, vi_ x4, vi_ x5] [] s).trans (mb_choose_23 (mE d) (mJ (d + 1) 130) x1 x2 x3 x4 x5 s)
set_option maxRecDepth 100000 in
theorem mj_choose_37 (d : Nat) (x1 x2 x3 x4 x5 x6 : Int32) (s : mm_S) : type_of% ((mJ_eq (m := 130) (pc := 37) rfl d [vr_ (some 0), vi_ x1, vi_ x2, vi_ x3, vi_ x4, vi_ x5, vi_ x6] [] s).trans (mb_choose_37 (mE d) (mJ (d + 1) 130) x1 x2 x3 x4 x5 x6 s)) := (mJ_eq (m := 130) (pc := 37) rfl d [vr_ (some 0), vi_ x1, vi_ x2, vi_ x3, vi_ x4, vi_ x5, vi_ x6] [] s).trans (mb_choose_37 (mE d) (mJ (d + 1) 130) x1 x2 x3 x4 x5 x6 s)
set_option maxRecDepth 100000 in
theorem mj_choose_72 (d : Nat) (x1 x2 x3 x4 x5 x6 : Int32) (s : mm_S) : type_of% ((mJ_eq (m := 130) (pc := 72) rfl d [vr_ (some 0), vi_ x1, vi_ x2, vi_ x3, vi_ x4, vi_ x5, vi_ x6] [] s).trans (mb_choose_72 (mE d) (mJ (d + 1) 130) x1 x2 x3 x4 x5 x6 s)) := (mJ_eq (m := 130) (pc := 72) rfl d [vr_ (some 0), vi_ x1, vi_ x2, vi_ x3, vi_ x4, vi_ x5, vi_ x6] [] s).trans (mb_choose_72 (mE d) (mJ (d + 1) 130) x1 x2 x3 x4 x5 x6 s)
set_option maxRecDepth 100000 in
theorem me_doNext (d : Nat) (s : mm_S) : type_of% ((mE_eq d 131 [vr_ (some 0)] s rfl).trans (mb_doNext (mE d) (mJ (d + 1) 131)  s)) := (mE_eq d 131 [vr_ (some 0)] s rfl).trans (mb_doNext (mE d) (mJ (d + 1) 131)  s)
set_option maxRecDepth 100000 in
theorem mj_doNext_299 (d : Nat) (x2 y0 : Int32) (s : mm_S) : type_of% ((mJ_eq (m := 131) (pc := 299) rfl d [vr_ (some 0), vi_ x2] [vi_ y0] s).trans (mb_doNext_299 (mE d) (mJ (d + 1) 131) x2 y0 s)) := (mJ_eq (m := 131) (pc := 299) rfl d [vr_ (some 0), vi_ x2] [vi_ y0] s).trans (mb_doNext_299 (mE d) (mJ (d + 1) 131) x2 y0 s)
set_option maxRecDepth 100000 in
theorem mj_doNext_557 (d : Nat) (x4 : Int32) (s : mm_S) : type_of% ((mJ_eq (m := 131) (pc := 557) rfl d [vr_ (some 0), vi_ x4] [] s).trans (mb_doNext_557 (mE d) (mJ (d + 1) 131) x4 s)) := (mJ_eq (m := 131) (pc := 557) rfl d [vr_ (some 0), vi_ x4] [] s).trans (mb_doNext_557 (mE d) (mJ (d + 1) 131) x4 s)
set_option maxRecDepth 100000 in
theorem me_returns (d : Nat) (x1 x2 : Int32) (s : mm_S) : type_of% ((mE_eq d 132 [vr_ (some 0), vi_ x1, vi_ x2] s rfl).trans (mb_returns (mE d) (mJ (d + 1) 132) x1 x2 s)) := (mE_eq d 132 [vr_ (some 0), vi_ x1, vi_ x2] s rfl).trans (mb_returns (mE d) (mJ (d + 1) 132) x1 x2 s)
set_option maxRecDepth 100000 in
theorem mj_returns_13 (d : Nat) (x2 y0 : Int32) (s : mm_S) : type_of% ((mJ_eq (m := 132) (pc := 13) rfl d [vr_ (some 0), vi_ x2] [vi_ y0] s).trans (mb_returns_13 (mE d) (mJ (d + 1) 132) x2 y0 s)) := (mJ_eq (m := 132) (pc := 13) rfl d [vr_ (some 0), vi_ x2] [vi_ y0] s).trans (mb_returns_13 (mE d) (mJ (d + 1) 132) x2 y0 s)
set_option maxRecDepth 100000 in
theorem me_feed (d : Nat) (x1 x2 x3 x4 x5 : Int32) (s : mm_S) : type_of% ((mE_eq d 133 [vr_ (some 0), vi_ x1, vi_ x2, vi_ x3, vi_ x4, vi_ x5] s rfl).trans (mb_feed (mE d) (mJ (d + 1) 133) x1 x2 x3 x4 x5 s)) := (mE_eq d 133 [vr_ (some 0), vi_ x1, vi_ x2, vi_ x3, vi_ x4, vi_ x5] s rfl).trans (mb_feed (mE d) (mJ (d + 1) 133) x1 x2 x3 x4 x5 s)
set_option maxRecDepth 100000 in
theorem mj_feed_23 (d : Nat) (x1 x2 x3 x4 x5 x6 : Int32) (s : mm_S) : type_of% ((mJ_eq (m := 133) (pc := 23) rfl d [vr_ (some 0), vi_ x1, vi_ x2, vi_ x3, vi_ x4, vi_ x5, vi_ x6] [] s).trans (mb_feed_23 (mE d) (mJ (d + 1) 133) x1 x2 x3 x4 x5 x6 s)) := (mJ_eq (m := 133) (pc := 23) rfl d [vr_ (some 0), vi_ x1, vi_ x2, vi_ x3, vi_ x4, vi_ x5, vi_ x6] [] s).trans (mb_feed_23 (mE d) (mJ (d + 1) 133) x1 x2 x3 x4 x5 x6 s)
set_option maxRecDepth 100000 in
theorem mj_feed_52 (d : Nat) (x1 x2 x3 x4 x5 x6 x7 : Int32) (s : mm_S) : type_of% ((mJ_eq (m := 133) (pc := 52) rfl d [vr_ (some 0), vi_ x1, vi_ x2, vi_ x3, vi_ x4, vi_ x5, vi_ x6, vi_ x7] [] s).trans (mb_feed_52 (mE d) (mJ (d + 1) 133) x1 x2 x3 x4 x5 x6 x7 s)) := (mJ_eq (m := 133) (pc := 52) rfl d [vr_ (some 0), vi_ x1, vi_ x2, vi_ x3, vi_ x4, vi_ x5, vi_ x6, vi_ x7] [] s).trans (mb_feed_52 (mE d) (mJ (d + 1) 133) x1 x2 x3 x4 x5 x6 x7 s)
set_option maxRecDepth 100000 in
theorem mj_feed_74 (d : Nat) (x1 x2 x3 x4 x5 x6 x7 : Int32) (s : mm_S) : type_of% ((mJ_eq (m := 133) (pc := 74) rfl d [vr_ (some 0), vi_ x1, vi_ x2, vi_ x3, vi_ x4, vi_ x5, vi_ x6, vi_ x7] [] s).trans (mb_feed_74 (mE d) (mJ (d + 1) 133) x1 x2 x3 x4 x5 x6 x7 s)) := (mJ_eq (m := 133) (pc := 74) rfl d [vr_ (some 0), vi_ x1, vi_ x2, vi_ x3, vi_ x4, vi_ x5, vi_ x6, vi_ x7] [] s).trans (mb_feed_74 (mE d) (mJ (d + 1) 133) x1 x2 x3 x4 x5 x6 x7 s)
set_option maxRecDepth 100000 in
theorem me_end (d : Nat) (x1 : Int32) (s : mm_S) : type_of% ((mE_eq d 134 [vr_ (some 0), vi_ x1] s rfl).trans (mb_end (mE d) (mJ (d + 1) 134) x1 s)) := (mE_eq d 134 [vr_ (some 0), vi_ x1] s rfl).trans (mb_end (mE d) (mJ (d + 1) 134) x1 s)
set_option maxRecDepth 100000 in
theorem me_compile (d : Nat) (s : mm_S) : type_of% ((mE_eq d 135 [vr_ (some 0)] s rfl).trans (mb_compile (mE d) (mJ (d + 1) 135)  s)) := (mE_eq d 135 [vr_ (some 0)] s rfl).trans (mb_compile (mE d) (mJ (d + 1) 135)  s)
set_option maxRecDepth 100000 in
theorem mj_compile_20 (d : Nat) (x1 : Int32) (s : mm_S) : type_of% ((mJ_eq (m := 135) (pc := 20) rfl d [vr_ (some 0), vi_ x1] [] s).trans (mb_compile_20 (mE d) (mJ (d + 1) 135) x1 s)) := (mJ_eq (m := 135) (pc := 20) rfl d [vr_ (some 0), vi_ x1] [] s).trans (mb_compile_20 (mE d) (mJ (d + 1) 135) x1 s)
set_option maxRecDepth 100000 in
theorem mj_compile_110 (d : Nat) (x1 y1 : Int32) (s : mm_S) : type_of% ((mJ_eq (m := 135) (pc := 110) rfl d [vr_ (some 0), vi_ x1] [vi_ y1, vr_ (some 0)] s).trans (mb_compile_110 (mE d) (mJ (d + 1) 135) x1 y1 s)) := (mJ_eq (m := 135) (pc := 110) rfl d [vr_ (some 0), vi_ x1] [vi_ y1, vr_ (some 0)] s).trans (mb_compile_110 (mE d) (mJ (d + 1) 135) x1 y1 s)
set_option maxRecDepth 100000 in
theorem me_fault_2 (d : Nat) (s : mm_S) : type_of% ((mE_eq d 136 [vr_ (some 0)] s rfl).trans (mb_fault_2 (mE d) (mJ (d + 1) 136)  s)) := (mE_eq d 136 [vr_ (some 0)] s rfl).trans (mb_fault_2 (mE d) (mJ (d + 1) 136)  s)
set_option maxRecDepth 100000 in
theorem me_store (d : Nat) (x1 : Int32) (s : mm_S) : type_of% ((mE_eq d 137 [vr_ (some 0), vi_ x1] s rfl).trans (mb_store (mE d) (mJ (d + 1) 137) x1 s)) := (mE_eq d 137 [vr_ (some 0), vi_ x1] s rfl).trans (mb_store (mE d) (mJ (d + 1) 137) x1 s)
set_option maxRecDepth 100000 in
theorem me_input (d : Nat) (x1 : Int32) (s : mm_S) : type_of% ((mE_eq d 138 [vr_ (some 0), vi_ x1] s rfl).trans (mb_input (mE d) (mJ (d + 1) 138) x1 s)) := (mE_eq d 138 [vr_ (some 0), vi_ x1] s rfl).trans (mb_input (mE d) (mJ (d + 1) 138) x1 s)
set_option maxRecDepth 100000 in
theorem mj_input_28 (d : Nat) (x1 x2 x3 : Int32) (s : mm_S) : type_of% ((mJ_eq (m := 138) (pc := 28) rfl d [vr_ (some 0), vi_ x1, vi_ x2, vi_ x3] [] s).trans (mb_input_28 (mE d) (mJ (d + 1) 138) x1 x2 x3 s)) := (mJ_eq (m := 138) (pc := 28) rfl d [vr_ (some 0), vi_ x1, vi_ x2, vi_ x3] [] s).trans (mb_input_28 (mE d) (mJ (d + 1) 138) x1 x2 x3 s)
set_option maxRecDepth 100000 in
theorem me_run (d : Nat) (x1 : Int32) (s : mm_S) : type_of% ((mE_eq d 139 [vr_ (some 0), vi_ x1] s rfl).trans (mb_run (mE d) (mJ (d + 1) 139) x1 s)) := (mE_eq d 139 [vr_ (some 0), vi_ x1] s rfl).trans (mb_run (mE d) (mJ (d + 1) 139) x1 s)
set_option maxRecDepth 100000 in
theorem mj_run_27 (d : Nat) (x1 x2 : Int32) (s : mm_S) : type_of% ((mJ_eq (m := 139) (pc := 27) rfl d [vr_ (some 0), vi_ x1, vi_ x2] [] s).trans (mb_run_27 (mE d) (mJ (d + 1) 139) x1 x2 s)) := (mJ_eq (m := 139) (pc := 27) rfl d [vr_ (some 0), vi_ x1, vi_ x2] [] s).trans (mb_run_27 (mE d) (mJ (d + 1) 139) x1 x2 s)
set_option maxRecDepth 100000 in
theorem mj_run_49 (d : Nat) (x1 x2 : Int32) (s : mm_S) : type_of% ((mJ_eq (m := 139) (pc := 49) rfl d [vr_ (some 0), vi_ x1, vi_ x2] [] s).trans (mb_run_49 (mE d) (mJ (d + 1) 139) x1 x2 s)) := (mJ_eq (m := 139) (pc := 49) rfl d [vr_ (some 0), vi_ x1, vi_ x2] [] s).trans (mb_run_49 (mE d) (mJ (d + 1) 139) x1 x2 s)
set_option maxRecDepth 100000 in
theorem mj_run_172 (d : Nat) (s : mm_S) : type_of% ((mJ_eq (m := 139) (pc := 172) rfl d [vr_ (some 0)] [] s).trans (mb_run_172 (mE d) (mJ (d + 1) 139)  s)) := (mJ_eq (m := 139) (pc := 172) rfl d [vr_ (some 0)] [] s).trans (mb_run_172 (mE d) (mJ (d + 1) 139)  s)
set_option maxRecDepth 100000 in
theorem me_value (d : Nat) (s : mm_S) : type_of% ((mE_eq d 140 [vr_ (some 0)] s rfl).trans (mb_value (mE d) (mJ (d + 1) 140)  s)) := (mE_eq d 140 [vr_ (some 0)] s rfl).trans (mb_value (mE d) (mJ (d + 1) 140)  s)
set_option maxRecDepth 100000 in
theorem me_out (d : Nat) (x1 : Int32) (s : mm_S) : type_of% ((mE_eq d 141 [vr_ (some 0), vi_ x1] s rfl).trans (mb_out (mE d) (mJ (d + 1) 141) x1 s)) := (mE_eq d 141 [vr_ (some 0), vi_ x1] s rfl).trans (mb_out (mE d) (mJ (d + 1) 141) x1 s)
set_option maxRecDepth 100000 in
theorem me_outAt (d : Nat) (x1 x2 : Int32) (s : mm_S) : type_of% ((mE_eq d 142 [vr_ (some 0), vi_ x1, vi_ x2] s rfl).trans (mb_outAt (mE d) (mJ (d + 1) 142) x1 x2 s)) := (mE_eq d 142 [vr_ (some 0), vi_ x1, vi_ x2] s rfl).trans (mb_outAt (mE d) (mJ (d + 1) 142) x1 x2 s)
set_option maxRecDepth 100000 in
theorem me_word (d : Nat) (x1 : Int32) (s : mm_S) : type_of% ((mE_eq d 143 [vr_ (some 0), vi_ x1] s rfl).trans (mb_word (mE d) (mJ (d + 1) 143) x1 s)) := (mE_eq d 143 [vr_ (some 0), vi_ x1] s rfl).trans (mb_word (mE d) (mJ (d + 1) 143) x1 s)
set_option maxRecDepth 100000 in
theorem me_fuel (d : Nat) (s : mm_S) : type_of% ((mE_eq d 144 [vr_ (some 0)] s rfl).trans (mb_fuel (mE d) (mJ (d + 1) 144)  s)) := (mE_eq d 144 [vr_ (some 0)] s rfl).trans (mb_fuel (mE d) (mJ (d + 1) 144)  s)
